/-! the constructors: the House, stage by stage -/
section
variable {g : jm_G} {d : Nat} {τ : jm_S} {h a : Nat} {x : Int32} {K : jm_O → Prop}
/-- what a stage does: more cells at a, and the field k of the house -/
def ST (h k a n N : Nat) (τ τ' : jm_S) : Prop := τ'.2.2.1 = a + n ∧ τ'.2.2.2 ≤ τ.2.2.2 + N ∧ (∀ q, q < a → τ'.1 q = τ.1 q) ∧ (∀ q j, a ≤ q → q < a + n → j ≠ 7 → τ'.1 q j = 0) ∧ (∀ q, q < a → q ≠ h → τ'.2.1 q = τ.2.1 q) ∧ (∀ j, j ≠ k → τ'.2.1 h j = τ.2.1 h j) ∧ τ'.2.1 h k = a + 1
theorem ST_mk {k n N : Nat} {τ2 : jm_S} (hs : τ.2.2.1 = a) (hh : h < a) (hE : Ext τ τ2 n N) (hq : ∀ q, q < a → τ2.2.1 q = τ.2.1 q) : ST h k a n N τ (jm_wr τ2 h k (a + 1)) := by
  obtain ⟨e1, e2, e3, e4⟩ := hE
  refine ⟨by show τ2.2.2.1 = _; omega, by show τ2.2.2.2 ≤ _; omega, fun q hqa => e3 q (by omega), fun q j h1 h2 _ => e4 q j (by omega) (by omega), fun q h1 h2 => ?_, fun j hj => ?_, jm_wr_at⟩
  · rw [jm_wr_q h2]; exact hq q h1
  · rw [jm_wr_k hj, hq h hh]
theorem RM_nw {n N k : Nat} (h1 : τ.2.2.1 + (n + 1) ≤ gb g + 601024) (h2 : τ.2.2.2 + (N + k) ≤ 7293000) : RM g (jm_nw τ k) n N := ⟨by show τ.2.2.1 + 1 + n ≤ _; omega, by show τ.2.2.2 + k + N ≤ _; omega⟩
theorem ST_eng {k n N M : Nat} {τ2 : jm_S} (hs : τ.2.2.1 = a) (hh : h < a) (e1 : τ2.2.2.1 = a + n) (e2 : τ2.2.2.2 ≤ (jm_nw τ 17).2.2.2 + N) (hN : N + 17 ≤ M) (e3 : ∀ q, q < a → τ2.1 q = (jm_nw τ 17).1 q) (e4 : ∀ j, j ≠ 7 → τ2.1 a j = (jm_nw τ 17).1 a j) (e5 : ∀ q j, a < q → q < a + n → τ2.1 q j = 0) (e6 : ∀ q, q < a → τ2.2.1 q = (jm_nw τ 17).2.1 q) : ST h k a n M τ (jm_wr τ2 h k (a + 1)) := by
  rw [show (jm_nw τ 17).2.2.2 = τ.2.2.2 + 17 from rfl] at e2
  refine ⟨e1, ?_, fun q hq => ?_, fun q j h1 h2 h7 => ?_, fun q h1 h2 => ?_, fun j hj => ?_, jm_wr_at⟩
  · show τ2.2.2.2 ≤ _
    omega
  · show τ2.1 q = _
    rw [e3 q hq, nw_q (by omega)]
  · show τ2.1 q j = 0
    by_cases c : q = a
    · subst c
      rw [e4 j h7, nw_a hs.symm]
    · exact e5 q j (by omega) (by omega)
  · rw [jm_wr_q h2, e6 q h1, nw_r (by omega)]
  · rw [jm_wr_k hj, e6 h hh, nw_r (by omega)]
theorem h_st11 (hs : τ.2.2.1 = a) (hh : h < a) (t0 : gdm g a = 10) (l0 : gln g a = 40) (ht : ∀ k, k < 40 → pT g (a + 1 + 4 * k)) (hr : RM g τ (1 + 4 * 40) (40 + 304 * 40)) (nx : ∀ τ', ST h 3 a (1 + 4 * 40) (40 + 304 * 40) τ τ' → (∀ k, k < 40 → τ'.2.1 a k = a + 1 + 4 * k + 1 ∧ pl g τ' (a + 1 + 4 * k)) → J g (d + 4) 0 20 [some (aR 1 h), some (aI x)] [] τ' K) : J g (d + 4) 0 11 [some (aR 1 h), some (aI x)] [] τ K := by
  refine jm_run ok_H_init [] 90 (fun kk hk => ?_)
  conv => whnf
  refine hk _ _ _ _ (k_H_init_14 rfl (c_polys (d := d + 2) (σ := τ) (a := a) (n := 40) hs (by omega) t0 l0 ht hr) (fun u hu => ?_))
  obtain ⟨τ2, hu, hE, hq, hkk⟩ := hu
  subst hu
  show J g (d + 4) 0 17 _ _ τ2 _
  refine jm_run ok_H_init [20] 90 (fun kk hk => ?_)
  conv => whnf
  refine hk _ _ _ _ (nx _ (ST_mk hs hh hE hq) (fun k hk => ⟨?_, pl_fr (hkk k hk).2 (jm_wr_q (by omega))⟩))
  rw [jm_wr_q (by omega)]; exact (hkk k hk).1
theorem h_st20 (hs : τ.2.2.1 = a) (hh : h < a) (t0 : gdm g a = 10) (l0 : gln g a = 8) (ht : ∀ k, k < 8 → pT g (a + 1 + 4 * k)) (hr : RM g τ (1 + 4 * 8) (8 + 304 * 8)) (nx : ∀ τ', ST h 4 a (1 + 4 * 8) (8 + 304 * 8) τ τ' → (∀ k, k < 8 → τ'.2.1 a k = a + 1 + 4 * k + 1 ∧ pl g τ' (a + 1 + 4 * k)) → J g (d + 4) 0 29 [some (aR 1 h), some (aI x)] [] τ' K) : J g (d + 4) 0 20 [some (aR 1 h), some (aI x)] [] τ K := by
  refine jm_run ok_H_init [] 90 (fun kk hk => ?_)
  conv => whnf
  refine hk _ _ _ _ (k_H_init_23 rfl (c_polys (d := d + 2) (σ := τ) (a := a) (n := 8) hs (by omega) t0 l0 ht hr) (fun u hu => ?_))
  obtain ⟨τ2, hu, hE, hq, hkk⟩ := hu
  subst hu
  show J g (d + 4) 0 26 _ _ τ2 _
  refine jm_run ok_H_init [29] 90 (fun kk hk => ?_)
  conv => whnf
  refine hk _ _ _ _ (nx _ (ST_mk hs hh hE hq) (fun k hk => ⟨?_, pl_fr (hkk k hk).2 (jm_wr_q (by omega))⟩))
  rw [jm_wr_q (by omega)]; exact (hkk k hk).1
theorem h_st87 (hs : τ.2.2.1 = a) (hh : h < a) (t0 : gdm g a = 10) (l0 : gln g a = 24) (ht : ∀ k, k < 24 → pT g (a + 1 + 4 * k)) (hr : RM g τ (1 + 4 * 24) (24 + 304 * 24)) (nx : ∀ τ', ST h 13 a (1 + 4 * 24) (24 + 304 * 24) τ τ' → (∀ k, k < 24 → τ'.2.1 a k = a + 1 + 4 * k + 1 ∧ pl g τ' (a + 1 + 4 * k)) → J g (d + 4) 0 96 [some (aR 1 h), some (aI x)] [] τ' K) : J g (d + 4) 0 87 [some (aR 1 h), some (aI x)] [] τ K := by
  refine jm_run ok_H_init [] 90 (fun kk hk => ?_)
  conv => whnf
  refine hk _ _ _ _ (k_H_init_90 rfl (c_polys (d := d + 2) (σ := τ) (a := a) (n := 24) hs (by omega) t0 l0 ht hr) (fun u hu => ?_))
  obtain ⟨τ2, hu, hE, hq, hkk⟩ := hu
  subst hu
  show J g (d + 4) 0 93 _ _ τ2 _
  refine jm_run ok_H_init [96] 90 (fun kk hk => ?_)
  conv => whnf
  refine hk _ _ _ _ (nx _ (ST_mk hs hh hE hq) (fun k hk => ⟨?_, pl_fr (hkk k hk).2 (jm_wr_q (by omega))⟩))
  rw [jm_wr_q (by omega)]; exact (hkk k hk).1
theorem h_st29 (hs : τ.2.2.1 = a) (hh : h < a) (ht : gT g a 8) (hr : RM g τ (114 + (6 + 4 * 8) * 25) (10017 + (306 + 8 + 304 * 8) * 25)) (nx : ∀ τ', ST h 6 a (114 + (6 + 4 * 8) * 25) (10017 + (306 + 8 + 304 * 8) * 25) τ τ' → EL g τ' a 8 → (∀ i, i < 25 → τ'.2.1 (a + 2) i = eo a 8 i + 1) → J g (d + 4) 0 42 [some (aR 1 h), some (aI x)] [] τ' K) : J g (d + 4) 0 29 [some (aR 1 h), some (aI x)] [] τ K := by
  have heo : eo a 8 25 = a + (114 + (6 + 4 * 8) * 25) := Nat.add_assoc _ _ _
  have r1 : τ.2.2.1 + (114 + (6 + 4 * 8) * 25) ≤ gb g + 601024 := hr.1
  have r2 : τ.2.2.2 + (10017 + (306 + 8 + 304 * 8) * 25) ≤ 7293000 := hr.2
  have r3 : a + 1 ≤ gb g + 601024 := by omega
  have r4 : τ.2.2.2 + 17 ≤ 7293000 := by omega
  have r5 : RM g (jm_nw τ 17) (113 + (6 + 4 * 8) * 25) (10000 + (306 + 8 + 304 * 8) * 25) := RM_nw (by omega) (by omega)
  clear r1 r2 hr
  refine jm_run ok_H_init [] 90 (fun kk hk => ?_)
  conv => whnf
  refine jo (a := a) hs ht.1.1 r3 r4 ?_
  conv => whnf
  refine hk _ _ _ _ (k_H_init_36 rfl (c_Ginit (d := d) (σ := jm_nw τ 17) (e := a) (n := 8) (congrArg Nat.succ hs) (by decide) ht r5) (fun u hu => ?_))
  obtain ⟨τ2, hu, e1, e2, e3, e4, e5, e6, e7, e8⟩ := hu
  subst hu
  rw [heo] at e1 e5
  rw [Nat.add_assoc] at e2
  have w : ∀ q, q ≠ h → (jm_wr τ2 h 6 (a + 1)).2.1 q = τ2.2.1 q := fun q hq => jm_wr_q hq
  show J g (d + 4) 0 39 _ _ τ2 _
  refine jm_run ok_H_init [42] 90 (fun kk hk => ?_)
  conv => whnf
  refine hk _ _ _ _ (nx _ (ST_eng hs hh e1 e2 (by decide) e3 e4 e5 e6) (EL_congr (fun q h1 _ => w q (by omega)) e7) (fun i hi => ?_))
  rw [w _ (by omega)]; exact e8 i hi
theorem h_st42 (hs : τ.2.2.1 = a) (hh : h < a) (ht : gT g a 0) (hr : RM g τ (114 + (6 + 4 * 0) * 25) (10017 + (306 + 0 + 304 * 0) * 25)) (nx : ∀ τ', ST h 7 a (114 + (6 + 4 * 0) * 25) (10017 + (306 + 0 + 304 * 0) * 25) τ τ' → EL g τ' a 0 → (∀ i, i < 25 → τ'.2.1 (a + 2) i = eo a 0 i + 1) → J g (d + 4) 0 54 [some (aR 1 h), some (aI x)] [] τ' K) : J g (d + 4) 0 42 [some (aR 1 h), some (aI x)] [] τ K := by
  have heo : eo a 0 25 = a + (114 + (6 + 4 * 0) * 25) := Nat.add_assoc _ _ _
  have r1 : τ.2.2.1 + (114 + (6 + 4 * 0) * 25) ≤ gb g + 601024 := hr.1
  have r2 : τ.2.2.2 + (10017 + (306 + 0 + 304 * 0) * 25) ≤ 7293000 := hr.2
  have r3 : a + 1 ≤ gb g + 601024 := by omega
  have r4 : τ.2.2.2 + 17 ≤ 7293000 := by omega
  have r5 : RM g (jm_nw τ 17) (113 + (6 + 4 * 0) * 25) (10000 + (306 + 0 + 304 * 0) * 25) := RM_nw (by omega) (by omega)
  clear r1 r2 hr
  refine jm_run ok_H_init [] 90 (fun kk hk => ?_)
  conv => whnf
  refine jo (a := a) hs ht.1.1 r3 r4 ?_
  conv => whnf
  refine hk _ _ _ _ (k_H_init_48 rfl (c_Ginit (d := d) (σ := jm_nw τ 17) (e := a) (n := 0) (congrArg Nat.succ hs) (by decide) ht r5) (fun u hu => ?_))
  obtain ⟨τ2, hu, e1, e2, e3, e4, e5, e6, e7, e8⟩ := hu
  subst hu
  rw [heo] at e1 e5
  rw [Nat.add_assoc] at e2
  have w : ∀ q, q ≠ h → (jm_wr τ2 h 7 (a + 1)).2.1 q = τ2.2.1 q := fun q hq => jm_wr_q hq
  show J g (d + 4) 0 51 _ _ τ2 _
  refine jm_run ok_H_init [54] 90 (fun kk hk => ?_)
  conv => whnf
  refine hk _ _ _ _ (nx _ (ST_eng hs hh e1 e2 (by decide) e3 e4 e5 e6) (EL_congr (fun q h1 _ => w q (by omega)) e7) (fun i hi => ?_))
  rw [w _ (by omega)]; exact e8 i hi
theorem h_st54 (hs : τ.2.2.1 = a) (hh : h < a) (t0 : gdm g a = 4) (hr : RM g τ 1 2) (nx : ∀ τ', ST h 10 a 1 2 τ τ' → J g (d + 4) 0 65 [some (aR 1 h), some (aI x)] [] τ' K) : J g (d + 4) 0 54 [some (aR 1 h), some (aI x)] [] τ K := by
  obtain ⟨r1, r2⟩ := hr
  refine jm_run ok_H_init [] 90 (fun kk hk => ?_)
  conv => whnf
  refine jo (a := a) hs t0 (by omega) (by omega) ?_
  conv => whnf
  refine hk _ _ _ _ (k_H_init_59 rfl c_Finit (fun u hu => ?_))
  subst hu
  show J g (d + 4) 0 62 _ _ (jm_nw τ 2) _
  refine jm_run ok_H_init [65] 90 (fun kk hk => ?_)
  conv => whnf
  exact hk _ _ _ _ (nx _ (ST_mk hs hh (Ext.nw τ 2) (fun q hq => nw_r (by omega))))
theorem h_st65 (hs : τ.2.2.1 = a) (hh : h < a) (ht : pT g a) (hr : RM g τ 4 304) (nx : ∀ τ', ST h 11 a 4 304 τ τ' → pl g τ' a → J g (d + 4) 0 76 [some (aR 1 h), some (aI x)] [] τ' K) : J g (d + 4) 0 65 [some (aR 1 h), some (aI x)] [] τ K := by
  obtain ⟨r1, r2⟩ := hr
  refine jm_run ok_H_init [] 90 (fun kk hk => ?_)
  conv => whnf
  refine jo (a := a) hs ht.1 (by omega) (by omega) ?_
  conv => whnf
  refine hk _ _ _ _ (k_H_init_70 rfl (c_Pinit (σ := jm_nw τ 4) (a := a) (by show τ.2.2.1 + 1 = _; omega) ht ⟨by show τ.2.2.1 + 1 + 3 ≤ _; omega, by show τ.2.2.2 + 4 + 300 ≤ _; omega⟩) (fun u hu => ?_))
  obtain ⟨τ2, hu, hE, hq, hpl⟩ := hu
  subst hu
  show J g (d + 4) 0 73 _ _ τ2 _
  refine jm_run ok_H_init [76] 90 (fun kk hk => ?_)
  conv => whnf
  refine hk _ _ _ _ (nx _ (ST_mk hs hh (((Ext.nw τ 4).trans hE).eq rfl rfl) (fun q hqa => ?_)) (pl_fr hpl (jm_wr_q (by omega))))
  rw [hq q hqa, nw_r (by omega)]
theorem h_st76 (hs : τ.2.2.1 = a) (hh : h < a) (ht : pT g a) (hr : RM g τ 4 304) (nx : ∀ τ', ST h 12 a 4 304 τ τ' → pl g τ' a → J g (d + 4) 0 87 [some (aR 1 h), some (aI x)] [] τ' K) : J g (d + 4) 0 76 [some (aR 1 h), some (aI x)] [] τ K := by
  obtain ⟨r1, r2⟩ := hr
  refine jm_run ok_H_init [] 90 (fun kk hk => ?_)
  conv => whnf
  refine jo (a := a) hs ht.1 (by omega) (by omega) ?_
  conv => whnf
  refine hk _ _ _ _ (k_H_init_81 rfl (c_Pinit (σ := jm_nw τ 4) (a := a) (by show τ.2.2.1 + 1 = _; omega) ht ⟨by show τ.2.2.1 + 1 + 3 ≤ _; omega, by show τ.2.2.2 + 4 + 300 ≤ _; omega⟩) (fun u hu => ?_))
  obtain ⟨τ2, hu, hE, hq, hpl⟩ := hu
  subst hu
  show J g (d + 4) 0 84 _ _ τ2 _
  refine jm_run ok_H_init [87] 90 (fun kk hk => ?_)
  conv => whnf
  refine hk _ _ _ _ (nx _ (ST_mk hs hh (((Ext.nw τ 4).trans hE).eq rfl rfl) (fun q hqa => ?_)) (pl_fr hpl (jm_wr_q (by omega))))
  rw [hq q hqa, nw_r (by omega)]
theorem h_st96 (hs : τ.2.2.1 = a) (hh : h < a) (t0 : gdm g a = 8) (l0 : gln g a = 4) (hr : RM g τ 1 4) (nx : ∀ τ', ST h 14 a 1 4 τ τ' → J g (d + 4) 0 103 [some (aR 1 h), some (aI x)] [] τ' K) : J g (d + 4) 0 96 [some (aR 1 h), some (aI x)] [] τ K := by
  obtain ⟨r1, r2⟩ := hr
  refine jm_run ok_H_init [103] 90 (fun kk hk => ?_)
  conv => whnf
  refine jn (a := a) (N := 4) hs rfl (by decide) t0 l0 (by omega) (by omega) ?_
  conv => whnf
  exact hk _ _ _ _ (nx _ (ST_mk hs hh (Ext.nw τ 4) (fun q hq => nw_r (by omega))))
theorem h_st103 (hK : K (jm_wi τ h 0 (nI (clp x)), .inl none)) : J g (d + 4) 0 103 [some (aR 1 h), some (aI x)] [] τ K := by
  have e1 : (1 : Int32).toInt = 1 := rfl
  have e4 : (4 : Int32).toInt = 4 := rfl
  have lt : ∀ y z : Int32, y < z ↔ y.toInt < z.toInt := fun y z => Int32.lt_iff_toInt_lt
  have key : (if (1 : Int32) < (if x < 4 then x else 4) then (if x < 4 then x else 4) else 1) = nI (clp x) := by
    unfold clp
    by_cases c4 : x < 4
    · rw [if_pos c4]
      have c4' := (lt _ _).mp c4
      by_cases c1 : (1 : Int32) < x
      · rw [if_pos c1]
        have c1' := (lt _ _).mp c1
        have hv5 : vp_in x 5 := vp_in_iff.mpr ⟨by omega, by omega⟩
        obtain ⟨j, hj, hxj⟩ := vp_in_of (n := 5) hv5 (by decide)
        rw [hxj] at c1' c4' ⊢
        rw [nI_toInt (by omega)] at c1' c4'
        rw [nI_toInt (by omega), if_neg (by omega), if_neg (by omega), nI_clamp (by omega)]
      · rw [if_neg c1]
        have c1' : ¬ _ := fun q => c1 ((lt _ _).mpr q)
        by_cases c0 : x.toInt < 1
        · rw [if_pos c0]; rfl
        · rw [if_neg c0, if_neg (by omega)]
          have : x = 1 := Int32.toInt_inj.mp (by omega)
          rw [this]; rfl
    · rw [if_neg c4, if_pos (by decide)]
      have c4' : ¬ _ := fun q => c4 ((lt _ _).mpr q)
      by_cases c5 : 4 < x.toInt
      · rw [if_neg (by omega), if_pos c5]; rfl
      · rw [if_neg (by omega), if_neg c5]
        have : x = 4 := Int32.toInt_inj.mp (by omega)
        rw [this]; rfl
  refine jm_run ok_H_init [] 90 (fun kk hk => ?_)
  conv => whnf
  rw [key]
  exact hk _ _ _ _ (r_H_init_116 hK)
end
