/-! THE MODEL: its state; how an act of it ends -/
def MF (f : Nat → Nat → Int32) (m : Nat) (S : sp_H) : Prop := f m 0 = nI (hv S) ∧ f m 1 = nI (hv S) ∧ f m 2 = nI (hkd S) ∧ f m 7 = nI (hgn S).length ∧ f m 9 = sp_bi (hB S) ∧ f m 10 = sp_bi (hQ S) ∧ (hB S = true → f m 8 = nI (hel S).length)
def MD (f : Nat → Nat → Int32) (m : Nat) (S : sp_H) : Prop := f (m + 5) 0 = nI (hct S).1 ∧ f (m + 5) 1 = nI (hct S).2.1 ∧ f (m + 5) 2 = nI (hct S).2.2.1 ∧ f (m + 5) 3 = nI (hct S).2.2.2
def MT (T : Nat → sp_P) (S : sp_H) : Prop := (∀ k, k < 40 → T k = pg S k) ∧ (∀ i p, (hgn S)[i]? = some p → T (40 + i) = p) ∧ (hB S = true → PL5 T 50 (hgn S).length (hel S)) ∧ (hB S = true → hQ S = true → ∀ i p, (hkp S)[i]? = some p → T (125 + i) = p)
/-- the model at m is S -/
def MR (g : jm_G) (σ : jm_S) (m : Nat) (S : sp_H) : Prop := ML g σ m ∧ MF σ.1 m S ∧ MD σ.1 m S ∧ ∃ T, MS σ.1 m T ∧ MT T S
def jMd (g : jm_G) (σ : jm_S) (m : Nat) (a : Int32) (S : sp_H) : jm_O → Prop := fun u => ∃ f : Nat → Nat → Int32, MR g (f, σ.2) m S ∧ (∀ q, ¬ (m ≤ q ∧ q ≤ m + 8) → f q = σ.1 q) ∧ u = ((f, σ.2), .inl (some (aI a)))
section
variable {g : jm_G} {d : Nat} {σ : jm_S} {m : Nat} {S : sp_H}
theorem jMd_same {a : Int32} (hR : MR g σ m S) : jMd g σ m a S (σ, .inl (some (aI a))) := ⟨σ.1, hR, fun _ _ => rfl, rfl⟩
theorem jMd_mk {a : Int32} {f : Nat → Nat → Int32} {T : Nat → sp_P} (hM : ML g σ m) (hF : MF f m S) (hD : MD f m S) (hS : MS f m T) (hT : MT T S) (hq : ∀ q, ¬ (m ≤ q ∧ q ≤ m + 8) → f q = σ.1 q) : jMd g σ m a S ((f, σ.2), .inl (some (aI a))) := ⟨f, ⟨hM, hF, hD, T, hS, hT⟩, hq, rfl⟩
theorem MF_fr {f f' : Nat → Nat → Int32} (h : MF f m S) (hf : ∀ k, k ≤ 10 → f' m k = f m k) : MF f' m S :=
  ⟨(hf _ (by decide)).trans h.1, (hf _ (by decide)).trans h.2.1, (hf _ (by decide)).trans h.2.2.1, (hf _ (by decide)).trans h.2.2.2.1, (hf _ (by decide)).trans h.2.2.2.2.1, (hf _ (by decide)).trans h.2.2.2.2.2.1, fun hb => (hf _ (by decide)).trans (h.2.2.2.2.2.2 hb)⟩
theorem MD_fr {f f' : Nat → Nat → Int32} (h : MD f m S) (hf : f' (m + 5) = f (m + 5)) : MD f' m S := by
  unfold MD at h ⊢
  rw [hf]
  exact h
/-- the slots that are kept -/
def ks (S : sp_H) (q : Nat) : Prop := q < 40 + (hgn S).length ∨ (50 ≤ q ∧ q < 75) ∨ (125 ≤ q ∧ q < 150) ∨ (170 ≤ q ∧ q < 370)
theorem PL5_fr {T T' : Nat → sp_P} {base sh : Nat} {l : List sp_E} (h : PL5 T base sh l) (hl : l.length ≤ 25) (hsh : sh ≤ 8) (h1 : ∀ q, base ≤ q → q < base + 25 → T' q = T q) (h2 : ∀ q, 170 ≤ q → q < 370 → T' q = T q) : PL5 T' base sh l := fun t E hE => by
  have ht := (List.getElem?_eq_some_iff.mp hE).1
  exact EA5_fr (h t E hE) (h1 _ (by omega) (by omega)) (fun k hk => h2 _ (by omega) (by omega))
theorem GS.el24 (hG : GS S) (hb : hB S = true) : (hel S).length ≤ 24 := (hG.2.2.2.2.2.2.1 hb).1.2.1
theorem MT_fr {T T' : Nat → sp_P} (hG : GS S) (h : MT T S) (hq : ∀ q, ks S q → T' q = T q) : MT T' S := by
  have hgl := hG.2.2.2.1
  obtain ⟨a1, a2, a3, a4⟩ := h
  refine ⟨fun k hk => (hq k (by unfold ks; omega)).trans (a1 k hk), fun i p hp => ?_, fun hb => PL5_fr (a3 hb) (by have := hG.el24 hb; omega) hgl (fun q h1 h2 => hq q (by unfold ks; omega)) (fun q h1 h2 => hq q (by unfold ks; omega)), fun hb hqq i p hp => ?_⟩
  · have hi := (List.getElem?_eq_some_iff.mp hp).1
    exact (hq _ (by unfold ks; omega)).trans (a2 i p hp)
  · have hi := (List.getElem?_eq_some_iff.mp hp).1
    have h1 := (hG.2.2.2.2.2.2.2 hb hqq).1
    have h2 := hG.el24 hb
    exact (hq _ (by unfold ks; omega)).trans (a4 hb hqq i p hp)
theorem pg_set_at {r : Nat} {p : sp_P} (hG : GS S) (hr : r < 40) : pg (sp_setP S r p) r = p := by
  have hl := hG.2.2.1
  show ((hpl S).set r p).getD r [] = p
  rw [List.getD_eq_getElem?_getD, List.getElem?_set_self (by omega)]
  rfl
theorem pg_set_ne {r k : Nat} {p : sp_P} (h : k ≠ r) : pg (sp_setP S r p) k = pg S k := by
  show ((hpl S).set r p).getD k [] = (hpl S).getD k []
  rw [List.getD_eq_getElem?_getD, List.getElem?_set_ne (fun e => h e.symm), ← List.getD_eq_getElem?_getD]
theorem MT_set {T : Nat → sp_P} {r : Nat} {p : sp_P} (hG : GS S) (h : MT T S) (hr : r < 40) : MT (tU T r p) (sp_setP S r p) := by
  have hgl := hG.2.2.2.1
  obtain ⟨a1, a2, a3, a4⟩ := h
  refine ⟨fun k hk => ?_, fun i p' hp => (tU_ne (by omega)).trans (a2 i p' hp), fun hb => PL5_fr (a3 hb) (by have := hG.el24 (S := S) hb; show (hel S).length ≤ 25; omega) hgl (fun q h1 h2 => tU_ne (by omega)) (fun q h1 h2 => tU_ne (by omega)), fun hb hqq i p' hp => (tU_ne (by omega)).trans (a4 hb hqq i p' hp)⟩
  by_cases e : k = r
  · subst e; rw [tU_at, pg_set_at hG hr]
  · rw [tU_ne e, pg_set_ne e]; exact a1 k hk
theorem MT.at {T : Nat → sp_P} (h : MT T S) {k : Nat} (hk : k < 40) : T k = pg S k := h.1 k hk
theorem MR.mc (hR : MR g σ m S) (hG : GS S) : MC σ.1 m (hv S) (hkd S) := ⟨hR.2.1.2.1, hR.2.1.2.2.1, by have := hG.1.2; omega, hG.2.1⟩
theorem MR.fld (hR : MR g σ m S) {f : Nat → Nat → Int32} (hf : ∀ k, k ≤ 10 → f m k = σ.1 m k) : MF f m S := MF_fr hR.2.1 hf
theorem MS.sz {f : Nat → Nat → Int32} {T : Nat → sp_P} (h : MS f m T) {p : Nat} (hp : p < 372) : f (m + 4) p = nI (T p).length := (h p hp).2.1
theorem c_mvariables (hR : MR g σ m S) : J g d 76 0 [some (aR 6 m)] [] σ (jMd g σ m (nI (hv S)) S) := by
  refine jm_run ok_M_variables [] 90 (fun kk hk => ?_)
  conv => whnf
  rw [hR.2.1.1]
  exact hk _ _ _ _ (r_M_variables_4 (jMd_same hR))
theorem c_msize {x : Int32} (hR : MR g σ m S) (hG : GS S) : J g (d + 1) 89 0 [some (aR 6 m), some (aI x)] [] σ (jMd g σ m (op_size S x).1 (op_size S x).2) := by
  have hM := hR.1
  obtain ⟨T, hS, hT⟩ := hR.2.2.2
  refine jm_run ok_M_size [] 90 (fun kk hk => ?_)
  conv => whnf
  refine hk _ _ _ _ (k_M_size_1 rfl c_misPlace (fun u hu => ?_))
  subst hu
  show J g (d + 1) 89 4 _ _ σ _
  unfold op_size
  cases hx : sp_ip x with
  | false =>
    rw [if_neg (by decide)]
    refine jm_run ok_M_size [] 90 (fun kk hk => ?_)
    conv => whnf
    refine b_z (b := false) rfl (fun _ => ?_) (fun h => by cases h)
    conv => whnf
    exact hk _ _ _ _ (r_M_size_17 (jMd_same hR))
  | true =>
    rw [if_pos rfl]
    obtain ⟨k, hk40, rfl⟩ := sp_ip_t hx
    rw [nI_clamp (by omega)]
    have hz := hS.sz (p := k) (by omega)
    rw [hT.at hk40] at hz
    refine jm_run ok_M_size [] 90 (fun kk hk => ?_)
    conv => whnf
    refine b_z (b := true) rfl (fun h => by cases h) (fun _ => ?_)
    conv => whnf
    refine jg hM.size ?_
    conv => whnf
    refine ja rfl hM.l4 hz ?_
    conv => whnf
    exact hk _ _ _ _ (r_M_size_17 (jMd_same hR))
theorem c_mzero {x : Int32} (hR : MR g σ m S) (hG : GS S) : J g (d + 1) 88 0 [some (aR 6 m), some (aI x), none] [] σ (jMd g σ m (op_zero S x).1 (op_zero S x).2) := by
  have hM := hR.1
  obtain ⟨T, hS, hT⟩ := hR.2.2.2
  refine jm_run ok_M_zero [] 90 (fun kk hk => ?_)
  conv => whnf
  refine hk _ _ _ _ (k_M_zero_1 rfl c_misPlace (fun u hu => ?_))
  subst hu
  show J g (d + 1) 88 4 _ _ σ _
  unfold op_zero
  cases hx : sp_ip x with
  | false =>
    rw [if_neg (by decide)]
    refine jm_run ok_M_zero [] 90 (fun kk hk => ?_)
    conv => whnf
    refine b_nz (b := false) rfl (fun h => by cases h) (fun _ => ?_)
    conv => whnf
    exact hk _ _ _ _ (r_M_zero_8 (jMd_same hR))
  | true =>
    rw [if_pos rfl]
    obtain ⟨k, hk40, rfl⟩ := sp_ip_t hx
    rw [nI_clamp (by omega)]
    have hz := hS.sz (p := k) (by omega)
    rw [hT.at hk40] at hz
    have hst : jm_wi σ (m + 4) k 0 = ((jm_wi σ (m + 4) k 0).1, σ.2) := rfl
    refine jm_run ok_M_zero [] 90 (fun kk hk => ?_)
    conv => whnf
    refine b_nz (b := true) rfl (fun _ => ?_) (fun h => by cases h)
    conv => whnf
    refine jg hM.size ?_
    conv => whnf
    refine ja rfl hM.l4 hz ?_
    conv => whnf
    refine jg hM.size ?_
    conv => whnf
    refine jw rfl hM.l4 ?_
    conv => whnf
    rw [hst]
    exact hk _ _ _ _ (r_M_zero_24 (jMd_mk hM (MF_fr hR.2.1 (fun k _ => congrFun (jm_wi_q (by omega)) k)) (MD_fr hR.2.2.1 (jm_wi_q (by omega))) (MS_nil (ρ := σ.2) hS) (MT_set hG hT hk40) (fun q hq => jm_wi_q (by omega))))
theorem MT_off {T : Nat → sp_P} {gn : List sp_P} (h : MT T S) (hg : ∀ i p, gn[i]? = some p → T (40 + i) = p) : MT T (sp_off S gn) := ⟨h.1, hg, fun hb => (by cases hb), fun hb => (by cases hb)⟩
theorem c_mclear (hR : MR g σ m S) (hG : GS S) : J g d 101 0 [some (aR 6 m), none] [] σ (jMd g σ m (op_clear S).1 (op_clear S).2) := by
  have hM := hR.1
  obtain ⟨T, hS, hT⟩ := hR.2.2.2
  have hF := hR.2.1
  have hst : jm_wi (jm_wi σ m 7 0) m 9 0 = ((jm_wi (jm_wi σ m 7 0) m 9 0).1, σ.2) := rfl
  have o : ∀ k, k ≠ 7 → k ≠ 9 → (jm_wi (jm_wi σ m 7 0) m 9 0).1 m k = σ.1 m k := fun k a b => (jm_wi_k b).trans (jm_wi_k a)
  have o2 : ∀ q, q ≠ m → (jm_wi (jm_wi σ m 7 0) m 9 0).1 q = σ.1 q := fun q a => (jm_wi_q a).trans (jm_wi_q a)
  refine jm_run ok_M_clear [] 90 (fun kk hk => ?_)
  conv => whnf
  refine ⟨Or.inl rfl, ?_⟩
  conv => whnf
  rw [hF.2.2.2.1, hst]
  refine hk _ _ _ _ (r_M_clear_16 (jMd_mk hM ⟨(o 0 (by decide) (by decide)).trans hF.1, (o 1 (by decide) (by decide)).trans hF.2.1, (o 2 (by decide) (by decide)).trans hF.2.2.1, (jm_wi_k (by decide)).trans jm_wi_at, jm_wi_at, (o 10 (by decide) (by decide)).trans hF.2.2.2.2.2.1, fun hb => (by cases hb)⟩ (MD_fr (S := S) hR.2.2.1 (o2 _ (by omega))) (MS_fr hS (fun q h1 _ => o2 q (by omega))) (MT_off hT (fun i p hp => (by cases hp))) (fun q hq => o2 q (by omega))))
theorem c_mdone {x : Int32} (hR : MR g σ m S) : J g d 119 0 [some (aR 6 m), some (aI x)] [] σ (jMd g σ m (op_done S x).1 (op_done S x).2) := by
  have hM := hR.1
  have hD := hR.2.2.1
  have e0 : (0 : Int32).toInt = 0 := rfl
  have e3 : (3 : Int32).toInt = 3 := rfl
  unfold op_done
  by_cases hx : 0 ≤ x.toInt ∧ x.toInt < 4
  · obtain ⟨k, hk4, rfl⟩ := vp_in_of (n := 4) (vp_in_iff.mpr hx) (by decide)
    have hrow : σ.1 (m + 5) k = if nI k = nI 0 then nI (hct S).1 else if nI k = nI 1 then nI (hct S).2.1 else if nI k = nI 2 then nI (hct S).2.2.1 else if nI k = nI 3 then nI (hct S).2.2.2 else -2 := by
      have : k = 0 ∨ k = 1 ∨ k = 2 ∨ k = 3 := by omega
      rcases this with e | e | e | e <;> subst e
      · rw [if_pos rfl]; exact hD.1
      · rw [if_neg (by decide), if_pos rfl]; exact hD.2.1
      · rw [if_neg (by decide), if_neg (by decide), if_pos rfl]; exact hD.2.2.1
      · rw [if_neg (by decide), if_neg (by decide), if_neg (by decide), if_pos rfl]; exact hD.2.2.2
    refine jm_run ok_M_done [] 90 (fun kk hk => ?_)
    conv => whnf
    refine b_lt (a := k) (b := 0) rfl rfl (fun h => by omega) (fun _ => ?_)
    conv => whnf
    refine b_le (a := k) (b := 3) rfl rfl (fun _ => ?_) (fun h => by omega)
    conv => whnf
    refine jg hM.did ?_
    conv => whnf
    refine ja rfl hM.l5 hrow ?_
    conv => whnf
    exact hk _ _ _ _ (r_M_done_20 (jMd_same hR))
  · have n0 : ∀ j, j < 4 → x ≠ nI j := fun j hj e => hx (by rw [e, nI_toInt (by omega)]; omega)
    rw [if_neg (n0 0 (by decide)), if_neg (n0 1 (by decide)), if_neg (n0 2 (by decide)), if_neg (n0 3 (by decide))]
    refine jm_run ok_M_done [] 90 (fun kk hk => ?_)
    conv => whnf
    refine ⟨fun h1 => ?_, fun h1 => ?_⟩
    · conv => whnf
      exact hk _ _ _ _ (r_M_done_20 (jMd_same hR))
    · have q1 : ¬ x.toInt < (0 : Int32).toInt := fun q => h1 (Int32.lt_iff_toInt_lt.mpr q)
      conv => whnf
      refine ⟨fun h2 => ?_, fun h2 => ?_⟩
      · have q2 := Int32.le_iff_toInt_le.mp h2
        exact absurd ⟨by omega, by omega⟩ hx
      · conv => whnf
        exact hk _ _ _ _ (r_M_done_20 (jMd_same hR))
theorem c_mgenerator {x : Int32} (hR : MR g σ m S) (hG : GS S) : J g (d + 1) 100 0 [some (aR 6 m), some (aI x)] [] σ (jMd g σ m (op_generator S x).1 (op_generator S x).2) := by
  have hM := hR.1
  obtain ⟨T, hS, hT⟩ := hR.2.2.2
  have hF := hR.2.1
  have hgl := hG.2.2.2.1
  refine jm_run ok_M_generator [] 90 (fun kk hk => ?_)
  conv => whnf
  refine hk _ _ _ _ (k_M_generator_1 rfl c_misPlace (fun u hu => ?_))
  subst hu
  show J g (d + 1) 100 4 _ _ σ _
  unfold op_generator
  cases hx : sp_ip x with
  | false =>
    rw [if_neg (by decide)]
    refine jm_run ok_M_generator [] 90 (fun kk hk => ?_)
    conv => whnf
    refine b_nz (b := false) rfl (fun h => by cases h) (fun _ => ?_)
    conv => whnf
    exact hk _ _ _ _ (r_M_generator_8 (jMd_same hR))
  | true =>
    rw [if_pos rfl]
    obtain ⟨k, hk40, rfl⟩ := sp_ip_t hx
    rw [nI_clamp (by omega)]
    by_cases h8 : (hgn S).length = 8
    · rw [if_pos h8]
      refine jm_run ok_M_generator [] 90 (fun kk hk => ?_)
      conv => whnf
      refine b_nz (b := true) rfl (fun _ => ?_) (fun h => by cases h)
      conv => whnf
      refine b_ne hF.2.2.2.1 (b := 8) rfl (fun q => absurd h8 q) (fun _ => ?_)
      conv => whnf
      exact hk _ _ _ _ (r_M_generator_20 (jMd_same hR))
    · rw [if_neg h8]
      refine jm_run ok_M_generator [] 90 (fun kk hk => ?_)
      conv => whnf
      refine b_nz (b := true) rfl (fun _ => ?_) (fun h => by cases h)
      conv => whnf
      refine b_ne hF.2.2.2.1 (b := 8) rfl (fun _ => ?_) (fun q => absurd q h8)
      conv => whnf
      rw [hF.2.2.2.1, show (40 : Int32) + nI (hgn S).length = nI (40 + (hgn S).length) from nI_add 40 _]
      refine hk _ _ _ _ (k_M_generator_30 rfl (c_mcopy hM hS (a := k) (b := 40 + (hgn S).length) (by omega) (by omega) (by omega)) (fun u hu => ?_))
      obtain ⟨f, hf, hS2, hu⟩ := hu
      subst hu
      rw [hT.at hk40] at hS2
      have fm : f m = σ.1 m := hf m (by omega)
      have f7 : f m 7 = nI (hgn S).length := (congrFun fm 7).trans hF.2.2.2.1
      show J g (d + 1) 100 33 _ _ (f, σ.2) _
      refine jm_run ok_M_generator [] 90 (fun kk hk => ?_)
      conv => whnf
      refine ⟨Or.inl rfl, ?_⟩
      conv => whnf
      rw [show (f, σ.2).1 m 7 = nI (hgn S).length from f7, nI_1]
      have hst : jm_wi (jm_wi (f, σ.2) m 7 (nI ((hgn S).length + 1))) m 9 0 = ((jm_wi (jm_wi (f, σ.2) m 7 (nI ((hgn S).length + 1))) m 9 0).1, σ.2) := rfl
      have e7 : (jm_wi (jm_wi (f, σ.2) m 7 (nI ((hgn S).length + 1))) m 9 0).1 m 7 = nI ((hgn S).length + 1) := (jm_wi_k (by decide)).trans jm_wi_at
      have o : ∀ k, k ≠ 7 → k ≠ 9 → (jm_wi (jm_wi (f, σ.2) m 7 (nI ((hgn S).length + 1))) m 9 0).1 m k = σ.1 m k := fun k a b => (jm_wi_k b).trans ((jm_wi_k a).trans (congrFun fm k))
      have o2 : ∀ q, q ≠ m → (jm_wi (jm_wi (f, σ.2) m 7 (nI ((hgn S).length + 1))) m 9 0).1 q = f q := fun q a => (jm_wi_q a).trans (jm_wi_q a)
      rw [e7, hst, show nI ((hgn S).length + 1) - 1 = nI (hgn S).length from pk_sub (a := (hgn S).length + 1) (b := 1) (by omega)]
      refine hk _ _ _ _ (r_M_generator_54 (jMd_mk hM ⟨(o 0 (by decide) (by decide)).trans hF.1, (o 1 (by decide) (by decide)).trans hF.2.1, (o 2 (by decide) (by decide)).trans hF.2.2.1, ?_, jm_wi_at, (o 10 (by decide) (by decide)).trans hF.2.2.2.2.2.1, fun hb => (by cases hb)⟩ (MD_fr (S := S) hR.2.2.1 ((o2 _ (by omega)).trans (hf _ (by omega)))) (MS_fr hS2 (fun q h1 _ => o2 q (by omega))) ⟨fun k hk => (tU_ne (by omega)).trans (hT.1 k hk), fun i p hp => ?_, fun hb => (by cases hb), fun hb => (by cases hb)⟩ (fun q hq => (o2 q (by omega)).trans (hf q (by omega)))))
      · show (jm_wi (jm_wi (f, σ.2) m 7 (nI ((hgn S).length + 1))) m 9 0).1 m 7 = nI (hgn S ++ [pg S k]).length
        rw [e7, List.length_append]; rfl
      · have hp : (hgn S ++ [pg S k])[i]? = some p := hp
        by_cases hi : i < (hgn S).length
        · rw [List.getElem?_append_left hi] at hp
          rw [tU_ne (by omega)]
          exact hT.2.1 i p hp
        · have h1 := (List.getElem?_eq_some_iff.mp hp).1
          rw [List.length_append] at h1
          have h1 : i < (hgn S).length + 1 := h1
          obtain rfl : i = (hgn S).length := by omega
          rw [List.getElem?_append_right (Nat.le_refl _), Nat.sub_self] at hp
          cases hp
          exact tU_at _ _ _
theorem c_msame {x y : Int32} (hR : MR g σ m S) (hG : GS S) : J g (d + 1) 97 0 [some (aR 6 m), some (aI x), some (aI y)] [] σ (jMd g σ m (op_same S x y).1 (op_same S x y).2) := by
  have hM := hR.1
  obtain ⟨T, hS, hT⟩ := hR.2.2.2
  refine jm_run ok_M_same [] 90 (fun kk hk => ?_)
  conv => whnf
  refine hk _ _ _ _ (k_M_same_1 rfl c_misPlace (fun u hu => ?_))
  subst hu
  show J g (d + 1) 97 4 _ _ σ _
  unfold op_same
  cases hx : sp_ip x with
  | false =>
    rw [if_neg (fun q => by cases q.1)]
    refine jm_run ok_M_same [] 90 (fun kk hk => ?_)
    conv => whnf
    refine b_z (b := false) rfl (fun _ => ?_) (fun h => by cases h)
    conv => whnf
    exact hk _ _ _ _ (r_M_same_32 (jMd_same hR))
  | true =>
    refine jm_run ok_M_same [] 90 (fun kk hk => ?_)
    conv => whnf
    refine b_z (b := true) rfl (fun h => by cases h) (fun _ => ?_)
    conv => whnf
    refine hk _ _ _ _ (k_M_same_8 rfl c_misPlace (fun u hu => ?_))
    subst hu
    show J g (d + 1) 97 11 _ _ σ _
    cases hy : sp_ip y with
    | false =>
      rw [if_neg (fun q => by cases q.2)]
      refine jm_run ok_M_same [] 90 (fun kk hk => ?_)
      conv => whnf
      refine b_nz (b := false) rfl (fun h => by cases h) (fun _ => ?_)
      conv => whnf
      exact hk _ _ _ _ (r_M_same_32 (jMd_same hR))
    | true =>
      rw [if_pos ⟨rfl, rfl⟩]
      obtain ⟨k, hk40, rfl⟩ := sp_ip_t hx
      obtain ⟨l, hl40, rfl⟩ := sp_ip_t hy
      rw [nI_clamp (by omega), nI_clamp (by omega)]
      have w1 := (pg_ok hG hk40).1
      have w2 := (pg_ok hG hl40).1
      rw [← hT.at hk40] at w1 ⊢
      rw [← hT.at hl40] at w2 ⊢
      refine jm_run ok_M_same [] 90 (fun kk hk => ?_)
      conv => whnf
      refine b_nz (b := true) rfl (fun _ => ?_) (fun h => by cases h)
      conv => whnf
      refine hk _ _ _ _ (k_M_same_21 rfl (c_misSame hM hS (by omega) (by omega) w1 w2) (fun u hu => ?_))
      subst hu
      show J g (d + 1) 97 24 _ _ σ _
      cases hs : sp_same (T k) (T l) with
      | false =>
        refine jm_run ok_M_same [] 90 (fun kk hk => ?_)
        conv => whnf
        refine b_z (b := false) rfl (fun _ => ?_) (fun h => by cases h)
        conv => whnf
        exact hk _ _ _ _ (r_M_same_32 (jMd_same hR))
      | true =>
        refine jm_run ok_M_same [] 90 (fun kk hk => ?_)
        conv => whnf
        refine b_z (b := true) rfl (fun h => by cases h) (fun _ => ?_)
        conv => whnf
        exact hk _ _ _ _ (r_M_same_32 (jMd_same hR))
end
