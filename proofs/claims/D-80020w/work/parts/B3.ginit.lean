/-! the constructors: Engine -/
section
variable {g : jm_G} {d : Nat} {σ σ' : jm_S}
/-- the tags of an engine's cells -/
def gT (g : jm_G) (e n : Nat) : Prop := (gdm g e = 2 ∧ gdm g (e + 1) = 4) ∧ (gdm g (e + 2) = 11 ∧ gln g (e + 2) = 25) ∧ (gdm g (e + 3) = 9 ∧ gln g (e + 3) = 576) ∧ (gdm g (e + 4) = 10 ∧ gln g (e + 4) = 24) ∧ (∀ k, k < 24 → pT g (e + 5 + 4 * k)) ∧ pT g (e + 101) ∧ pT g (e + 105) ∧ pT g (e + 109) ∧ (gdm g (e + 113) = 9 ∧ gln g (e + 113) = 24) ∧ ∀ s, s < 25 → eT g (eo e n s) n
theorem eo_s (e n i : Nat) : eo e n (i + 1) = eo e n i + 6 + 4 * n := by
  unfold eo
  rw [Nat.mul_succ]
  omega
set_option maxHeartbeats 8000000 in
set_option maxRecDepth 8000 in
theorem c_Ginit {e n : Nat} (hs : σ.2.2.1 = e + 1) (hn : n ≤ 40) (ht : gT g e n) (hr : RM g σ (113 + (6 + 4 * n) * 25) (10000 + (306 + n + 304 * n) * 25)) :
    J g (d + 3) 4 0 [some (aR 2 e), some (aI (nI n)), none] [] σ (fun u => ∃ σ', u = (σ', .inl none) ∧ σ'.2.2.1 = eo e n 25 ∧ σ'.2.2.2 ≤ σ.2.2.2 + 10000 + (306 + n + 304 * n) * 25 ∧ (∀ q, q < e → σ'.1 q = σ.1 q) ∧ (∀ k, k ≠ 7 → σ'.1 e k = σ.1 e k) ∧ (∀ q k, e < q → q < eo e n 25 → σ'.1 q k = 0) ∧ (∀ q, q < e → σ'.2.1 q = σ.2.1 q) ∧ EL g σ' e n ∧ ∀ i, i < 25 → σ'.2.1 (e + 2) i = eo e n i + 1) := by
  obtain ⟨⟨t0, t1⟩, ⟨t2, l2⟩, ⟨t3, l3⟩, ⟨t4, l4⟩, tq, ta, tb, tc, ⟨td, ld⟩, te⟩ := ht
  obtain ⟨r1, r2⟩ := hr
  have l24 : ∀ i, i ≤ 25 → (306 + n + 304 * n) * i ≤ (306 + n + 304 * n) * 25 := fun i hi => Nat.mul_le_mul_left _ hi
  have l25 : ∀ i, i ≤ 25 → (6 + 4 * n) * i ≤ (6 + 4 * n) * 25 := fun i hi => Nat.mul_le_mul_left _ hi
  -- the elements
  have loop : ∀ τ0 : jm_S, τ0.2.2.1 = e + 114 → τ0.2.2.2 ≤ σ.2.2.2 + 10000 → ∀ (N i : Nat), i + N = 25 → ∀ τ : jm_S, Ext τ0 τ ((6 + 4 * n) * i) ((306 + n + 304 * n) * i) → (∀ q, q < e + 114 → q ≠ e + 2 → τ.2.1 q = τ0.2.1 q) → (∀ k, k < i → τ.2.1 (e + 2) k = eo e n k + 1 ∧ eP g τ (eo e n k) n) → τ.2.1 e 1 = e + 2 + 1 → ∀ K : jm_O → Prop, (∀ τ : jm_S, Ext τ0 τ ((6 + 4 * n) * 25) ((306 + n + 304 * n) * 25) → (∀ q, q < e + 114 → q ≠ e + 2 → τ.2.1 q = τ0.2.1 q) → (∀ k, k < 25 → τ.2.1 (e + 2) k = eo e n k + 1 ∧ eP g τ (eo e n k) n) → K (τ, .inl none)) →
      J g (d + 3) 4 90 [some (aR 2 e), some (aI (nI n)), some (aI (nI i))] [] τ K := by
    intro τ0 hs0 hn0 N
    induction N with
    | zero =>
      intro i hi τ hE hq hk0 h1 K hK
      obtain rfl : i = 25 := by omega
      refine jm_run ok_G_init [90] 90 (fun kk hk => ?_)
      conv => whnf
      refine jg h1 ?_
      conv => whnf
      rw [l2]
      refine ⟨by decide, ?_⟩
      conv => whnf
      refine b_le (a := 25) (b := 25) rfl rfl (fun _ => ?_) (fun h => by omega)
      conv => whnf
      exact hk _ _ _ _ (r_G_init_119 (hK τ hE hq hk0))
    | succ N ih =>
      intro i hi τ hE hq hk0 h1 K hK
      have hti := te i (by omega)
      have hτ : τ.2.2.1 = eo e n i := by rw [hE.1, hs0]; unfold eo; omega
      have hτ2 := hE.2.1
      have m1 : (306 + n + 304 * n) * (i + 1) = (306 + n + 304 * n) * i + (306 + n + 304 * n) := Nat.mul_succ _ _
      have m2 := l24 (i + 1) (by omega)
      have m3 : (6 + 4 * n) * (i + 1) = (6 + 4 * n) * i + (6 + 4 * n) := Nat.mul_succ _ _
      have m4 := l25 (i + 1) (by omega)
      have heo : eo e n i = e + 114 + (6 + 4 * n) * i := rfl
      refine jm_run ok_G_init [90] 90 (fun kk hk => ?_)
      conv => whnf
      refine jg h1 ?_
      conv => whnf
      rw [l2]
      refine ⟨by decide, ?_⟩
      conv => whnf
      refine b_le (a := 25) (b := i) rfl rfl (fun h => by omega) (fun _ => ?_)
      conv => whnf
      refine jg h1 ?_
      conv => whnf
      refine jo (a := eo e n i) hτ hti.1 (by omega) (by omega) ?_
      conv => whnf
      refine hk _ _ _ _ (k_G_init_109 rfl (c_Einit (σ := jm_nw τ 2) (a := eo e n i) (n := n) (by show τ.2.2.1 + 1 = _; omega) hn hti ⟨by show τ.2.2.1 + 1 + _ ≤ _; omega, by show τ.2.2.2 + 2 + _ ≤ _; omega⟩) (fun u hu => ?_))
      obtain ⟨τ2, hu, hE2, hq2, hel⟩ := hu
      subst hu
      have hE3 := (hE.trans ((Ext.nw τ 2).trans hE2)).wr (q := e + 2) (k := i) (a := eo e n i + 1)
      show J g (d + 3) 4 112 _ _ τ2 _
      refine jm_run ok_G_init [90] 90 (fun kk hk => ?_)
      conv => whnf
      refine ⟨vp_in_iff.mpr (by rw [nI_toInt (by omega), l2]; omega), ?_⟩
      conv => whnf
      rw [nI_clamp (by omega), nI_1]
      refine hk _ _ _ _ (ih (i + 1) (by omega) _ (hE3.eq (by omega) (by omega)) (fun q hqa hq2' => ?_) (fun k hki => ?_) ?_ K hK)
      · rw [jm_wr_q hq2', hq2 q (by omega), nw_r (by omega)]; exact hq q hqa hq2'
      · by_cases c : k = i
        · subst c
          exact ⟨jm_wr_at, eP_fr hel (fun q a b => jm_wr_q (by omega))⟩
        · have h9 := hk0 k (by omega)
          have hsep := eo_sep (e := e) (n := n) (s := k) (t := i) (by omega)
          have hge := eo_ge e n k
          refine ⟨?_, eP_fr h9.2 (fun q a b => ?_)⟩
          · rw [jm_wr_k c, hq2 _ (by omega), nw_r (by omega)]; exact h9.1
          · rw [jm_wr_q (by omega), hq2 q (by omega), nw_r (by omega)]
      · rw [jm_wr_q (by omega), hq2 e (by omega), nw_r (by omega)]; exact h1
  have m0 := l24 0 (by omega)
  have m5 := l25 0 (by omega)
  refine jm_run ok_G_init [90] 90 (fun kk hk => ?_)
  conv => whnf
  refine jo (a := e + 1) hs t1 (by omega) (by omega) ?_
  conv => whnf
  refine hk _ _ _ _ (k_G_init_9 rfl c_Finit (fun u hu => ?_))
  subst hu
  show J g (d + 3) 4 12 _ _ (jm_nw σ 2) _
  have eA := ((Ext.nw σ 2).wr (q := e) (k := 0) (a := e + 1 + 1)).trans (Ext.nw _ 25)
  have eB := (eA.wr (q := e) (k := 1) (a := e + 2 + 1)).trans (Ext.nw _ 576)
  have eC := eB.wr (q := e) (k := 2) (a := e + 3 + 1)
  have qC : ∀ q, q < e → (jm_wr (jm_nw (jm_wr (jm_nw (jm_wr (jm_nw σ 2) e 0 (e + 1 + 1)) 25) e 1 (e + 2 + 1)) 576) e 2 (e + 3 + 1)).2.1 q = σ.2.1 q := fun q hq => by
    rw [jm_wr_q (by omega), nw_r (by show q ≠ σ.2.2.1 + 1 + 1; omega), jm_wr_q (by omega), nw_r (by show q ≠ σ.2.2.1 + 1; omega), jm_wr_q (by omega), nw_r (by omega)]
  have c0 : (jm_wr (jm_nw (jm_wr (jm_nw (jm_wr (jm_nw σ 2) e 0 (e + 1 + 1)) 25) e 1 (e + 2 + 1)) 576) e 2 (e + 3 + 1)).2.1 e 0 = e + 1 + 1 := by
    rw [jm_wr_k (by decide), nw_r (by show e ≠ σ.2.2.1 + 1 + 1; omega), jm_wr_k (by decide), nw_r (by show e ≠ σ.2.2.1 + 1; omega), jm_wr_at]
  have c1 : (jm_wr (jm_nw (jm_wr (jm_nw (jm_wr (jm_nw σ 2) e 0 (e + 1 + 1)) 25) e 1 (e + 2 + 1)) 576) e 2 (e + 3 + 1)).2.1 e 1 = e + 2 + 1 := by
    rw [jm_wr_k (by decide), nw_r (by show e ≠ σ.2.2.1 + 1 + 1; omega), jm_wr_at]
  have c2 : (jm_wr (jm_nw (jm_wr (jm_nw (jm_wr (jm_nw σ 2) e 0 (e + 1 + 1)) 25) e 1 (e + 2 + 1)) 576) e 2 (e + 3 + 1)).2.1 e 2 = e + 3 + 1 := jm_wr_at
  refine jm_run ok_G_init [90] 90 (fun kk hk => ?_)
  conv => whnf
  refine jn (a := e + 2) (N := 25) (by show σ.2.2.1 + 1 = _; omega) rfl (by decide) t2 l2 (by omega) (by show σ.2.2.2 + 2 + 25 ≤ _; omega) ?_
  conv => whnf
  refine jn (a := e + 3) (N := 576) (by show σ.2.2.1 + 1 + 1 = _; omega) rfl (by decide) t3 l3 (by omega) (by show σ.2.2.2 + 2 + 25 + 576 ≤ _; omega) ?_
  conv => whnf
  generalize jm_wr (jm_nw (jm_wr (jm_nw (jm_wr (jm_nw σ 2) e 0 (e + 1 + 1)) 25) e 1 (e + 2 + 1)) 576) e 2 (e + 3 + 1) = τ1 at eC qC c0 c1 c2
  have h1 := eC.1
  have h1n := eC.2.1
  refine hk _ _ _ _ (k_G_init_36 rfl (c_polys (σ := τ1) (a := e + 4) (n := 24) (by omega) (by omega) t4 l4 (fun k hk => tq k hk) ⟨by omega, by omega⟩) (fun u hu => ?_))
  obtain ⟨τ2, hu, hE2, hq2, hk2⟩ := hu
  subst hu
  have eD := (eC.trans hE2).wr (q := e) (k := 3) (a := e + 4 + 1)
  have h2 : τ2.2.2.1 = _ := eD.1
  have h2n : τ2.2.2.2 = _ := eD.2.1
  show J g (d + 3) 4 39 _ _ τ2 _
  refine jm_run ok_G_init [90] 90 (fun kk hk => ?_)
  conv => whnf
  refine jo (a := e + 101) (by show τ2.2.2.1 = _; omega) ta.1 (by omega) (by show τ2.2.2.2 + 4 ≤ _; omega) ?_
  conv => whnf
  refine hk _ _ _ _ (k_G_init_47 rfl (c_Pinit (σ := jm_nw (jm_wr τ2 e 3 (e + 4 + 1)) 4) (a := e + 101) (by show τ2.2.2.1 + 1 = _; omega) ta ⟨by show τ2.2.2.1 + 1 + 3 ≤ _; omega, by show τ2.2.2.2 + 4 + 300 ≤ _; omega⟩) (fun u hu => ?_))
  obtain ⟨τ3, hu, hE3, hq3, hp3⟩ := hu
  subst hu
  have eE := (eD.trans ((Ext.nw _ 4).trans hE3)).wr (q := e) (k := 4) (a := e + 101 + 1)
  have h3 : τ3.2.2.1 = _ := eE.1
  have h3n : τ3.2.2.2 = _ := eE.2.1
  show J g (d + 3) 4 50 _ _ τ3 _
  refine jm_run ok_G_init [90] 90 (fun kk hk => ?_)
  conv => whnf
  refine jo (a := e + 105) (by show τ3.2.2.1 = _; omega) tb.1 (by omega) (by show τ3.2.2.2 + 4 ≤ _; omega) ?_
  conv => whnf
  refine hk _ _ _ _ (k_G_init_58 rfl (c_Pinit (σ := jm_nw (jm_wr τ3 e 4 (e + 101 + 1)) 4) (a := e + 105) (by show τ3.2.2.1 + 1 = _; omega) tb ⟨by show τ3.2.2.1 + 1 + 3 ≤ _; omega, by show τ3.2.2.2 + 4 + 300 ≤ _; omega⟩) (fun u hu => ?_))
  obtain ⟨τ4, hu, hE4, hq4, hp4⟩ := hu
  subst hu
  have eF := (eE.trans ((Ext.nw _ 4).trans hE4)).wr (q := e) (k := 5) (a := e + 105 + 1)
  have h4 : τ4.2.2.1 = _ := eF.1
  have h4n : τ4.2.2.2 = _ := eF.2.1
  show J g (d + 3) 4 61 _ _ τ4 _
  refine jm_run ok_G_init [90] 90 (fun kk hk => ?_)
  conv => whnf
  refine jo (a := e + 109) (by show τ4.2.2.1 = _; omega) tc.1 (by omega) (by show τ4.2.2.2 + 4 ≤ _; omega) ?_
  conv => whnf
  refine hk _ _ _ _ (k_G_init_69 rfl (c_Pinit (σ := jm_nw (jm_wr τ4 e 5 (e + 105 + 1)) 4) (a := e + 109) (by show τ4.2.2.1 + 1 = _; omega) tc ⟨by show τ4.2.2.1 + 1 + 3 ≤ _; omega, by show τ4.2.2.2 + 4 + 300 ≤ _; omega⟩) (fun u hu => ?_))
  obtain ⟨τ5, hu, hE5, hq5, hp5⟩ := hu
  subst hu
  have eG := (eF.trans ((Ext.nw _ 4).trans hE5)).wr (q := e) (k := 6) (a := e + 109 + 1)
  have h5 : τ5.2.2.1 = _ := eG.1
  have h5n : τ5.2.2.2 = _ := eG.2.1
  have eH := (eG.trans (Ext.nw _ 24)).wr (q := e) (k := 16) (a := e + 113 + 1)
  -- the references behind all that
  have b5 : ∀ q, q ≠ e → q < e + 113 → (jm_wr (jm_nw (jm_wr τ5 e 6 (e + 109 + 1)) 24) e 16 (e + 113 + 1)).2.1 q = τ5.2.1 q := fun q a b => by
    rw [jm_wr_q a, nw_r (by show q ≠ τ5.2.2.1; omega), jm_wr_q a]
  have b4 : ∀ q, q ≠ e → q < e + 109 → τ5.2.1 q = τ4.2.1 q := fun q a b => by rw [hq5 q b, nw_r (by show q ≠ τ4.2.2.1; omega), jm_wr_q a]
  have b3 : ∀ q, q ≠ e → q < e + 105 → τ4.2.1 q = τ3.2.1 q := fun q a b => by rw [hq4 q b, nw_r (by show q ≠ τ3.2.2.1; omega), jm_wr_q a]
  have b2 : ∀ q, q ≠ e → q < e + 101 → τ3.2.1 q = τ2.2.1 q := fun q a b => by rw [hq3 q b, nw_r (by show q ≠ τ2.2.2.1; omega), jm_wr_q a]
  have a5 : ∀ k, k ≠ 16 → k ≠ 6 → (jm_wr (jm_nw (jm_wr τ5 e 6 (e + 109 + 1)) 24) e 16 (e + 113 + 1)).2.1 e k = τ5.2.1 e k := fun k a b => by
    rw [jm_wr_k a, nw_r (by show e ≠ τ5.2.2.1; omega), jm_wr_k b]
  have a4 : ∀ k, k ≠ 5 → τ5.2.1 e k = τ4.2.1 e k := fun k a => by rw [hq5 e (by omega), nw_r (by show e ≠ τ4.2.2.1; omega), jm_wr_k a]
  have a3 : ∀ k, k ≠ 4 → τ4.2.1 e k = τ3.2.1 e k := fun k a => by rw [hq4 e (by omega), nw_r (by show e ≠ τ3.2.2.1; omega), jm_wr_k a]
  have a2 : ∀ k, k ≠ 3 → τ3.2.1 e k = τ2.2.1 e k := fun k a => by rw [hq3 e (by omega), nw_r (by show e ≠ τ2.2.2.1; omega), jm_wr_k a]
  have a1 : τ2.2.1 e = τ1.2.1 e := hq2 e (by omega)
  have z5 : τ5.2.1 e 5 = e + 105 + 1 := by rw [hq5 e (by omega), nw_r (by show e ≠ τ4.2.2.1; omega), jm_wr_at]
  have z4 : τ4.2.1 e 4 = e + 101 + 1 := by rw [hq4 e (by omega), nw_r (by show e ≠ τ3.2.2.1; omega), jm_wr_at]
  have z3 : τ3.2.1 e 3 = e + 4 + 1 := by rw [hq3 e (by omega), nw_r (by show e ≠ τ2.2.2.1; omega), jm_wr_at]
  show J g (d + 3) 4 72 _ _ τ5 _
  refine jm_run ok_G_init [90] 90 (fun kk hk => ?_)
  conv => whnf
  refine jn (a := e + 113) (N := 24) (by show τ5.2.2.1 = _; omega) rfl (by decide) td ld (by omega) (by show τ5.2.2.2 + 24 ≤ _; omega) ?_
  conv => whnf
  have F16 : (jm_wr (jm_nw (jm_wr τ5 e 6 (e + 109 + 1)) 24) e 16 (e + 113 + 1)).2.1 e 16 = e + 113 + 1 := jm_wr_at
  generalize jm_wr (jm_nw (jm_wr τ5 e 6 (e + 109 + 1)) 24) e 16 (e + 113 + 1) = τ6 at eH b5 a5 F16
  have h6 : τ6.2.2.1 = e + 114 := by rw [eH.1]; omega
  have h6n : τ6.2.2.2 ≤ σ.2.2.2 + 10000 := by rw [eH.2.1]; omega
  have n6 := eH.2.2.1
  have n6' := eH.2.2.2
  rw [show σ.2.2.1 + (1 + 1 + 1 + (1 + 4 * 24) + (1 + 3) + (1 + 3) + (1 + 3) + 1) = e + 114 by omega] at n6'
  clear eA eB eC eD eE eF eG eH h1 h1n h2 h2n h3 h3n h4 h4n h5 h5n r1 r2 l24 l25 m0 m5 hE2 hE3 hE4 hE5
  have F : ∀ q, q ≠ e → q < e + 101 → τ6.2.1 q = τ2.2.1 q := fun q a b => by rw [b5 q a (by omega), b4 q a (by omega), b3 q a (by omega), b2 q a b]
  have G0 : ∀ k, k ≠ 16 → k ≠ 6 → k ≠ 5 → k ≠ 4 → k ≠ 3 → τ6.2.1 e k = τ1.2.1 e k := fun k a b c x y => by rw [a5 k a b, a4 k c, a3 k x, a2 k y, a1]
  have hwi : (jm_wi τ6 e 7 (nI n)).2 = τ6.2 := rfl
  have wq : ∀ q, q ≠ e → (jm_wi τ6 e 7 (nI n)).1 q = τ6.1 q := fun q a => jm_wi_q a
  have wk : ∀ k, k ≠ 7 → (jm_wi τ6 e 7 (nI n)).1 e k = τ6.1 e k := fun k a => jm_wi_k a
  refine hk _ _ _ _ (loop (jm_wi τ6 e 7 (nI n)) (by show τ6.2.2.1 = _; omega) (by show τ6.2.2.2 ≤ _; omega) 25 0 rfl _ ((Ext.refl _).eq (by omega) (by omega)) (fun q _ _ => rfl) (fun k hk => absurd hk (Nat.not_lt_zero _)) ((G0 1 (by decide) (by decide) (by decide) (by decide) (by decide)).trans c1) _ (fun τ hE hq hkk => ?_))
  have heo : eo e n 25 = e + 114 + (6 + 4 * n) * 25 := rfl
  have hE1 : τ.2.2.1 = τ6.2.2.1 + (6 + 4 * n) * 25 := hE.1
  have hE2' : τ.2.2.2 = τ6.2.2.2 + (306 + n + 304 * n) * 25 := hE.2.1
  have hE3' : ∀ q, q < e + 114 → τ.1 q = (jm_wi τ6 e 7 (nI n)).1 q := fun q hqq => hE.2.2.1 q (by show q < τ6.2.2.1; omega)
  have hq' : ∀ q, q < e + 114 → q ≠ e + 2 → τ.2.1 q = τ6.2.1 q := hq
  refine ⟨τ, rfl, by omega, by omega, fun q hqe => ?_, fun k hk7 => ?_, fun q k a b => ?_, fun q hqe => ?_, ⟨⟨?_, ?_, ?_, ?_, ?_, ?_, ?_⟩, ⟨l2, l3, l4, ld⟩, fun k hk24 => ?_, ?_, ?_, fun s hs25 => (hkk s hs25).2⟩, fun i hi => (hkk i hi).1⟩
  · rw [hE3' q (by omega), wq q (by omega)]; exact n6 q (by omega)
  · rw [hE3' e (by omega), wk k hk7]; exact congrFun (n6 e (by omega)) k
  · by_cases c : q < e + 114
    · rw [hE3' q c, wq q (by omega)]; exact n6' q k (by omega) (by omega)
    · exact hE.2.2.2 q k (by show τ6.2.2.1 ≤ q; omega) (by show q < τ6.2.2.1 + _; omega)
  · rw [hq' q (by omega) (by omega), F q (by omega) (by omega), hq2 q (by omega)]; exact qC q hqe
  · rw [hq' e (by omega) (by omega), G0 0 (by decide) (by decide) (by decide) (by decide) (by decide)]; exact c0
  · rw [hq' e (by omega) (by omega), G0 1 (by decide) (by decide) (by decide) (by decide) (by decide)]; exact c1
  · rw [hq' e (by omega) (by omega), G0 2 (by decide) (by decide) (by decide) (by decide) (by decide)]; exact c2
  · rw [hq' e (by omega) (by omega), a5 3 (by decide) (by decide), a4 3 (by decide), a3 3 (by decide)]; exact z3
  · rw [hq' e (by omega) (by omega), a5 4 (by decide) (by decide), a4 4 (by decide)]; exact z4
  · rw [hq' e (by omega) (by omega), a5 5 (by decide) (by decide)]; exact z5
  · rw [hq' e (by omega) (by omega)]; exact F16
  · have h9 := hk2 k hk24
    rw [show e + 4 + 1 + 4 * k = e + 5 + 4 * k by omega] at h9
    exact ⟨by rw [hq' _ (by omega) (by omega), F _ (by omega) (by omega)]; exact h9.1, pl_fr h9.2 (by rw [hq' _ (by omega) (by omega), F _ (by omega) (by omega)])⟩
  · exact pl_fr hp3 (by rw [hq' _ (by omega) (by omega), b5 _ (by omega) (by omega), b4 _ (by omega) (by omega), b3 _ (by omega) (by omega)])
  · exact pl_fr hp4 (by rw [hq' _ (by omega) (by omega), b5 _ (by omega) (by omega), b4 _ (by omega) (by omega)])
end
