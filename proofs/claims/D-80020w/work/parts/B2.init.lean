/-! the constructors: Poly, Fraction, Element -/
section
variable {g : jm_G} {d : Nat} {σ σ' σ'' : jm_S}
theorem nw_q {n q : Nat} (h : q ≠ σ.2.2.1) : (jm_nw σ n).1 q = σ.1 q := by simp [jm_nw, jm_u, h]
theorem nw_a {n q : Nat} (h : q = σ.2.2.1) : (jm_nw σ n).1 q = fun _ => 0 := by simp [jm_nw, jm_u, h]
theorem nw_r {n q : Nat} (h : q ≠ σ.2.2.1) : (jm_nw σ n).2.1 q = σ.2.1 q := by simp [jm_nw, jm_u, h]
theorem nw_h {n : Nat} : (jm_nw σ n).2.2 = (σ.2.2.1 + 1, σ.2.2.2 + n) := rfl
theorem wr_1 {q k a : Nat} : (jm_wr σ q k a).1 = σ.1 := rfl
theorem wr_h {q k a : Nat} : (jm_wr σ q k a).2.2 = σ.2.2 := rfl
/-- the room that is left -/
def RM (g : jm_G) (σ : jm_S) (n N : Nat) : Prop := σ.2.2.1 + n ≤ gb g + 601024 ∧ σ.2.2.2 + N ≤ 7293000
/-- more cells, all of zeros; what was there stands -/
def Ext (σ σ' : jm_S) (n N : Nat) : Prop := σ'.2.2.1 = σ.2.2.1 + n ∧ σ'.2.2.2 = σ.2.2.2 + N ∧ (∀ q, q < σ.2.2.1 → σ'.1 q = σ.1 q) ∧ ∀ q k, σ.2.2.1 ≤ q → q < σ.2.2.1 + n → σ'.1 q k = 0
theorem Ext.refl (σ : jm_S) : Ext σ σ 0 0 := ⟨rfl, rfl, fun _ _ => rfl, fun q k a b => by omega⟩
theorem Ext.trans {n N n' N' : Nat} (h : Ext σ σ' n N) (h' : Ext σ' σ'' n' N') : Ext σ σ'' (n + n') (N + N') := by
  obtain ⟨a1, a2, a3, a4⟩ := h
  obtain ⟨b1, b2, b3, b4⟩ := h'
  refine ⟨by omega, by omega, fun q hq => (b3 q (by omega)).trans (a3 q hq), fun q k h1 h2 => ?_⟩
  by_cases c : q < σ.2.2.1 + n
  · rw [b3 q (by omega)]; exact a4 q k h1 c
  · exact b4 q k (by omega) (by omega)
theorem Ext.nw (σ : jm_S) (N : Nat) : Ext σ (jm_nw σ N) 1 N := ⟨rfl, rfl, fun q hq => nw_q (by omega), fun q k a b => by rw [nw_a (by omega)]⟩
theorem Ext.wr {n N q k a : Nat} (h : Ext σ σ' n N) : Ext σ (jm_wr σ' q k a) n N := h
theorem Ext.eq {n N n' N' : Nat} (h : Ext σ σ' n N) (hn : n = n') (hN : N = N') : Ext σ σ' n' N' := by subst hn hN; exact h
theorem jn {x : Int32} {N t a n : Nat} {L : List (Option jm_V)} {r : List jm_V} {P : Nat → List (Option jm_V) → List jm_V → jm_S → Prop} (hs : σ.2.2.1 = a) (hN : x.toNatClampNeg = N) (hx : ¬ x < 0) (ht : gdm g a = t) (hl : gln g a = N) (h1 : a + 1 ≤ gb g + 601024) (h2 : σ.2.2.2 + N ≤ 7293000) (hp : P n L (aR t a :: r) (jm_nw σ N)) : (¬ x < 0 ∧ gdm g (jm_hs σ) = t ∧ gln g (jm_hs σ) = x.toNatClampNeg ∧ jm_hs σ + 1 ≤ gb g + 601024 ∧ jm_ns σ + x.toNatClampNeg ≤ 7293000) ∧ P n L (aR t (jm_hs σ) :: r) (jm_nw σ x.toNatClampNeg) := by
  subst hs hN
  exact ⟨⟨hx, ht, hl, h1, h2⟩, hp⟩
theorem jo {N t a n : Nat} {L : List (Option jm_V)} {r : List jm_V} {P : Nat → List (Option jm_V) → List jm_V → jm_S → Prop} (hs : σ.2.2.1 = a) (ht : gdm g a = t) (h1 : a + 1 ≤ gb g + 601024) (h2 : σ.2.2.2 + N ≤ 7293000) (hp : P n L (aR t a :: r) (jm_nw σ N)) : (gdm g (jm_hs σ) = t ∧ jm_hs σ + 1 ≤ gb g + 601024 ∧ jm_ns σ + N ≤ 7293000) ∧ P n L (aR t (jm_hs σ) :: r) (jm_nw σ N) := by
  subst hs
  exact ⟨⟨ht, h1, h2⟩, hp⟩
/-- the tags of a polynomial's cells -/
def pT (g : jm_G) (a : Nat) : Prop := gdm g a = 5 ∧ (gdm g (a + 1) = 8 ∧ gdm g (a + 2) = 8 ∧ gdm g (a + 3) = 8) ∧ gln g (a + 1) = 100 ∧ gln g (a + 2) = 100 ∧ gln g (a + 3) = 100
theorem pl_fr {a : Nat} (h : pl g σ a) (hr : σ'.2.1 a = σ.2.1 a) : pl g σ' a := by
  unfold pl at h ⊢
  rw [hr]
  exact h
theorem c_Pinit {a : Nat} (hs : σ.2.2.1 = a + 1) (ht : pT g a) (hr : RM g σ 3 300) : J g d 3 0 [some (aR 5 a)] [] σ (fun u => ∃ σ', u = (σ', .inl none) ∧ Ext σ σ' 3 300 ∧ (∀ q, q < a → σ'.2.1 q = σ.2.1 q) ∧ pl g σ' a) := by
  obtain ⟨t0, ⟨t1, t2, t3⟩, l1, l2, l3⟩ := ht
  obtain ⟨r1, r2⟩ := hr
  have e1 := Ext.nw σ 100
  have e2 := e1.trans (Ext.nw (jm_wr (jm_nw σ 100) a 1 (a + 1 + 1)) 100)
  have e3 := e2.trans (Ext.nw (jm_wr (jm_nw (jm_wr (jm_nw σ 100) a 1 (a + 1 + 1)) 100) a 2 (a + 2 + 1)) 100)
  refine jm_run ok_P_init [] 90 (fun kk hk => ?_)
  conv => whnf
  refine jn (a := a + 1) (N := 100) hs rfl (by decide) t1 l1 (by omega) (by omega) ?_
  conv => whnf
  refine jn (a := a + 2) (N := 100) (by show σ.2.2.1 + 1 = a + 2; omega) rfl (by decide) t2 l2 (by omega) (by show σ.2.2.2 + 100 + 100 ≤ 7293000; omega) ?_
  conv => whnf
  refine jn (a := a + 3) (N := 100) (by show σ.2.2.1 + 1 + 1 = a + 3; omega) rfl (by decide) t3 l3 (by omega) (by show σ.2.2.2 + 100 + 100 + 100 ≤ 7293000; omega) ?_
  conv => whnf
  refine hk _ _ _ _ (r_P_init_28 ⟨_, rfl, (e3.wr (q := a) (k := 3) (a := a + 3 + 1)).eq rfl rfl, fun q hq => ?_, ?_⟩)
  · rw [jm_wr_q (by omega), nw_r (by show q ≠ σ.2.2.1 + 1 + 1; omega), jm_wr_q (by omega), nw_r (by show q ≠ σ.2.2.1 + 1; omega), jm_wr_q (by omega), nw_r (by omega)]
  · refine ⟨?_, ?_, jm_wr_at, l1, l2, l3⟩
    · rw [jm_wr_k (by decide), nw_r (by show a ≠ σ.2.2.1 + 1 + 1; omega), jm_wr_k (by decide), nw_r (by show a ≠ σ.2.2.1 + 1; omega), jm_wr_at]
    · rw [jm_wr_k (by decide), nw_r (by show a ≠ σ.2.2.1 + 1 + 1; omega), jm_wr_at]
theorem c_Finit {a : Nat} : J g d 5 0 [some (aR 4 a)] [] σ (fun u => u = (σ, .inl none)) := by
  refine jm_run ok_F_init [] 90 (fun kk hk => ?_)
  conv => whnf
  exact hk _ _ _ _ (r_F_init_4 rfl)
/-- a row of polynomials -/
theorem c_polys {a n : Nat} (hs : σ.2.2.1 = a) (hn : n ≤ 40) (t0 : gdm g a = 10) (l0 : gln g a = n) (ht : ∀ k, k < n → pT g (a + 1 + 4 * k)) (hr : RM g σ (1 + 4 * n) (n + 304 * n)) :
    J g (d + 1) 2 0 [some (aI (nI n)), none, none] [] σ (fun u => ∃ σ', u = (σ', .inl (some (aR 10 a))) ∧ Ext σ σ' (1 + 4 * n) (n + 304 * n) ∧ (∀ q, q < a → σ'.2.1 q = σ.2.1 q) ∧ ∀ k, k < n → σ'.2.1 a k = a + 1 + 4 * k + 1 ∧ pl g σ' (a + 1 + 4 * k)) := by
  obtain ⟨r1, r2⟩ := hr
  have loop : ∀ (N i : Nat), i + N = n → ∀ τ : jm_S, Ext σ τ (1 + 4 * i) (n + 304 * i) → (∀ q, q < a → τ.2.1 q = σ.2.1 q) → (∀ k, k < i → τ.2.1 a k = a + 1 + 4 * k + 1 ∧ pl g τ (a + 1 + 4 * k)) → J g (d + 1) 2 7 [some (aI (nI n)), some (aR 10 a), some (aI (nI i))] [] τ (fun u => ∃ σ', u = (σ', .inl (some (aR 10 a))) ∧ Ext σ σ' (1 + 4 * n) (n + 304 * n) ∧ (∀ q, q < a → σ'.2.1 q = σ.2.1 q) ∧ ∀ k, k < n → σ'.2.1 a k = a + 1 + 4 * k + 1 ∧ pl g σ' (a + 1 + 4 * k)) := by
    intro N
    induction N with
    | zero =>
      intro i hi τ hE hq hk0
      obtain rfl : i = n := by omega
      refine jm_run ok_H_polys [7] 90 (fun kk hk => ?_)
      conv => whnf
      refine b_le (a := i) (b := i) rfl rfl (fun _ => ?_) (fun h => by omega)
      conv => whnf
      exact hk _ _ _ _ (r_H_polys_29 ⟨τ, rfl, hE, hq, hk0⟩)
    | succ N ih =>
      intro i hi τ hE hq hk0
      have hti := ht i (by omega)
      have hτ : τ.2.2.1 = a + 1 + 4 * i := by rw [hE.1]; omega
      have hτ2 := hE.2.1
      refine jm_run ok_H_polys [7] 90 (fun kk hk => ?_)
      conv => whnf
      refine b_le (a := n) (b := i) rfl rfl (fun h => by omega) (fun _ => ?_)
      conv => whnf
      refine jo (a := a + 1 + 4 * i) hτ hti.1 (by omega) (by omega) ?_
      conv => whnf
      refine hk _ _ _ _ (k_H_polys_18 rfl (c_Pinit (σ := jm_nw τ 4) (a := a + 1 + 4 * i) (by show τ.2.2.1 + 1 = _; omega) hti ⟨by show τ.2.2.1 + 1 + 3 ≤ _; omega, by show τ.2.2.2 + 4 + 300 ≤ _; omega⟩) (fun u hu => ?_))
      obtain ⟨τ2, hu, hE2, hq2, hpl⟩ := hu
      subst hu
      have hE3 := (hE.trans ((Ext.nw τ 4).trans hE2)).wr (q := a) (k := i) (a := a + 1 + 4 * i + 1)
      show J g (d + 1) 2 21 _ _ τ2 _
      refine jm_run ok_H_polys [7] 90 (fun kk hk => ?_)
      conv => whnf
      refine ⟨vp_in_iff.mpr (by rw [nI_toInt (by omega), l0]; omega), ?_⟩
      conv => whnf
      rw [nI_clamp (by omega), nI_1]
      refine hk _ _ _ _ (ih (i + 1) (by omega) _ (hE3.eq (by omega) (by omega)) (fun q hqa => ?_) (fun k hki => ?_))
      · rw [jm_wr_q (by omega), hq2 q (by omega), nw_r (by omega)]; exact hq q hqa
      · by_cases e : k = i
        · subst e
          exact ⟨jm_wr_at, pl_fr hpl (jm_wr_q (by omega))⟩
        · have h9 := hk0 k (by omega)
          refine ⟨?_, pl_fr h9.2 ?_⟩
          · rw [jm_wr_k e, hq2 a (by omega), nw_r (by omega)]; exact h9.1
          · rw [jm_wr_q (by omega), hq2 _ (by omega), nw_r (by omega)]
  refine jm_run ok_H_polys [7] 90 (fun kk hk => ?_)
  conv => whnf
  refine jn (a := a) (N := n) hs (nI_clamp (by omega)) (fun q => by have := Int32.lt_iff_toInt_lt.mp q; rw [nI_toInt (by omega)] at this; have e0 : (0 : Int32).toInt = 0 := rfl; omega) t0 l0 (by omega) (by omega) ?_
  conv => whnf
  exact hk _ _ _ _ (loop n 0 (by omega) _ ((Ext.nw σ n).eq rfl rfl) (fun q hq => nw_r (by omega)) (fun k hk => absurd hk (Nat.not_lt_zero _)))
/-- the tags of an element's cells -/
def eT (g : jm_G) (a n : Nat) : Prop := gdm g a = 3 ∧ pT g (a + 1) ∧ gdm g (a + 5) = 10 ∧ gln g (a + 5) = n ∧ ∀ k, k < n → pT g (a + 6 + 4 * k)
/-- an element as it's laid -/
def eP (g : jm_G) (σ : jm_S) (a n : Nat) : Prop := σ.2.1 a 0 = a + 1 + 1 ∧ σ.2.1 a 1 = a + 5 + 1 ∧ pl g σ (a + 1) ∧ gln g (a + 5) = n ∧ ∀ k, k < n → σ.2.1 (a + 5) k = a + 6 + 4 * k + 1 ∧ pl g σ (a + 6 + 4 * k)
theorem eP_fr {a n : Nat} (h : eP g σ a n) (hr : ∀ q, a ≤ q → q < a + 6 + 4 * n → σ'.2.1 q = σ.2.1 q) : eP g σ' a n := by
  obtain ⟨h1, h2, h3, h4, h5⟩ := h
  refine ⟨by rw [hr a (by omega) (by omega)]; exact h1, by rw [hr a (by omega) (by omega)]; exact h2, pl_fr h3 (hr _ (by omega) (by omega)), h4, fun k hk => ⟨by rw [hr _ (by omega) (by omega)]; exact (h5 k hk).1, pl_fr (h5 k hk).2 (hr _ (by omega) (by omega))⟩⟩
theorem c_Einit {a n : Nat} (hs : σ.2.2.1 = a + 1) (hn : n ≤ 40) (ht : eT g a n) (hr : RM g σ (5 + 4 * n) (304 + n + 304 * n)) :
    J g (d + 2) 6 0 [some (aR 3 a), some (aI (nI n))] [] σ (fun u => ∃ σ', u = (σ', .inl none) ∧ Ext σ σ' (5 + 4 * n) (304 + n + 304 * n) ∧ (∀ q, q < a → σ'.2.1 q = σ.2.1 q) ∧ eP g σ' a n) := by
  obtain ⟨t0, tp, t5, l5, tk⟩ := ht
  obtain ⟨r1, r2⟩ := hr
  refine jm_run ok_E_init [] 90 (fun kk hk => ?_)
  conv => whnf
  refine jo (a := a + 1) hs tp.1 (by omega) (by omega) ?_
  conv => whnf
  refine hk _ _ _ _ (k_E_init_9 rfl (c_Pinit (σ := jm_nw σ 4) (a := a + 1) (by show σ.2.2.1 + 1 = _; omega) tp ⟨by show σ.2.2.1 + 1 + 3 ≤ _; omega, by show σ.2.2.2 + 4 + 300 ≤ _; omega⟩) (fun u hu => ?_))
  obtain ⟨τ, hu, hE, hq, hpl⟩ := hu
  subst hu
  have hE1 := (Ext.nw σ 4).trans hE
  have hτ := hE1.1
  have hτ2 := hE1.2.1
  show J g (d + 2) 6 12 _ _ τ _
  refine jm_run ok_E_init [] 90 (fun kk hk => ?_)
  conv => whnf
  refine hk _ _ _ _ (k_E_init_17 rfl (c_polys (σ := jm_wr τ a 0 (a + 1 + 1)) (a := a + 5) (n := n) (by show τ.2.2.1 = _; omega) hn t5 l5 (fun k hk => by rw [show a + 5 + 1 + 4 * k = a + 6 + 4 * k by omega]; exact tk k hk) ⟨by show τ.2.2.1 + _ ≤ _; omega, by show τ.2.2.2 + _ ≤ _; omega⟩) (fun u hu => ?_))
  obtain ⟨τ2, hu, hE2, hq2, hk2⟩ := hu
  subst hu
  have hE3 := ((hE1.wr (q := a) (k := 0) (a := a + 1 + 1)).trans hE2).wr (q := a) (k := 1) (a := a + 5 + 1)
  show J g (d + 2) 6 20 _ _ τ2 _
  refine jm_run ok_E_init [] 90 (fun kk hk => ?_)
  conv => whnf
  refine hk _ _ _ _ (r_E_init_23 ⟨_, rfl, hE3.eq (by omega) (by omega), fun q hqa => ?_, ?_, jm_wr_at, ?_, l5, fun k hk => ?_⟩)
  · rw [jm_wr_q (by omega), hq2 q (by omega), jm_wr_q (by omega), hq q (by omega), nw_r (by omega)]
  · rw [jm_wr_k (by decide), hq2 a (by omega), jm_wr_at]
  · exact pl_fr hpl (by rw [jm_wr_q (by omega), hq2 _ (by omega), jm_wr_q (by omega)])
  · have h9 := hk2 k hk
    rw [show a + 5 + 1 + 4 * k = a + 6 + 4 * k by omega] at h9
    exact ⟨by rw [jm_wr_q (by omega)]; exact h9.1, pl_fr h9.2 (jm_wr_q (by omega))⟩
end
