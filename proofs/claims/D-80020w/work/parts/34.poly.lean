/-! SPEC: terms, polynomials; Fraction times, plus; Poly remove, insert, become -/
abbrev sp_T : Type := Int × (Int × sp_M)
abbrev sp_P : Type := List sp_T
def sp_tw (t : sp_T) : Prop := t.1 ≠ 0 ∧ t.1.natAbs ≤ 1000000000 ∧ 1 ≤ t.2.1 ∧ t.2.1 ≤ 1000000000 ∧ sp_ok t.2.2
def sp_pw (p : sp_P) : Prop := p.length ≤ 100 ∧ ∀ t ∈ p, sp_tw t
/-- the component's polynomial at a is p -/
def PA (f : Nat → Nat → Int32) (a : Nat) (p : sp_P) : Prop := f a 0 = nI p.length ∧ ∀ i t, p[i]? = some t → f (a + 1) i = sp_i t.1 ∧ f (a + 2) i = sp_i t.2.1 ∧ f (a + 3) i = sp_c t.2.2
/-- a polynomial lies at a -/
def pl (g : jm_G) (σ : jm_S) (a : Nat) : Prop := σ.2.1 a 1 = a + 1 + 1 ∧ σ.2.1 a 2 = a + 2 + 1 ∧ σ.2.1 a 3 = a + 3 + 1 ∧ gln g (a + 1) = 100 ∧ gln g (a + 2) = 100 ∧ gln g (a + 3) = 100
/-- rows with the places from k up to i moved down -/
def shD (f : Nat → Nat → Int32) (a k i : Nat) : Nat → Nat → Int32 := fun q t => if (q = a + 1 ∨ q = a + 2 ∨ q = a + 3) ∧ k ≤ t ∧ t < i then f q (t + 1) else f q t
def shU (f : Nat → Nat → Int32) (a i n : Nat) : Nat → Nat → Int32 := fun q t => if (q = a + 1 ∨ q = a + 2 ∨ q = a + 3) ∧ i < t ∧ t ≤ n then f q (t - 1) else f q t
theorem shD_0 (f : Nat → Nat → Int32) (a k : Nat) : shD f a k k = f := by
  funext q t
  unfold shD
  rw [if_neg (by omega)]
theorem shU_0 (f : Nat → Nat → Int32) (a n : Nat) : shU f a n n = f := by
  funext q t
  unfold shU
  rw [if_neg (by omega)]
theorem shD_s {f : Nat → Nat → Int32} {r : (Nat → Nat → Nat) × (Nat × Nat)} {a k i : Nat} (h : k ≤ i) : jm_wi (jm_wi (jm_wi (shD f a k i, r) (a + 1) i (f (a + 1) (i + 1))) (a + 2) i (f (a + 2) (i + 1))) (a + 3) i (f (a + 3) (i + 1)) = (shD f a k (i + 1), r) := by
  apply Prod.ext
  · funext q t
    rw [jm_wi_1, jm_wi_1, jm_wi_1]
    dsimp only [shD]
    by_cases ht : t = i
    · subst ht
      by_cases h1 : q = a + 3
      · subst h1; rw [if_pos ⟨rfl, rfl⟩, if_pos (by omega)]
      · rw [if_neg (by omega)]
        by_cases h2 : q = a + 2
        · subst h2; rw [if_pos ⟨rfl, rfl⟩, if_pos (by omega)]
        · rw [if_neg (by omega)]
          by_cases h3 : q = a + 1
          · subst h3; rw [if_pos ⟨rfl, rfl⟩, if_pos (by omega)]
          · rw [if_neg (by omega), if_neg (by omega), if_neg (by omega)]
    · rw [if_neg (by omega), if_neg (by omega), if_neg (by omega)]
      by_cases h4 : (q = a + 1 ∨ q = a + 2 ∨ q = a + 3) ∧ k ≤ t ∧ t < i
      · rw [if_pos h4, if_pos (by omega)]
      · rw [if_neg h4, if_neg (by omega)]
  · rfl
theorem shU_s {f : Nat → Nat → Int32} {r : (Nat → Nat → Nat) × (Nat × Nat)} {a n i : Nat} (h : i + 1 ≤ n) : jm_wi (jm_wi (jm_wi (shU f a (i + 1) n, r) (a + 1) (i + 1) (f (a + 1) i)) (a + 2) (i + 1) (f (a + 2) i)) (a + 3) (i + 1) (f (a + 3) i) = (shU f a i n, r) := by
  apply Prod.ext
  · funext q t
    rw [jm_wi_1, jm_wi_1, jm_wi_1]
    dsimp only [shU]
    by_cases ht : t = i + 1
    · subst ht
      by_cases h1 : q = a + 3
      · subst h1; rw [if_pos ⟨rfl, rfl⟩, if_pos (by omega)]; rfl
      · rw [if_neg (by omega)]
        by_cases h2 : q = a + 2
        · subst h2; rw [if_pos ⟨rfl, rfl⟩, if_pos (by omega)]; rfl
        · rw [if_neg (by omega)]
          by_cases h3 : q = a + 1
          · subst h3; rw [if_pos ⟨rfl, rfl⟩, if_pos (by omega)]; rfl
          · rw [if_neg (by omega), if_neg (by omega), if_neg (by omega)]
    · rw [if_neg (by omega), if_neg (by omega), if_neg (by omega)]
      by_cases h4 : (q = a + 1 ∨ q = a + 2 ∨ q = a + 3) ∧ i + 1 < t ∧ t ≤ n
      · rw [if_pos h4, if_pos (by omega)]
      · rw [if_neg h4, if_neg (by omega)]
  · rfl
section
variable {g : jm_G} {d : Nat} {σ : jm_S}
theorem c_remove {a n k0 : Nat} (hp : pl g σ a) (hn : n < 100) (hk0 : k0 ≤ n) (hs : σ.1 a 0 = nI (n + 1)) : J g d 26 0 [some (aR 5 a), some (aI (nI k0)), none] [] σ (jV (shD (jm_wi σ a 0 (nI n)).1 a k0 n, σ.2)) := by
  obtain ⟨p1, p2, p3, l1, l2, l3⟩ := hp
  have loop : ∀ m i, i + m = n → k0 ≤ i → ∀ τ, τ = (shD (jm_wi σ a 0 (nI n)).1 a k0 i, σ.2) → J g d 26 12 [some (aR 5 a), some (aI (nI k0)), some (aI (nI i))] [] τ (jV (shD (jm_wi σ a 0 (nI n)).1 a k0 n, σ.2)) := by
    intro m
    induction m with
    | zero =>
      intro i hi hki τ hτ
      have e0 : τ.1 a 0 = nI n := by rw [hτ]; dsimp only [shD]; rw [if_neg (by omega), jm_wi_at]
      refine jm_run ok_P_remove [12] 90 (fun kk hk => ?_)
      conv => whnf
      refine b_le e0 rfl (fun _ => ?_) (fun h => by omega)
      conv => whnf
      exact hk _ _ _ _ (r_P_remove_68 (by rw [hτ, show i = n by omega]; rfl))
    | succ m ih =>
      intro i hi hki τ hτ
      have e0 : τ.1 a 0 = nI n := by rw [hτ]; dsimp only [shD]; rw [if_neg (by omega), jm_wi_at]
      have e2 : τ.2 = σ.2 := by rw [hτ]
      have e1 : ∀ q, τ.1 q (i + 1) = (jm_wi σ a 0 (nI n)).1 q (i + 1) := by intro q; rw [hτ]; dsimp only [shD]; rw [if_neg (by omega)]
      rw [← e2] at p1 p2 p3
      refine jm_run ok_P_remove [12] 90 (fun kk hk => ?_)
      conv => whnf
      refine b_le e0 rfl (fun h => by omega) (fun _ => ?_)
      conv => whnf
      refine jg p1 ?_
      conv => whnf
      refine jg p1 ?_
      conv => whnf
      refine ja (nI_1 i) l1 (e1 _) ?_
      conv => whnf
      refine jw rfl l1 ?_
      conv => whnf
      refine jg p2 ?_
      conv => whnf
      refine jg p2 ?_
      conv => whnf
      refine ja (nI_1 i) l2 ((congrFun (jm_wi_q (by omega)) _).trans (e1 _)) ?_
      conv => whnf
      refine jw rfl l2 ?_
      conv => whnf
      refine jg p3 ?_
      conv => whnf
      refine jg p3 ?_
      conv => whnf
      refine ja (nI_1 i) l3 ((congrFun (jm_wi_q (by omega)) _).trans ((congrFun (jm_wi_q (by omega)) _).trans (e1 _))) ?_
      conv => whnf
      refine jw rfl l3 ?_
      conv => whnf
      rw [nI_1, hτ, shD_s hki]
      exact hk _ _ _ _ (ih (i + 1) (by omega) (by omega) _ rfl)
  refine jm_run ok_P_remove [12] 90 (fun kk hk => ?_)
  conv => whnf
  rw [hs, nI_pred]
  exact hk _ _ _ _ (loop _ k0 (Nat.add_sub_cancel' hk0) (Nat.le_refl _) _ (by rw [shD_0]; rfl))
end
