/-! TOOLS: what a step asks, met by numbers -/
section
variable {g : jm_G} {n : Nat} {L : List (Option jm_V)} {r : List jm_V} {σ : jm_S} {K : Nat → List (Option jm_V) → List jm_V → jm_S → Prop}
/-- a reference read from a field -/
theorem jg {x t y : Nat} (h : x = y + 1) (hp : K n L (aR t y :: r) σ) : x ≠ 0 ∧ K n L (aR t (x - 1) :: r) σ := by
  subst h
  exact ⟨Nat.succ_ne_zero _, hp⟩
/-- a number read from an array -/
theorem ja {q i N : Nat} {x y : Int32} (hx : x = nI i) (hN : gln g q = N) (hv : σ.1 q i = y) (hp : K n L (aI y :: r) σ) (hi : i < N := by omega) (hN2 : N < 2147483648 := by omega) : vp_in x (gln g q) ∧ K n L (aI (σ.1 q x.toNatClampNeg) :: r) σ := by
  subst hx hN hv
  rw [nI_clamp (by omega)]
  exact ⟨vp_in_nI hi hN2, hp⟩
/-- a number written to an array -/
theorem jw {q i N : Nat} {x v : Int32} (hx : x = nI i) (hN : gln g q = N) (hp : K n L r (jm_wi σ q i v)) (hi : i < N := by omega) (hN2 : N < 2147483648 := by omega) : vp_in x (gln g q) ∧ K n L r (jm_wi σ q x.toNatClampNeg v) := by
  subst hx hN
  rw [nI_clamp (by omega)]
  exact ⟨vp_in_nI hi hN2, hp⟩
/-- a reference read from an array -/
theorem jr {q i N t y : Nat} {x : Int32} (hx : x = nI i) (hN : gln g q = N) (hv : σ.2.1 q i = y + 1) (hp : K n L (aR t y :: r) σ) (hi : i < N := by omega) (hN2 : N < 2147483648 := by omega) : vp_in x (gln g q) ∧ σ.2.1 q x.toNatClampNeg ≠ 0 ∧ K n L (aR t (σ.2.1 q x.toNatClampNeg - 1) :: r) σ := by
  subst hx hN
  rw [nI_clamp (by omega), hv]
  exact ⟨vp_in_nI hi hN2, Nat.succ_ne_zero _, hp⟩
end
section
variable {x y : Int32} {A B : Prop}
theorem b_le {a b : Nat} (hx : x = nI a) (hy : y = nI b) (f : a ≤ b → A) (h : b < a → B) (ha : a < 2147483648 := by omega) (hb : b < 2147483648 := by omega) : (x ≤ y → A) ∧ (¬ x ≤ y → B) := by
  subst hx hy
  rw [nI_leI ha hb]
  exact ⟨f, fun q => h (by omega)⟩
theorem b_lt {a b : Nat} (hx : x = nI a) (hy : y = nI b) (f : a < b → A) (h : b ≤ a → B) (ha : a < 2147483648 := by omega) (hb : b < 2147483648 := by omega) : (x < y → A) ∧ (¬ x < y → B) := by
  subst hx hy
  rw [nI_ltI ha hb]
  exact ⟨f, fun q => h (by omega)⟩
theorem b_eq {a b : Nat} (hx : x = nI a) (hy : y = nI b) (f : a = b → A) (h : a ≠ b → B) (ha : a < 2147483648 := by omega) (hb : b < 2147483648 := by omega) : (x = y → A) ∧ (¬ x = y → B) := by
  subst hx hy
  rw [nI_eq ha hb]
  exact ⟨f, h⟩
theorem b_ne {a b : Nat} (hx : x = nI a) (hy : y = nI b) (h : a ≠ b → A) (f : a = b → B) (ha : a < 2147483648 := by omega) (hb : b < 2147483648 := by omega) : (¬ x = y → A) ∧ (x = y → B) := by
  subst hx hy
  rw [nI_eq ha hb]
  exact ⟨h, f⟩
/-- a truth value is tested -/
theorem b_z {b : Bool} (hx : x = sp_bi b) (f : b = false → A) (h : b = true → B) : (x = 0 → A) ∧ (¬ x = 0 → B) := by
  subst hx
  cases b
  · exact ⟨fun _ => f rfl, fun q => absurd rfl q⟩
  · exact ⟨fun q => absurd q (by decide), fun _ => h rfl⟩
theorem b_nz {b : Bool} (hx : x = sp_bi b) (f : b = true → A) (h : b = false → B) : (¬ x = 0 → A) ∧ (x = 0 → B) := by
  subst hx
  cases b
  · exact ⟨fun q => absurd rfl q, fun _ => h rfl⟩
  · exact ⟨fun _ => f rfl, fun q => absurd q (by decide)⟩
end
theorem jm_wi_at {σ : jm_S} {q k : Nat} {x : Int32} : (jm_wi σ q k x).1 q k = x := by simp [jm_wi, jm_u]
theorem jm_wi_q {σ : jm_S} {q k q' : Nat} {x : Int32} (h : q' ≠ q) : (jm_wi σ q k x).1 q' = σ.1 q' := by simp [jm_wi, jm_u, h]
theorem jm_wi_k {σ : jm_S} {q k k' : Nat} {x : Int32} (h : k' ≠ k) : (jm_wi σ q k x).1 q k' = σ.1 q k' := by simp [jm_wi, jm_u, h]
theorem jm_wi_1 (σ : jm_S) (q k : Nat) (x : Int32) (q' k' : Nat) : (jm_wi σ q k x).1 q' k' = if q' = q ∧ k' = k then x else σ.1 q' k' := by
  by_cases h : q' = q
  · subst h
    by_cases h2 : k' = k
    · subst h2; simp [jm_wi, jm_u]
    · simp [jm_wi, jm_u, h2]
  · simp [jm_wi, jm_u, h]
theorem jm_wi_2 (σ : jm_S) (q k : Nat) (x : Int32) : (jm_wi σ q k x).2 = σ.2 := rfl
theorem J_mono {g : jm_G} {d id pc : Nat} {L : List (Option jm_V)} {stk : List jm_V} {σ : jm_S} {K K' : jm_O → Prop} (h : J g d id pc L stk σ K) (hK : ∀ u, K u → K' u) : J g d id pc L stk σ K' := by
  intro p l e R s m args below meth c H locs cells slots ls n0 hfl F hr hl hs hS h1 h2 T hT X
  obtain ⟨t, hst, o, u, a1, a2, a3, a4⟩ := h p l e R s m args below meth c H locs cells slots ls n0 hfl F hr hl hs hS h1 h2 T hT X
  exact ⟨t, hst, o, u, a1, a2, hK u a3, a4⟩
