/-! SPEC: monomials: five exponents; the component packs them by six bits, the model by five -/
abbrev sp_M : Type := Nat × (Nat × (Nat × (Nat × Nat)))
def sp_ex (m : sp_M) (v : Nat) : Nat := match v with
  | 0 => m.1
  | 1 => m.2.1
  | 2 => m.2.2.1
  | 3 => m.2.2.2.1
  | _ => m.2.2.2.2
/-- all exponents at most 30 -/
def sp_ok (m : sp_M) : Prop := m.1 ≤ 30 ∧ m.2.1 ≤ 30 ∧ m.2.2.1 ≤ 30 ∧ m.2.2.2.1 ≤ 30 ∧ m.2.2.2.2 ≤ 30
def sp_6 (m : sp_M) : Nat := m.1 * 16777216 + m.2.1 * 262144 + m.2.2.1 * 4096 + m.2.2.2.1 * 64 + m.2.2.2.2
def sp_c (m : sp_M) : Int32 := nI (sp_6 m)
theorem sp_ok_ex {m : sp_M} (h : sp_ok m) (v : Nat) : sp_ex m v ≤ 30 := by
  obtain ⟨h0, h1, h2, h3, h4⟩ := h
  unfold sp_ex
  split <;> assumption
theorem sp_6_lt {m : sp_M} (h : sp_ok m) : sp_6 m < 536870912 := by
  obtain ⟨h0, h1, h2, h3, h4⟩ := h
  unfold sp_6
  omega
theorem sp_6_ex {m : sp_M} (h : sp_ok m) : ∀ v, v < 5 → sp_6 m / 2 ^ (6 * (4 - v)) % 64 = sp_ex m v := by
  obtain ⟨h0, h1, h2, h3, h4⟩ := h
  intro v hv
  have : v = 0 ∨ v = 1 ∨ v = 2 ∨ v = 3 ∨ v = 4 := by omega
  rcases this with rfl | rfl | rfl | rfl | rfl
  · show sp_6 m / 16777216 % 64 = m.1; unfold sp_6; omega
  · show sp_6 m / 262144 % 64 = m.2.1; unfold sp_6; omega
  · show sp_6 m / 4096 % 64 = m.2.2.1; unfold sp_6; omega
  · show sp_6 m / 64 % 64 = m.2.2.2.1; unfold sp_6; omega
  · show sp_6 m / 1 % 64 = m.2.2.2.2; unfold sp_6; omega
theorem sp_cex {m : sp_M} (h : sp_ok m) {v : Nat} (hv : v < 5) : (sp_c m >>> ((6 * (4 - nI v)) &&& 31)) &&& 63 = nI (sp_ex m v) := by
  have hl := sp_6_lt h
  have h5 := sp_6_ex h v hv
  unfold sp_c
  have : v = 0 ∨ v = 1 ∨ v = 2 ∨ v = 3 ∨ v = 4 := by omega
  rcases this with rfl | rfl | rfl | rfl | rfl
  · rw [pk_shrN (by omega) _ 24 (by decide), pk_andN (by omega) 6 (by decide)]; exact congrArg nI h5
  · rw [pk_shrN (by omega) _ 18 (by decide), pk_andN (by omega) 6 (by decide)]; exact congrArg nI h5
  · rw [pk_shrN (by omega) _ 12 (by decide), pk_andN (by omega) 6 (by decide)]; exact congrArg nI h5
  · rw [pk_shrN (by omega) _ 6 (by decide), pk_andN (by omega) 6 (by decide)]; exact congrArg nI h5
  · rw [pk_shrN (by omega) _ 0 (by decide), pk_andN (by omega) 6 (by decide)]; exact congrArg nI h5
/-- ends: with a value, memory as it was; with none -/
def jR (σ : jm_S) (v : jm_V) : jm_O → Prop := fun u => u = (σ, .inl (some v))
def jV (σ : jm_S) : jm_O → Prop := fun u => u = (σ, .inl none)
def sp_bi (b : Bool) : Int32 := cond b 1 0
theorem sp_bi_and (a b : Bool) : sp_bi a &&& sp_bi b = sp_bi (a && b) := by cases a <;> cases b <;> decide
theorem sp_bi_01 (b : Bool) : sp_bi b = 0 ∨ sp_bi b = 1 := by cases b; exact Or.inl rfl; exact Or.inr rfl
section
variable {g : jm_G} {d : Nat} {σ : jm_S}
theorem c_exponent {m : sp_M} (hm : sp_ok m) {v : Nat} (hv : v < 5) : J g d 14 0 [some (aI (sp_c m)), some (aI (nI v))] [] σ (jR σ (aI (nI (sp_ex m v)))) := by
  refine jm_run ok_H_exponent [] 50 (fun k hk => ?_)
  conv => whnf
  refine hk _ _ _ _ (r_H_exponent_11 ?_)
  show (σ, _) = (σ, _)
  rw [sp_cex hm hv]
def sp_dk (a b : sp_M) (n : Nat) : Bool := (List.range n).all (fun i => decide (sp_ex a i ≤ sp_ex b i))
/-- a divides b -/
def sp_dv (a b : sp_M) : Bool := sp_dk a b 5
theorem sp_dk_s (a b : sp_M) (n : Nat) : sp_dk a b (n + 1) = (sp_dk a b n && decide (sp_ex a n ≤ sp_ex b n)) := by
  simp [sp_dk, List.range_succ, List.all_append]
theorem c_divides {a b : sp_M} (ha : sp_ok a) (hb : sp_ok b) : J g (d + 1) 54 0 [some (aI (sp_c a)), some (aI (sp_c b)), none, none] [] σ (jR σ (aI (sp_bi (sp_dv a b)))) := by
  have loop : ∀ k v, v + k = 5 → J g (d + 1) 54 4 [some (aI (sp_c a)), some (aI (sp_c b)), some (aI (sp_bi (sp_dk a b v))), some (aI (nI v))] [] σ (jR σ (aI (sp_bi (sp_dv a b)))) := by
    intro k
    induction k with
    | zero =>
      intro v hv
      have : v = 5 := by omega
      subst this
      refine jm_run ok_H_divides [4] 50 (fun k hk => ?_)
      conv => whnf
      refine ⟨fun _ => ?_, fun h => absurd (show (5 : Int32) ≤ nI 5 by decide) h⟩
      conv => whnf
      exact hk _ _ _ _ (r_H_divides_37 (sp_bi_01 _) rfl)
    | succ k ih =>
      intro v hv
      have hv5 : v < 5 := by omega
      refine jm_run ok_H_divides [4] 50 (fun k hk => ?_)
      conv => whnf
      refine ⟨fun h => absurd h (lt5' v hv5), fun _ => ?_⟩
      conv => whnf
      refine hk _ _ _ _ (k_H_divides_12 rfl (c_exponent ha hv5) (fun u hu => ?_))
      subst hu
      refine jm_run ok_H_divides [4] 50 (fun k hk => ?_)
      conv => whnf
      refine hk _ _ _ _ (k_H_divides_17 rfl (c_exponent hb hv5) (fun u hu => ?_))
      subst hu
      refine jm_run ok_H_divides [4] 50 (fun k hk => ?_)
      conv => whnf
      have hxa := sp_ok_ex ha v
      have hxb := sp_ok_ex hb v
      refine ⟨fun h => ?_, fun h => ?_⟩
      · conv => whnf
        have := ih (v + 1) (by omega)
        rw [sp_dk_s, show decide (sp_ex a v ≤ sp_ex b v) = false from decide_eq_false (fun q => absurd h (nI_nlt q (by omega))), ← sp_bi_and, ← nI_1] at this
        exact hk _ _ _ _ this
      · conv => whnf
        have := ih (v + 1) (by omega)
        rw [sp_dk_s, show decide (sp_ex a v ≤ sp_ex b v) = true from decide_eq_true (Nat.not_lt.mp fun q => h (nI_lt q (by omega))), ← sp_bi_and, ← nI_1] at this
        exact hk _ _ _ _ this
  refine jm_run ok_H_divides [4] 50 (fun k hk => ?_)
  conv => whnf
  exact hk _ _ _ _ (loop 5 0 rfl)
end
