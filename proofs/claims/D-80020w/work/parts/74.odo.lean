/-! PLAIN: boxes of monomials -/
/-- an exponent is put into a monomial -/
def sp_up (m : sp_M) (v e : Nat) : sp_M := match v with
  | 0 => (e, m.2)
  | 1 => (m.1, (e, m.2.2))
  | 2 => (m.1, (m.2.1, (e, m.2.2.2)))
  | 3 => (m.1, (m.2.1, (m.2.2.1, (e, m.2.2.2.2))))
  | _ => (m.1, (m.2.1, (m.2.2.1, (m.2.2.2.1, e))))
theorem sp_up_at (m : sp_M) {v : Nat} (hv : v < 5) (e : Nat) : sp_ex (sp_up m v e) v = e := by
  rcases lt5 hv with h | h | h | h | h <;> (subst h; rfl)
theorem sp_up_ne (m : sp_M) {v i : Nat} (hv : v < 5) (hi : i < 5) (h : i ≠ v) (e : Nat) : sp_ex (sp_up m v e) i = sp_ex m i := by
  rcases lt5 hv with a | a | a | a | a <;> (subst a; rcases lt5 hi with b | b | b | b | b <;> (subst b; first | rfl | exact absurd rfl h))
theorem sp_M_ext {a b : sp_M} (h : ∀ i, i < 5 → sp_ex a i = sp_ex b i) : a = b := by
  obtain ⟨a0, a1, a2, a3, a4⟩ := a
  obtain ⟨b0, b1, b2, b3, b4⟩ := b
  have h0 : a0 = b0 := h 0 (by decide)
  have h1 : a1 = b1 := h 1 (by decide)
  have h2 : a2 = b2 := h 2 (by decide)
  have h3 : a3 = b3 := h 3 (by decide)
  have h4 : a4 = b4 := h 4 (by decide)
  subst h0 h1 h2 h3 h4
  rfl
theorem sp_ok_of {m : sp_M} (h : ∀ i, i < 5 → sp_ex m i ≤ 30) : sp_ok m := ⟨h 0 (by decide), h 1 (by decide), h 2 (by decide), h 3 (by decide), h 4 (by decide)⟩
theorem sp_up_ok {m : sp_M} {v e : Nat} (hm : sp_ok m) (hv : v < 5) (he : e ≤ 30) : sp_ok (sp_up m v e) := sp_ok_of (fun i hi => by
  by_cases h : i = v
  · subst h; rw [sp_up_at m hv]; exact he
  · rw [sp_up_ne m hv hi h]; exact sp_ok_ex hm i)
/-- a pure power -/
def pvp (v e : Nat) : sp_M := sp_up sp_zm v e
theorem sp_6_up (m : sp_M) {v : Nat} (hv : v < 5) (e : Nat) : sp_6 (sp_up m v e) + sp_ex m v * 2 ^ (6 * (4 - v)) = sp_6 m + e * 2 ^ (6 * (4 - v)) := by
  rcases lt5 hv with h | h | h | h | h <;> subst h
  · show e * 16777216 + m.2.1 * 262144 + m.2.2.1 * 4096 + m.2.2.2.1 * 64 + m.2.2.2.2 + m.1 * 2 ^ 24 = (m.1 * 16777216 + m.2.1 * 262144 + m.2.2.1 * 4096 + m.2.2.2.1 * 64 + m.2.2.2.2) + e * 2 ^ 24
    omega
  · show m.1 * 16777216 + e * 262144 + m.2.2.1 * 4096 + m.2.2.2.1 * 64 + m.2.2.2.2 + m.2.1 * 2 ^ 18 = (m.1 * 16777216 + m.2.1 * 262144 + m.2.2.1 * 4096 + m.2.2.2.1 * 64 + m.2.2.2.2) + e * 2 ^ 18
    omega
  · show m.1 * 16777216 + m.2.1 * 262144 + e * 4096 + m.2.2.2.1 * 64 + m.2.2.2.2 + m.2.2.1 * 2 ^ 12 = (m.1 * 16777216 + m.2.1 * 262144 + m.2.2.1 * 4096 + m.2.2.2.1 * 64 + m.2.2.2.2) + e * 2 ^ 12
    omega
  · show m.1 * 16777216 + m.2.1 * 262144 + m.2.2.1 * 4096 + e * 64 + m.2.2.2.2 + m.2.2.2.1 * 2 ^ 6 = (m.1 * 16777216 + m.2.1 * 262144 + m.2.2.1 * 4096 + m.2.2.2.1 * 64 + m.2.2.2.2) + e * 2 ^ 6
    omega
  · show m.1 * 16777216 + m.2.1 * 262144 + m.2.2.1 * 4096 + m.2.2.2.1 * 64 + e + m.2.2.2.2 * 2 ^ 0 = (m.1 * 16777216 + m.2.1 * 262144 + m.2.2.1 * 4096 + m.2.2.2.1 * 64 + m.2.2.2.2) + e * 2 ^ 0
    omega
theorem pvp_6 {v : Nat} (hv : v < 5) (e : Nat) : sp_6 (pvp v e) = e * 2 ^ (6 * (4 - v)) := by
  have h := sp_6_up sp_zm hv e
  rw [HV_zm 0 v (Nat.zero_le _) hv, Nat.zero_mul] at h
  have z : sp_6 sp_zm = 0 := rfl
  unfold pvp
  omega
def pst (v : Nat) (b : Option Nat) (m : sp_M) : Option Nat := if m = pvp v (sp_ex m v) then (match b with
  | none => some (sp_ex m v)
  | some x => if sp_ex m v < x then some (sp_ex m v) else some x) else b
/-- the least pure power of a variable -/
def sp_pure (v : Nat) : List sp_M → Option Nat → Option Nat
  | [], b => b
  | m :: r, b => sp_pure v r (pst v b m)
theorem sp_pure_mem {v : Nat} : ∀ {l : List sp_M} {b : Option Nat} {e : Nat}, sp_pure v l b = some e → b = some e ∨ pvp v e ∈ l
  | [], b, e, h => Or.inl h
  | m :: r, b, e, h => by
    rcases sp_pure_mem (l := r) h with h1 | h1
    · unfold pst at h1
      split at h1
      · rename_i hm
        have key : sp_ex m v = e → pvp v e ∈ m :: r := fun q => by rw [← q, ← hm]; exact List.mem_cons_self ..
        split at h1
        · exact Or.inr (key (Option.some.inj h1))
        · rename_i x
          split at h1
          · exact Or.inr (key (Option.some.inj h1))
          · exact Or.inl h1
      · exact Or.inl h1
    · exact Or.inr (List.mem_cons_of_mem _ h1)
theorem sp_pure_0 {v : Nat} (hv : v < 5) : ∀ {l : List sp_M} {b : Option Nat}, sp_zm ∈ l ∨ b = some 0 → sp_pure v l b = some 0
  | [], b, h => by
    rcases h with h | h
    · cases h
    · exact h
  | m :: r, b, h => by
    refine sp_pure_0 hv (l := r) (b := pst v b m) ?_
    have e0 : sp_ex sp_zm v = 0 := HV_zm 0 v (Nat.zero_le _) hv
    have z0 : sp_zm = pvp v 0 := sp_M_ext (fun i hi => by
      by_cases q : i = v
      · subst q; rw [e0]; exact (sp_up_at _ hv 0).symm
      · exact (sp_up_ne _ hv hi q 0).symm)
    rcases h with h | h
    · rcases List.mem_cons.mp h with h | h
      · right
        rw [← h]
        unfold pst
        rw [e0, if_pos z0]
        split
        · rfl
        · rename_i x
          split
          · rfl
          · rename_i hx
            have : x = 0 := by omega
            rw [this]
      · exact Or.inl h
    · right
      rw [h]
      unfold pst
      split
      · split
        · rename_i q; cases q
        · rename_i x q
          cases q
          rw [if_neg (Nat.not_lt_zero _)]
      · rfl
/-- a place in a box -/
def psn (bx : Nat → Nat) (m : sp_M) : Nat → Nat → Nat
  | 0, _ => 0
  | k + 1, v => sp_ex m v + bx v * psn bx m k (v + 1)
def ttl (bx : Nat → Nat) : Nat → Nat → Nat
  | 0, _ => 1
  | k + 1, v => bx v * ttl bx k (v + 1)
def dec (bx : Nat → Nat) : Nat → Nat → Nat → sp_M
  | 0, _, _ => sp_zm
  | k + 1, v, i => sp_up (dec bx k (v + 1) (i / bx v)) v (i % bx v)
/-- the next monomial of a box -/
def nxt (bx : Nat → Nat) : Nat → Nat → sp_M → Option sp_M
  | 0, _, _ => none
  | k + 1, v, m => if bx v ≤ sp_ex m v + 1 then nxt bx k (v + 1) (sp_up m v 0) else some (sp_up m v (sp_ex m v + 1))
def sumN (F : Nat → Nat) : Nat → Nat
  | 0 => 0
  | n + 1 => sumN F n + F n
theorem psn_congr {bx : Nat → Nat} {m m' : sp_M} : ∀ {k v : Nat}, (∀ u, v ≤ u → u < v + k → sp_ex m u = sp_ex m' u) → psn bx m k v = psn bx m' k v
  | 0, v, h => rfl
  | k + 1, v, h => by
    unfold psn
    rw [h v (Nat.le_refl _) (by omega), psn_congr (fun u h1 h2 => h u (by omega) (by omega))]
theorem psn_lt {bx : Nat → Nat} {m : sp_M} : ∀ {k v : Nat}, (∀ u, v ≤ u → u < v + k → sp_ex m u < bx u) → psn bx m k v < ttl bx k v
  | 0, v, h => Nat.one_pos
  | k + 1, v, h => by
    unfold psn ttl
    have h1 := h v (Nat.le_refl _) (by omega)
    have h2 := psn_lt (k := k) (v := v + 1) (fun u h1 h2 => h u (by omega) (by omega))
    have h3 := Nat.mul_le_mul_left (bx v) (Nat.succ_le_of_lt h2)
    rw [Nat.mul_succ] at h3
    omega
theorem dec_psn {bx : Nat → Nat} {m : sp_M} : ∀ {k v : Nat}, v + k ≤ 5 → (∀ u, v ≤ u → u < v + k → sp_ex m u < bx u) → ∀ i, i < 5 → sp_ex (dec bx k v (psn bx m k v)) i = if v ≤ i ∧ i < v + k then sp_ex m i else 0
  | 0, v, hk, h, i, hi => by
    rw [if_neg (by omega)]
    exact HV_zm 0 i (Nat.zero_le _) hi
  | k + 1, v, hk, h, i, hi => by
    have h1 := h v (Nat.le_refl _) (by omega)
    have ih := dec_psn (bx := bx) (m := m) (k := k) (v := v + 1) (by omega) (fun u h1 h2 => h u (by omega) (by omega)) i hi
    unfold psn dec
    have e1 : (sp_ex m v + bx v * psn bx m k (v + 1)) / bx v = psn bx m k (v + 1) := by
      rw [Nat.add_mul_div_left _ _ (by omega), Nat.div_eq_of_lt h1, Nat.zero_add]
    have e2 : (sp_ex m v + bx v * psn bx m k (v + 1)) % bx v = sp_ex m v := by
      rw [Nat.add_mul_mod_self_left, Nat.mod_eq_of_lt h1]
    rw [e1, e2]
    by_cases q : i = v
    · subst q
      rw [sp_up_at _ (by omega), if_pos (by omega)]
    · rw [sp_up_ne _ (by omega) hi q, ih]
      by_cases c : v + 1 ≤ i ∧ i < v + 1 + k
      · rw [if_pos c, if_pos (by omega)]
      · rw [if_neg c, if_neg (by omega)]
theorem dec_self {bx : Nat → Nat} {m : sp_M} {n : Nat} (hn : n ≤ 5) (h : ∀ u, u < n → sp_ex m u < bx u) (hv : HV n m) : dec bx n 0 (psn bx m n 0) = m := by
  refine sp_M_ext (fun i hi => ?_)
  rw [dec_psn (by omega) (fun u _ h2 => h u (by omega)) i hi]
  by_cases c : 0 ≤ i ∧ i < 0 + n
  · rw [if_pos c]
  · rw [if_neg c, hv i (by omega) hi]
theorem nxt_some {bx : Nat → Nat} : ∀ {k v : Nat} {m m' : sp_M}, v + k ≤ 5 → (∀ u, v ≤ u → u < v + k → sp_ex m u < bx u) → nxt bx k v m = some m' → psn bx m' k v = psn bx m k v + 1 ∧ (∀ u, v ≤ u → u < v + k → sp_ex m' u < bx u) ∧ ∀ u, u < 5 → ¬ (v ≤ u ∧ u < v + k) → sp_ex m' u = sp_ex m u
  | 0, v, m, m', hk, h, hm => by cases hm
  | k + 1, v, m, m', hk, h, hm => by
    have h1 := h v (Nat.le_refl _) (by omega)
    unfold nxt at hm
    split at hm
    · rename_i hc
      have ih := nxt_some (m := sp_up m v 0) (by omega) (fun u h1 h2 => by rw [sp_up_ne m (by omega) (by omega) (by omega)]; exact h u (by omega) (by omega)) hm
      have e0 : sp_ex m' v = 0 := by rw [ih.2.2 v (by omega) (by omega), sp_up_at m (by omega)]
      have e1 : psn bx (sp_up m v 0) k (v + 1) = psn bx m k (v + 1) := psn_congr (fun u h1 h2 => sp_up_ne m (by omega) (by omega) (by omega) 0)
      refine ⟨?_, fun u h2 h3 => ?_, fun u h2 h3 => ?_⟩
      · unfold psn
        rw [e0, ih.1, e1, Nat.mul_succ]
        omega
      · by_cases q : u = v
        · subst q; rw [e0]; omega
        · exact ih.2.1 u (by omega) (by omega)
      · rw [ih.2.2 u h2 (by omega), sp_up_ne m (by omega) h2 (by omega)]
    · rename_i hc
      cases hm
      refine ⟨?_, fun u h2 h3 => ?_, fun u h2 h3 => sp_up_ne m (by omega) h2 (by omega) _⟩
      · unfold psn
        rw [sp_up_at m (by omega), psn_congr (m := sp_up m v (sp_ex m v + 1)) (m' := m) (fun u h1 h2 => sp_up_ne m (by omega) (by omega) (by omega) _)]
        omega
      · by_cases q : u = v
        · subst q; rw [sp_up_at m (by omega)]; omega
        · rw [sp_up_ne m (by omega) (by omega) q]; exact h u h2 h3
theorem nxt_none {bx : Nat → Nat} : ∀ {k v : Nat} {m : sp_M}, v + k ≤ 5 → (∀ u, v ≤ u → u < v + k → sp_ex m u < bx u) → nxt bx k v m = none → psn bx m k v + 1 = ttl bx k v
  | 0, v, m, hk, h, hm => rfl
  | k + 1, v, m, hk, h, hm => by
    have h1 := h v (Nat.le_refl _) (by omega)
    unfold nxt at hm
    split at hm
    · rename_i hc
      have ih := nxt_none (m := sp_up m v 0) (by omega) (fun u h1 h2 => by rw [sp_up_ne m (by omega) (by omega) (by omega)]; exact h u (by omega) (by omega)) hm
      have e1 : psn bx (sp_up m v 0) k (v + 1) = psn bx m k (v + 1) := psn_congr (fun u h1 h2 => sp_up_ne m (by omega) (by omega) (by omega) 0)
      rw [e1] at ih
      unfold psn ttl
      rw [← ih, Nat.mul_succ]
      omega
    · cases hm
theorem nxt_zm {bx : Nat → Nat} : ∀ {k v : Nat}, v + k ≤ 5 → (∀ u, v ≤ u → u < v + k → bx u = 0) → nxt bx k v sp_zm = none
  | 0, v, _, _ => rfl
  | k + 1, v, hk, h => by
    unfold nxt
    rw [if_pos (by rw [h v (Nat.le_refl _) (by omega)]; exact Nat.zero_le _)]
    have e : sp_up sp_zm v 0 = sp_zm := sp_M_ext (fun i hi => by
      by_cases q : i = v
      · subst q; rw [sp_up_at _ hi]; exact (HV_zm 0 i (Nat.zero_le _) hi).symm
      · exact sp_up_ne _ (by omega) hi q 0)
    rw [e]
    exact nxt_zm (by omega) (fun u h1 h2 => h u (by omega) (by omega))
/-- whether none of a row divides a monomial -/
def Fst (l : List sp_M) (m : sp_M) : Nat := cond (l.any (fun a => sp_dv a m)) 0 1
/-- an exponent is cut away -/
theorem cut_6 {m : sp_M} (hm : sp_ok m) {v : Nat} (hv : v < 5) : ∃ A B, sp_6 m = 2 ^ (6 * (4 - v)) * (64 * A + sp_ex m v) + B ∧ sp_6 (sp_up m v 0) = 2 ^ (6 * (4 - v)) * (64 * A) + B ∧ B < 2 ^ (6 * (4 - v)) := by
  have h6 := sp_6_up m hv 0
  rw [Nat.zero_mul, Nat.add_zero] at h6
  have key : ∀ A B, sp_6 m = 2 ^ (6 * (4 - v)) * (64 * A + sp_ex m v) + B → B < 2 ^ (6 * (4 - v)) → ∃ A B, sp_6 m = 2 ^ (6 * (4 - v)) * (64 * A + sp_ex m v) + B ∧ sp_6 (sp_up m v 0) = 2 ^ (6 * (4 - v)) * (64 * A) + B ∧ B < 2 ^ (6 * (4 - v)) := by
    intro A B h1 h2
    refine ⟨A, B, h1, ?_, h2⟩
    rw [Nat.mul_add, Nat.mul_comm _ (sp_ex m v)] at h1
    omega
  obtain ⟨h0, h1, h2, h3, h4⟩ := hm
  rcases lt5 hv with e | e | e | e | e <;> subst e
  · refine key (0) (m.2.1 * 262144 + m.2.2.1 * 4096 + m.2.2.2.1 * 64 + m.2.2.2.2) ?_ (by show _ < 2 ^ 24; omega)
    show m.1 * 16777216 + m.2.1 * 262144 + m.2.2.1 * 4096 + m.2.2.2.1 * 64 + m.2.2.2.2 = 2 ^ 24 * (64 * (0) + m.1) + (m.2.1 * 262144 + m.2.2.1 * 4096 + m.2.2.2.1 * 64 + m.2.2.2.2)
    omega
  · refine key (m.1) (m.2.2.1 * 4096 + m.2.2.2.1 * 64 + m.2.2.2.2) ?_ (by show _ < 2 ^ 18; omega)
    show m.1 * 16777216 + m.2.1 * 262144 + m.2.2.1 * 4096 + m.2.2.2.1 * 64 + m.2.2.2.2 = 2 ^ 18 * (64 * (m.1) + m.2.1) + (m.2.2.1 * 4096 + m.2.2.2.1 * 64 + m.2.2.2.2)
    omega
  · refine key (m.1 * 64 + m.2.1) (m.2.2.2.1 * 64 + m.2.2.2.2) ?_ (by show _ < 2 ^ 12; omega)
    show m.1 * 16777216 + m.2.1 * 262144 + m.2.2.1 * 4096 + m.2.2.2.1 * 64 + m.2.2.2.2 = 2 ^ 12 * (64 * (m.1 * 64 + m.2.1) + m.2.2.1) + (m.2.2.2.1 * 64 + m.2.2.2.2)
    omega
  · refine key (m.1 * 4096 + m.2.1 * 64 + m.2.2.1) (m.2.2.2.2) ?_ (by show _ < 2 ^ 6; omega)
    show m.1 * 16777216 + m.2.1 * 262144 + m.2.2.1 * 4096 + m.2.2.2.1 * 64 + m.2.2.2.2 = 2 ^ 6 * (64 * (m.1 * 4096 + m.2.1 * 64 + m.2.2.1) + m.2.2.2.1) + (m.2.2.2.2)
    omega
  · refine key (m.1 * 262144 + m.2.1 * 4096 + m.2.2.1 * 64 + m.2.2.2.1) (0) ?_ (by show _ < 2 ^ 0; omega)
    show m.1 * 16777216 + m.2.1 * 262144 + m.2.2.1 * 4096 + m.2.2.2.1 * 64 + m.2.2.2.2 = 2 ^ 0 * (64 * (m.1 * 262144 + m.2.1 * 4096 + m.2.2.1 * 64 + m.2.2.2.1) + m.2.2.2.2) + (0)
    omega
theorem cut_bit {s A e B : Nat} (he : e < 2 ^ 6) (hB : B < 2 ^ s) (j : Nat) : ((2 ^ s * (64 * A + e) + B).testBit j && !(63 * 2 ^ s).testBit j) = (2 ^ s * (64 * A) + B).testBit j := by
  rw [Nat.testBit_two_pow_mul_add _ hB, Nat.testBit_two_pow_mul_add _ hB, Nat.mul_comm 63, Nat.testBit_two_pow_mul]
  by_cases hj : j < s
  · rw [if_pos hj, if_pos hj, decide_eq_false (fun q : j ≥ s => by omega), Bool.false_and, Bool.not_false, Bool.and_true]
  · rw [if_neg hj, if_neg hj, decide_eq_true (show j ≥ s by omega), show (64 : Nat) = 2 ^ 6 from rfl, Nat.testBit_two_pow_mul_add _ he, Nat.testBit_two_pow_mul, show (63 : Nat) = 2 ^ 6 - 1 from rfl, Nat.testBit_two_pow_sub_one, Bool.true_and]
    by_cases h6 : j - s < 6
    · rw [if_pos h6, decide_eq_true h6, decide_eq_false (fun q : j - s ≥ 6 => by omega), Bool.not_true, Bool.and_false, Bool.false_and]
    · rw [if_neg h6, decide_eq_false h6, decide_eq_true (show j - s ≥ 6 by omega), Bool.not_false, Bool.and_true, Bool.true_and]
theorem sp_cut {m : sp_M} (hm : sp_ok m) {v : Nat} (hv : v < 5) : sp_c m &&& (nI (63 * 2 ^ (6 * (4 - v))) ^^^ (-1)) = sp_c (sp_up m v 0) := by
  obtain ⟨A, B, e1, e2, hB⟩ := cut_6 hm hv
  have hl := sp_6_lt hm
  have hl2 := sp_6_lt (sp_up_ok hm hv (e := 0) (Nat.zero_le _))
  have he := sp_ok_ex hm v
  unfold sp_c
  apply Int32.toBitVec_inj.mp
  rw [Int32.toBitVec_and, Int32.toBitVec_xor]
  apply BitVec.eq_of_getLsbD_eq
  intro j hj
  have g1 : ∀ n : Nat, n < 2 ^ 32 → (nI n).toBitVec.getLsbD j = n.testBit j := fun n hn => by
    rw [← BitVec.testBit_toNat, pk_tn hn]
  have g2 : (-1 : Int32).toBitVec.getLsbD j = true := by
    rw [show (-1 : Int32).toBitVec = BitVec.allOnes 32 from by decide, BitVec.getLsbD_allOnes, decide_eq_true hj]
  have hm63 : 63 * 2 ^ (6 * (4 - v)) < 2 ^ 32 := by
    rcases lt5 hv with e | e | e | e | e <;> (subst e; decide)
  rw [BitVec.getLsbD_and, BitVec.getLsbD_xor, g1 _ (by omega), g1 _ hm63, g2, g1 _ (by omega), e1, e2, Bool.xor_true]
  exact cut_bit (e := sp_ex m v) (by omega) hB j
theorem sp_inc {m : sp_M} {v : Nat} (hv : v < 5) : sp_c m + nI (1 * 2 ^ (6 * (4 - v))) = sp_c (sp_up m v (sp_ex m v + 1)) := by
  unfold sp_c
  rw [nI_add]
  refine congrArg nI ?_
  have h := sp_6_up m hv (sp_ex m v + 1)
  rw [Nat.add_mul] at h
  omega
