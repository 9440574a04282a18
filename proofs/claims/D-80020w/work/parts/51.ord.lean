/-! PLAIN: the orders are orders; polynomials stay sorted -/
def sp_key (j : Nat) (a : sp_M) : Int :=
  if j = 0 then (sp_6 a : Int) else (if j = 1 then 0 else (a.1 : Int) * 1125899906842624) + ((a.1 : Int) + a.2.1 + a.2.2.1 + a.2.2.2.1 + a.2.2.2.2) * 1099511627776 - ((a.2.2.2.2 : Int) * 16777216 + a.2.2.2.1 * 262144 + a.2.2.1 * 4096 + a.2.1 * 64 + a.1)
theorem sp_sd5 (a b : sp_M) : sp_sd a b 5 = 0 + ((a.1 : Int) - b.1) + ((a.2.1 : Int) - b.2.1) + ((a.2.2.1 : Int) - b.2.2.1) + ((a.2.2.2.1 : Int) - b.2.2.2.1) + ((a.2.2.2.2 : Int) - b.2.2.2.2) := rfl
theorem sp_lx5 (a b : sp_M) : sp_lx a b 5 = if a.2.2.2.2 = b.2.2.2.2 then (if a.2.2.2.1 = b.2.2.2.1 then (if a.2.2.1 = b.2.2.1 then (if a.2.1 = b.2.1 then (if a.1 = b.1 then 0 else (b.1 : Int) - a.1) else (b.2.1 : Int) - a.2.1) else (b.2.2.1 : Int) - a.2.2.1) else (b.2.2.2.1 : Int) - a.2.2.2.1) else (b.2.2.2.2 : Int) - a.2.2.2.2 := rfl
theorem sp_bs_key {a b : sp_M} (ha : sp_ok a) (hb : sp_ok b) : (0 < sp_bs a b ↔ sp_key 1 b < sp_key 1 a) ∧ (sp_bs a b < 0 ↔ sp_key 1 a < sp_key 1 b) := by
  obtain ⟨a0, a1, a2, a3, a4⟩ := ha
  obtain ⟨b0, b1, b2, b3, b4⟩ := hb
  have k1 : ∀ a : sp_M, sp_key 1 a = 0 + ((a.1 : Int) + a.2.1 + a.2.2.1 + a.2.2.2.1 + a.2.2.2.2) * 1099511627776 - ((a.2.2.2.2 : Int) * 16777216 + a.2.2.2.1 * 262144 + a.2.2.1 * 4096 + a.2.1 * 64 + a.1) := fun a => by unfold sp_key; rw [if_neg (by decide), if_pos rfl]
  rw [k1, k1]
  unfold sp_bs
  rw [sp_sd5]
  split
  · rw [sp_lx5]
    split
    · split
      · split
        · split
          · split <;> omega
          · omega
        · omega
      · omega
    · omega
  · omega
theorem sp_cmp_key {a b : sp_M} (ha : sp_ok a) (hb : sp_ok b) (j : Nat) : (0 < sp_cmp j a b ↔ sp_key j b < sp_key j a) ∧ (sp_cmp j a b < 0 ↔ sp_key j a < sp_key j b) := by
  have hbs := sp_bs_key ha hb
  by_cases h0 : j = 0
  · subst h0
    rw [sp_cmp0]
    unfold sp_key
    rw [if_pos rfl, if_pos rfl]
    omega
  · by_cases h1 : j = 1
    · subst h1
      rw [sp_cmp1]
      exact hbs
    · have hc : sp_cmp j a b = if (sp_ex a 0 : Int) - sp_ex b 0 = 0 then sp_bs a b else (sp_ex a 0 : Int) - sp_ex b 0 := by unfold sp_cmp; rw [if_neg h0, if_neg h1]
      have k2 : ∀ a : sp_M, sp_key j a = (a.1 : Int) * 1125899906842624 + sp_key 1 a := fun a => by unfold sp_key; rw [if_neg h0, if_neg h1, if_neg (by decide), if_pos rfl]; omega
      have kb : ∀ a : sp_M, sp_ok a → (sp_key 1 a).natAbs < 562949953421312 := by
        intro a ⟨a0, a1, a2, a3, a4⟩
        unfold sp_key
        rw [if_neg (by decide), if_pos rfl]
        omega
      have b1 := kb a ha
      have b2 := kb b hb
      rw [hc, k2 a, k2 b]
      have ea : sp_ex a 0 = a.1 := rfl
      have eb : sp_ex b 0 = b.1 := rfl
      rw [ea, eb]
      generalize sp_key 1 a = x at *
      generalize sp_key 1 b = y at *
      generalize sp_bs a b = z at *
      split <;> omega
theorem sp_rev_inj {a0 a1 a2 a3 a4 b0 b1 b2 b3 b4 : Nat} (ha : a0 ≤ 30 ∧ a1 ≤ 30 ∧ a2 ≤ 30 ∧ a3 ≤ 30) (hb : b0 ≤ 30 ∧ b1 ≤ 30 ∧ b2 ≤ 30 ∧ b3 ≤ 30) (h : (a4 : Int) * 16777216 + a3 * 262144 + a2 * 4096 + a1 * 64 + a0 = (b4 : Int) * 16777216 + b3 * 262144 + b2 * 4096 + b1 * 64 + b0) : a0 = b0 ∧ a1 = b1 ∧ a2 = b2 ∧ a3 = b3 ∧ a4 = b4 := by
  have e0 : a0 = b0 := by omega
  have e1 : a1 = b1 := by omega
  have e2 : a2 = b2 := by omega
  have e3 : a3 = b3 := by omega
  have e4 : a4 = b4 := by omega
  exact ⟨e0, e1, e2, e3, e4⟩
theorem sp_rev_b {a0 a1 a2 a3 a4 : Nat} (h : a0 ≤ 30 ∧ a1 ≤ 30 ∧ a2 ≤ 30 ∧ a3 ≤ 30 ∧ a4 ≤ 30) : 0 ≤ (a4 : Int) * 16777216 + a3 * 262144 + a2 * 4096 + a1 * 64 + a0 ∧ (a4 : Int) * 16777216 + a3 * 262144 + a2 * 4096 + a1 * 64 + a0 < 1073741824 := ⟨by omega, by omega⟩
theorem sp_sum_b {a0 a1 a2 a3 a4 : Nat} (h : a0 ≤ 30 ∧ a1 ≤ 30 ∧ a2 ≤ 30 ∧ a3 ≤ 30 ∧ a4 ≤ 30) : 0 ≤ (a0 : Int) + a1 + a2 + a3 + a4 ∧ (a0 : Int) + a1 + a2 + a3 + a4 ≤ 150 := ⟨by omega, by omega⟩
theorem sp_two {S T P Q : Int} (hp : 0 ≤ P ∧ P < 1073741824) (hq : 0 ≤ Q ∧ Q < 1073741824) (h : S * 1099511627776 - P = T * 1099511627776 - Q) : P = Q := by omega
theorem sp_three {X Y S T P Q : Int} (hs : 0 ≤ S ∧ S ≤ 150) (ht : 0 ≤ T ∧ T ≤ 150) (hp : 0 ≤ P ∧ P < 1073741824) (hq : 0 ≤ Q ∧ Q < 1073741824) (h : X * 1125899906842624 + S * 1099511627776 - P = Y * 1125899906842624 + T * 1099511627776 - Q) : P = Q := by omega
theorem sp_key_inj {a b : sp_M} (ha : sp_ok a) (hb : sp_ok b) {j : Nat} (h : sp_key j a = sp_key j b) : a = b := by
  have ha' := ha
  have hb' := hb
  obtain ⟨a0, a1, a2, a3, a4⟩ := ha'
  obtain ⟨b0, b1, b2, b3, b4⟩ := hb'
  unfold sp_key at h
  by_cases h0 : j = 0
  · rw [if_pos h0, if_pos h0] at h
    exact sp_c_inj ha hb (Int.ofNat_inj.mp h)
  · rw [if_neg h0, if_neg h0] at h
    have pq : (a.2.2.2.2 : Int) * 16777216 + a.2.2.2.1 * 262144 + a.2.2.1 * 4096 + a.2.1 * 64 + a.1 = (b.2.2.2.2 : Int) * 16777216 + b.2.2.2.1 * 262144 + b.2.2.1 * 4096 + b.2.1 * 64 + b.1 := by
      by_cases h1 : j = 1
      · rw [if_pos h1, if_pos h1, Int.zero_add, Int.zero_add] at h
        exact sp_two (sp_rev_b ha) (sp_rev_b hb) h
      · rw [if_neg h1, if_neg h1] at h
        exact sp_three (sp_sum_b ha) (sp_sum_b hb) (sp_rev_b ha) (sp_rev_b hb) h
    have key := sp_rev_inj ⟨a0, a1, a2, a3⟩ ⟨b0, b1, b2, b3⟩ pq
    exact Prod.ext key.1 (Prod.ext key.2.1 (Prod.ext key.2.2.1 (Prod.ext key.2.2.2.1 key.2.2.2.2)))
theorem sp_key_mm (j : Nat) (a b : sp_M) : sp_key j (sp_mm a b) = sp_key j a + sp_key j b := by
  unfold sp_key sp_mm sp_6
  dsimp only
  split
  · omega
  · split <;> omega
/-- sorted, the greatest first -/
def so (j : Nat) (p : sp_P) : Prop := List.Pairwise (fun s t : sp_T => sp_key j t.2.2 < sp_key j s.2.2) p
theorem sp_at_take {j : Nat} {m : sp_M} (hm : sp_ok m) : ∀ {p : sp_P}, (∀ t ∈ p, sp_ok t.2.2) → ∀ s ∈ p.take (sp_at j m p), sp_key j m < sp_key j s.2.2
  | [], _, s, hs => by cases hs
  | t :: r, h, s, hs => by
    unfold sp_at at hs
    split at hs
    · rename_i hc
      rw [List.take_succ_cons] at hs
      rcases List.mem_cons.mp hs with e | e
      · subst e
        exact (sp_cmp_key (h _ (List.mem_cons_self ..)) hm j).1.mp hc
      · exact sp_at_take hm (fun t ht => h t (List.mem_cons_of_mem _ ht)) s e
    · cases hs
theorem sp_at_stop {j : Nat} {m : sp_M} (hm : sp_ok m) : ∀ {p : sp_P}, (∀ t ∈ p, sp_ok t.2.2) → ∀ {t : sp_T}, p[sp_at j m p]? = some t → sp_key j t.2.2 ≤ sp_key j m
  | [], _, t, ht => by cases ht
  | t0 :: r, h, t, ht => by
    unfold sp_at at ht
    split at ht
    · exact sp_at_stop hm (fun t ht => h t (List.mem_cons_of_mem _ ht)) ht
    · rename_i hc
      cases ht
      have := (sp_cmp_key (h t0 (List.mem_cons_self ..)) hm j).1
      omega
theorem insertIdx_td : ∀ {p : sp_P} {i : Nat} {x : sp_T}, i ≤ p.length → p.insertIdx i x = p.take i ++ x :: p.drop i
  | p, 0, x, _ => rfl
  | t :: p, i + 1, x, h => by
    rw [List.insertIdx_succ_cons, insertIdx_td (p := p) (i := i) (Nat.le_of_succ_le_succ h)]
    rfl
  | [], i + 1, x, h => absurd h (Nat.not_succ_le_zero _)
theorem so_split {j : Nat} {p : sp_P} (h : so j p) (i : Nat) : so j (p.take i) ∧ so j (p.drop i) ∧ ∀ a ∈ p.take i, ∀ b ∈ p.drop i, sp_key j b.2.2 < sp_key j a.2.2 := by
  unfold so at h
  rw [← List.take_append_drop i p, List.pairwise_append] at h
  exact h
theorem so_join {j : Nat} {p q : sp_P} {x : sp_T} (hp : so j p) (hq : so j q) (hpq : ∀ a ∈ p, ∀ b ∈ q, sp_key j b.2.2 < sp_key j a.2.2) (h1 : ∀ a ∈ p, sp_key j x.2.2 < sp_key j a.2.2) (h2 : ∀ b ∈ q, sp_key j b.2.2 < sp_key j x.2.2) : so j (p ++ x :: q) := by
  unfold so
  rw [List.pairwise_append, List.pairwise_cons]
  refine ⟨hp, ⟨h2, hq⟩, fun a ha b hb => ?_⟩
  rcases List.mem_cons.mp hb with e | e
  · subst e; exact h1 a ha
  · exact hpq a ha b e
/-- what comes keeps a polynomial sorted, and below a bound -/
theorem so_come {j : Nat} {p p' : sp_P} {a b : Int} {m : sp_M} (h : so j p) (hw : ∀ t ∈ p, sp_ok t.2.2) (hm : sp_ok m) (hc : sp_come j p a b m = some p') : so j p' ∧ ∀ t ∈ p', t.2.2 = m ∨ t ∈ p := by
  have htk := sp_at_take (j := j) hm hw
  have hsp := so_split h (sp_at j m p)
  have hle := sp_at_le j m p
  have ins : (∀ t ∈ p.drop (sp_at j m p), sp_key j t.2.2 < sp_key j m) → sp_ins p (sp_at j m p) (a, (b, m)) = some p' → so j p' ∧ ∀ t ∈ p', t.2.2 = m ∨ t ∈ p := by
    intro hlt hi
    unfold sp_ins at hi
    split at hi
    · cases hi
    · cases hi
      refine ⟨?_, fun t ht => ?_⟩
      · rw [insertIdx_td hle]
        exact so_join hsp.1 hsp.2.1 hsp.2.2 htk hlt
      · rcases (List.mem_insertIdx hle).mp ht with e | e
        · subst e; exact Or.inl rfl
        · exact Or.inr e
  unfold sp_come at hc
  cases ht : p[sp_at j m p]? with
  | none =>
    rw [ht] at hc
    refine ins (fun t h9 => ?_) hc
    rw [List.drop_of_length_le (List.getElem?_eq_none_iff.mp ht)] at h9
    cases h9
  | some t =>
    rw [ht] at hc
    have hil := (List.getElem?_eq_some_iff.mp ht).1
    have hst := sp_at_stop (j := j) hm hw ht
    have htm := hw t (List.mem_of_getElem? ht)
    have hdr : p.drop (sp_at j m p) = t :: p.drop (sp_at j m p + 1) := by
      rw [List.drop_eq_getElem_cons hil]
      congr 1
      rw [List.getElem?_eq_getElem hil] at ht
      exact Option.some.inj ht
    have hd1 := hsp.2.1
    rw [hdr] at hd1
    have hd2 := List.pairwise_cons.mp hd1
    dsimp only at hc
    split at hc
    · rename_i hmm
      cases hf : sp_fr (t.1 * b + a * t.2.1) (t.2.1 * b) with
      | none => rw [hf] at hc; cases hc
      | some r =>
        rw [hf] at hc
        cases hc
        unfold sp_put
        have hpd : ∀ a ∈ p.take (sp_at j m p), ∀ b ∈ p.drop (sp_at j m p + 1), sp_key j b.2.2 < sp_key j a.2.2 := fun a ha b hb => hsp.2.2 a ha b (by rw [hdr]; exact List.mem_cons_of_mem _ hb)
        split
        · refine ⟨?_, fun s hs => Or.inr (List.mem_of_mem_eraseIdx hs)⟩
          rw [List.eraseIdx_eq_take_drop_succ]
          unfold so
          rw [List.pairwise_append]
          exact ⟨hsp.1, hd2.2, hpd⟩
        · refine ⟨?_, fun s hs => ?_⟩
          · rw [List.set_eq_take_append_cons_drop, if_pos hil]
            exact so_join hsp.1 hd2.2 hpd htk (fun b hb => by rw [← hmm]; exact hd2.1 b hb)
          · rcases List.mem_or_eq_of_mem_set hs with e | e
            · exact Or.inr e
            · subst e; exact Or.inl rfl
    · rename_i hmm
      have hlt : sp_key j t.2.2 < sp_key j m := by
        rcases Int.lt_or_eq_of_le hst with h | h
        · exact h
        · exact absurd (sp_key_inj htm hm h) hmm
      refine ins (fun s hs => ?_) hc
      rw [hdr] at hs
      rcases List.mem_cons.mp hs with e | e
      · subst e; exact hlt
      · exact Int.lt_trans (hd2.1 s e) hlt
