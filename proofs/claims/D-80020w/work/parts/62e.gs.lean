/-! PLAIN: the invariant of the state is kept -/
section
variable {S : sp_H}
/-- the polynomial at a place -/
def pg (S : sp_H) (k : Nat) : sp_P := (hpl S).getD k []
theorem pg_at (hG : GS S) {k : Nat} (hk : k < 40) : (hpl S)[k]? = some (pg S k) := by
  have hl := hG.2.2.1
  unfold pg
  rw [List.getD_eq_getElem?_getD, List.getElem?_eq_getElem (by omega)]
  rfl
theorem pg_ok (hG : GS S) {k : Nat} (hk : k < 40) : pok S (pg S k) := hG.2.2.2.2.1 _ (List.mem_of_getElem? (pg_at hG hk))
theorem pok_nil (S : sp_H) : pok S [] := ⟨sp_pw_nil, so_nil _, HVp_nil _⟩
theorem GS_setP {r : Nat} {p : sp_P} (hG : GS S) (hp : pok S p) : GS (sp_setP S r p) := by
  obtain ⟨a1, a2, a3, a4, a5, a6, a7, a8⟩ := hG
  refine ⟨a1, a2, ?_, a4, fun p' hp' => ?_, a6, a7, a8⟩
  · show ((hpl S).set r p).length = 40
    rw [List.length_set]
    exact a3
  · have hp' : p' ∈ (hpl S).set r p := hp'
    rcases List.mem_or_eq_of_mem_set hp' with e | e
    · exact a5 p' e
    · subst e; exact hp
end
/-! sorting -/
def asc (j : Nat) (p : sp_P) : Prop := List.Pairwise (fun s t : sp_T => sp_key j s.2.2 < sp_key j t.2.2) p
theorem asc_iv {j : Nat} {t : sp_T} (ht : sp_ok t.2.2) : ∀ {r : sp_P}, (∀ x ∈ r, sp_ok x.2.2) → (∀ x ∈ r, x.2.2 ≠ t.2.2) → asc j r → asc j (sp_iv j t r)
  | [], _, _, _ => List.pairwise_singleton _ _
  | x :: r, hw, hne, h => by
    have hx := hw x (List.mem_cons_self ..)
    have h2 := List.pairwise_cons.mp h
    have key := (sp_cmp_key (j := j) ht hx).1
    unfold sp_iv
    split
    · rename_i hc
      refine List.pairwise_cons.mpr ⟨fun y hy => ?_, asc_iv ht (fun y hy => hw y (List.mem_cons_of_mem _ hy)) (fun y hy => hne y (List.mem_cons_of_mem _ hy)) h2.2⟩
      rcases sp_iv_mem hy with e | e
      · subst e; exact key.mp hc
      · exact h2.1 y e
    · rename_i hc
      have hlt : sp_key j t.2.2 < sp_key j x.2.2 := by
        rcases Int.lt_trichotomy (sp_key j t.2.2) (sp_key j x.2.2) with q | q | q
        · exact q
        · exact absurd (sp_key_inj ht hx q).symm (hne x (List.mem_cons_self ..))
        · exact absurd (key.mpr q) hc
      refine List.pairwise_cons.mpr ⟨fun y hy => ?_, h⟩
      rcases List.mem_cons.mp hy with e | e
      · subst e; exact hlt
      · exact Int.lt_trans hlt (h2.1 y e)
theorem asc_so {j : Nat} : ∀ {r acc : sp_P}, (∀ x ∈ acc, sp_ok x.2.2) → (∀ x ∈ r, sp_ok x.2.2) → (∀ x ∈ acc, ∀ y ∈ r, x.2.2 ≠ y.2.2) → r.Pairwise (fun s t : sp_T => s.2.2 ≠ t.2.2) → asc j acc → asc j (sp_so j acc r)
  | [], acc, _, _, _, _, h => h
  | t :: r, acc, h1, h2, h3, h4, h5 => by
    have h6 := List.pairwise_cons.mp h4
    have ht := h2 t (List.mem_cons_self ..)
    refine asc_so (r := r) (acc := sp_iv j t acc) (fun x hx => ?_) (fun x hx => h2 x (List.mem_cons_of_mem _ hx)) (fun x hx y hy => ?_) h6.2 (asc_iv ht h1 (fun x hx => h3 x hx t (List.mem_cons_self ..)) h5)
    · rcases sp_iv_mem hx with e | e
      · subst e; exact ht
      · exact h1 x e
    · rcases sp_iv_mem hx with e | e
      · subst e; exact h6.1 y hy
      · exact h3 x e y (List.mem_cons_of_mem _ hy)
theorem so_sort {i j : Nat} {p : sp_P} (hw : sp_pw p) (h : so i p) : so j (sp_sort j p) := by
  have h1 : asc j (sp_so j [] p) := asc_so (fun x hx => (by cases hx)) (fun x hx => (hw.2 x hx).2.2.2.2) (fun x hx => (by cases hx)) (h.imp (fun hab q => by rw [q] at hab; omega)) List.Pairwise.nil
  unfold so sp_sort
  rw [List.pairwise_reverse]
  exact h1
theorem sp_so_mem {j : Nat} {s : sp_T} : ∀ {r acc : sp_P}, s ∈ sp_so j acc r → s ∈ acc ∨ s ∈ r
  | [], acc, h => Or.inl h
  | t :: r, acc, h => by
    rcases sp_so_mem (r := r) (acc := sp_iv j t acc) h with h | h
    · rcases sp_iv_mem h with h | h
      · exact Or.inr (h ▸ List.mem_cons_self ..)
      · exact Or.inl h
    · exact Or.inr (List.mem_cons_of_mem _ h)
theorem HVp_sort {v j : Nat} {p : sp_P} (h : HVp v p) : HVp v (sp_sort j p) := fun t ht => by
  rcases sp_so_mem (List.mem_reverse.mp ht) with e | e
  · cases e
  · exact h t e
