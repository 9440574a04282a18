/-! PLAIN: plus, scale and dividing keep polynomials sorted and below a bound -/
theorem so_one {j : Nat} {a b : Int} {m : sp_M} {t : sp_T} {p p' : sp_P} (h : so j p) (hw : sp_pw p) (hc : sp_one j a b m t p = some p') : so j p' ∧ ∀ s ∈ p', s.2.2 = sp_mm m t.2.2 ∨ s ∈ p := by
  unfold sp_one at hc
  split at hc
  · rename_i hf
    cases hr : sp_fr (a * t.1) (b * t.2.1) with
    | none => rw [hr] at hc; cases hc
    | some r =>
      rw [hr] at hc
      exact so_come h (fun t ht => (hw.2 t ht).2.2.2.2) (sp_fit_ok hf) hc
  · cases hc
theorem so_plus {j : Nat} {a b : Int} {m : sp_M} (hcf : sp_cf a b) : ∀ {q p p' : sp_P}, so j p → sp_pw p → (∀ t ∈ q, sp_tw t) → sp_plus j a b m p q = some p' → so j p' ∧ ∀ s ∈ p', (∃ t ∈ q, s.2.2 = sp_mm m t.2.2) ∨ s ∈ p
  | [], p, p', h, hw, _, hc => by cases hc; exact ⟨h, fun s hs => Or.inr hs⟩
  | t :: q, p, p', h, hw, hq, hc => by
    unfold sp_plus at hc
    cases h1 : sp_one j a b m t p with
    | none => rw [h1] at hc; cases hc
    | some p1 =>
      rw [h1] at hc
      have a1 := so_one h hw h1
      have a2 := so_plus hcf a1.1 (sp_one_w hw (hq t (List.mem_cons_self ..)) hcf h1) (fun s hs => hq s (List.mem_cons_of_mem _ hs)) hc
      refine ⟨a2.1, fun s hs => ?_⟩
      rcases a2.2 s hs with ⟨t', ht', e⟩ | e
      · exact Or.inl ⟨t', List.mem_cons_of_mem _ ht', e⟩
      · rcases a1.2 s e with e | e
        · exact Or.inl ⟨t, List.mem_cons_self .., e⟩
        · exact Or.inr e
theorem sp_mm_sb {a b : sp_M} (h : sp_dv b a = true) : sp_mm (sp_sb a b) b = a := by
  obtain ⟨h0, h1, h2, h3, h4⟩ := sp_dv_iff.mp h
  exact Prod.ext (Nat.sub_add_cancel h0) (Prod.ext (Nat.sub_add_cancel h1) (Prod.ext (Nat.sub_add_cancel h2) (Prod.ext (Nat.sub_add_cancel h3) (Nat.sub_add_cancel h4))))
theorem so_ld {j : Nat} {p : sp_P} (h : so j p) {s : sp_T} (hs : s ∈ p) : sp_key j s.2.2 ≤ sp_key j (sp_ld p) := by
  cases p with
  | nil => cases hs
  | cons t r =>
    rcases List.mem_cons.mp hs with e | e
    · subst e; exact Int.le_refl _
    · exact Int.le_of_lt ((List.pairwise_cons.mp h).1 s e)
/-- dividing keeps the rest sorted and below a bound -/
theorem so_dl {j : Nat} {G : List sp_P} {bt : Nat} (hG : ∀ p ∈ G, so j p ∧ sp_pw p) (B : Int) : ∀ {n n' : Nat} {w rest rest' : sp_P} {qs qs' : List sp_P}, sp_pw w → so j w → (∀ t ∈ w, sp_key j t.2.2 < B) → sp_pw rest → so j rest → (∀ t ∈ rest, sp_key j t.2.2 < B) → sp_dl j G bt n w qs rest = (n', .inr (qs', rest')) → sp_pw rest' ∧ so j rest' ∧ ∀ t ∈ rest', sp_key j t.2.2 < B
  | n, n', [], rest, rest', qs, qs', _, _, _, h4, h5, h6, h => by
    rw [sp_dl] at h
    cases h; exact ⟨h4, h5, h6⟩
  | 0, n', t :: w, rest, rest', qs, qs', _, _, _, _, _, _, h => by
    rw [sp_dl] at h
    cases h
  | n + 1, n', t :: w, rest, rest', qs, qs', h1, h2, h3, h4, h5, h6, h => by
    have tw := h1.2 t (List.mem_cons_self ..)
    have tB := h3 t (List.mem_cons_self ..)
    have hwl := h1.1
    rw [List.length_cons] at hwl
    rw [sp_dl] at h
    split at h
    · split at h
      · cases h
      · rename_i r' hr'
        have a1 := so_come h5 (fun s hs => (h4.2 s hs).2.2.2.2) tw.2.2.2.2 hr'
        exact so_dl hG B ⟨by omega, fun s hs => h1.2 s (List.mem_cons_of_mem _ hs)⟩ (List.pairwise_cons.mp h2).2 (fun s hs => h3 s (List.mem_cons_of_mem _ hs)) (sp_come_w h4 tw hr') a1.1 (fun s hs => by
          rcases a1.2 s hs with e | e
          · rw [e]; exact tB
          · exact h6 s e) h
    · rename_i gp hgp
      have hit := (sp_fd_hit bt t.2.2 0 G gp).2 (by rw [Nat.sub_zero]; exact hgp)
      have hg := hG gp (List.mem_of_getElem? hgp)
      split at h
      · cases h
      · rename_i r hr
        split at h
        · cases h
        · rename_i w' hw'
          split at h
          · cases h
          · have gb := sp_hd_b hg.2
            have hC : (if (sp_hd gp).1 < 0 then -(sp_hd gp).2 else (sp_hd gp).2) ≠ 0 := by split <;> omega
            have rb := sp_fr_b (Int.mul_ne_zero (by have := tw.2.2.1; omega) (by omega)) hr
            have r0 : r.1 ≠ 0 := fun q => Int.mul_ne_zero tw.1 hC (rb.2.2.2.mp q)
            have hcf : sp_cf (-r.1) r.2 := ⟨by omega, by omega, rb.2.1, rb.2.2.1⟩
            have a1 := so_plus hcf h2 h1 hg.2.2 hw'
            refine so_dl hG B (sp_plus_w hcf h1 hg.2.2 hw') a1.1 (fun s hs => ?_) h4 h5 h6 h
            rcases a1.2 s hs with ⟨t', ht', e⟩ | e
            · rw [e, sp_key_mm]
              have k1 := so_ld hg.1 ht'
              have k2 : sp_key j (sp_sb t.2.2 (sp_ld gp)) + sp_key j (sp_ld gp) = sp_key j t.2.2 := by rw [← sp_key_mm, sp_mm_sb hit.2]
              omega
            · exact h3 s e
/-- what comes above all is the first -/
theorem so_top {j : Nat} {p p' : sp_P} {a b : Int} {m : sp_M} (hw : sp_pw p) (hm : sp_ok m) (hB : ∀ t ∈ p, sp_key j t.2.2 < sp_key j m) (hc : sp_come j p a b m = some p') : p' = (a, (b, m)) :: p := by
  have hat : sp_at j m p = 0 := by
    cases p with
    | nil => rfl
    | cons t r =>
      unfold sp_at
      rw [if_neg]
      have := (sp_cmp_key (hw.2 t (List.mem_cons_self ..)).2.2.2.2 hm j).1
      have h2 := hB t (List.mem_cons_self ..)
      omega
  unfold sp_come at hc
  rw [hat] at hc
  have ins : sp_ins p 0 (a, (b, m)) = some p' → p' = (a, (b, m)) :: p := by
    intro hi
    unfold sp_ins at hi
    split at hi
    · cases hi
    · cases hi; rfl
  cases p with
  | nil => exact ins hc
  | cons t r =>
    have hne : ¬ t.2.2 = m := fun q => by have h2 := hB t (List.mem_cons_self ..); rw [q] at h2; omega
    have hc' : (if t.2.2 = m then (sp_fr (t.1 * b + a * t.2.1) (t.2.1 * b)).map (sp_put (t :: r) 0 m) else sp_ins (t :: r) 0 (a, (b, m))) = some p' := hc
    rw [if_neg hne] at hc'
    exact ins hc'
theorem so_scale {j : Nat} {a b : Int} : ∀ {p p' : sp_P}, sp_scale a b p = some p' → p'.map (fun t => t.2.2) = p.map (fun t => t.2.2)
  | [], p', h => by cases h; rfl
  | t :: r, p', h => by
    unfold sp_scale at h
    cases h1 : sp_fr (t.1 * a) (t.2.1 * b) with
    | none => rw [h1] at h; cases h
    | some f =>
      rw [h1] at h
      cases h2 : sp_scale a b r with
      | none => rw [h2] at h; cases h
      | some r' =>
        rw [h2] at h
        cases h
        rw [List.map_cons, List.map_cons, so_scale (j := j) h2]
theorem so_map {j : Nat} {p p' : sp_P} (h : so j p) (he : p'.map (fun t => t.2.2) = p.map (fun t => t.2.2)) : so j p' := by
  unfold so at h ⊢
  have h1 : List.Pairwise (fun x y : sp_M => sp_key j y < sp_key j x) (p.map (fun t => t.2.2)) := List.pairwise_map.mpr h
  rw [← he] at h1
  exact List.pairwise_map.mp h1
