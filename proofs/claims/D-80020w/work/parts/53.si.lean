/-! PLAIN: the engine's acts keep the elements sorted -/
def SI (j : Nat) (els : List sp_E) : Prop := ∀ E ∈ els, so j E.1 ∧ sp_ew E ∧ E.1 ≠ []
theorem SI.G {j : Nat} {els : List sp_E} (h : SI j els) : ∀ p ∈ sp_G els, so j p ∧ sp_pw p := by
  intro p hp
  unfold sp_G at hp
  obtain ⟨E, hE, rfl⟩ := List.mem_map.mp hp
  exact ⟨(h E hE).1, (h E hE).2.1.1⟩
theorem so_drop {j : Nat} {p : sp_P} (h : so j p) (h0 : p ≠ []) : so j (p.drop 1) ∧ ∀ t ∈ p.drop 1, sp_key j t.2.2 < sp_key j (sp_ld p) := by
  cases p with
  | nil => exact absurd rfl h0
  | cons t r => exact ⟨(List.pairwise_cons.mp h).2, (List.pairwise_cons.mp h).1⟩
theorem so_nil (j : Nat) : so j [] := List.Pairwise.nil
/-- the rest of a reduction lies below the leading monomial -/
theorem SI_rest {j m i : Nat} {els : List sp_E} {E : sp_E} {o1 : Nat} {qs : List sp_P} {rest : sp_P} (h : SI j els) (hE : E ∈ els) (hd : sp_dl j (sp_G els) i m (E.1.drop 1) (List.replicate (sp_G els).length []) [] = (o1, .inr (qs, rest))) : sp_pw rest ∧ so j rest ∧ ∀ t ∈ rest, sp_key j t.2.2 < sp_key j (sp_ld E.1) := by
  have h1 := h E hE
  have h2 := so_drop h1.1 h1.2.2
  have hw : sp_pw (E.1.drop 1) := ⟨by rw [List.length_drop]; have := h1.2.1.1.1; omega, fun t ht => h1.2.1.1.2 t (List.mem_of_mem_drop ht)⟩
  exact so_dl h.G (sp_key j (sp_ld E.1)) hw h2.1 h2.2 sp_pw_nil (so_nil j) (fun t ht => by cases ht) hd
/-- what c_reduce asks -/
theorem SI_ne {j m i : Nat} {els : List sp_E} (h : SI j els) (hi : i < els.length) : ∀ o1 qs rest p, sp_dl j (sp_G els) i m ((sp_at0 els i).1.drop 1) (List.replicate (sp_G els).length []) [] = (o1, .inr (qs, rest)) → sp_come j rest 1 1 (sp_ld (sp_at0 els i).1) = some p → p ≠ [] := by
  intro o1 qs rest p hd hc
  have gi : els[i]? = some els[i] := List.getElem?_eq_getElem hi
  rw [sp_at0_at gi] at hd hc
  have hE := List.mem_of_getElem? gi
  have hr := SI_rest h hE hd
  rw [so_top hr.1 (sp_ld_ok (h _ hE).2.1.1) hr.2.2 hc]
  exact List.cons_ne_nil _ _
theorem sp_shs_w {j : Nat} {qs : List sp_P} {els : List sp_E} (hq : ∀ p ∈ qs, sp_pw p) (he : ∀ k, ∀ p ∈ sp_col els k, sp_pw p) : ∀ {k : Nat} {ss ss' : List sp_P}, (∀ p ∈ ss, sp_pw p) → sp_shs j qs els k ss = some ss' → (∀ p ∈ ss', sp_pw p) ∧ ss'.length = ss.length
  | k, [], ss', _, h => by cases h; exact ⟨fun p hp => (by cases hp), rfl⟩
  | k, x :: r, ss', hs, h => by
    unfold sp_shs at h
    cases h1 : sp_sh j (-1) qs (sp_col els k) x with
    | none => rw [h1] at h; cases h
    | some y =>
      rw [h1] at h
      cases h2 : sp_shs j qs els (k + 1) r with
      | none => rw [h2] at h; cases h
      | some r' =>
        rw [h2] at h
        cases h
        have ih := sp_shs_w hq he (fun p hp => hs p (List.mem_cons_of_mem _ hp)) h2
        refine ⟨fun p hp => ?_, by rw [List.length_cons, List.length_cons, ih.2]⟩
        rcases List.mem_cons.mp hp with e | e
        · subst e; exact sp_sh_w (Or.inr rfl) (hs x (List.mem_cons_self ..)) hq (he k) h1
        · exact ih.1 p e
theorem SI.col {j : Nat} {els : List sp_E} (h : SI j els) (k : Nat) : ∀ p ∈ sp_col els k, sp_pw p := by
  intro p hp
  unfold sp_col at hp
  obtain ⟨E, hE, rfl⟩ := List.mem_map.mp hp
  rw [List.getD_eq_getElem?_getD]
  cases hg : E.2[k]? with
  | none => exact sp_pw_nil
  | some q => exact (h E hE).2.1.2 q (List.mem_of_getElem? hg)
theorem sp_dl_qw {j : Nat} {G : List sp_P} {bt : Nat} (hG : ∀ p ∈ G, sp_pw p) : ∀ {n n' : Nat} {w rest rest' : sp_P} {qs qs' : List sp_P}, sp_pw w → (∀ p ∈ qs, sp_pw p) → sp_dl j G bt n w qs rest = (n', .inr (qs', rest')) → ∀ p ∈ qs', sp_pw p
  | n, n', [], rest, rest', qs, qs', _, hq, h => by
    rw [sp_dl] at h
    cases h; exact hq
  | 0, n', t :: w, rest, rest', qs, qs', _, _, h => by
    rw [sp_dl] at h
    cases h
  | n + 1, n', t :: w, rest, rest', qs, qs', h1, hq, h => by
    have tw := h1.2 t (List.mem_cons_self ..)
    have hwl := h1.1
    rw [List.length_cons] at hwl
    rw [sp_dl] at h
    split at h
    · split at h
      · cases h
      · exact sp_dl_qw hG ⟨by omega, fun s hs => h1.2 s (List.mem_cons_of_mem _ hs)⟩ hq h
    · rename_i gp hgp
      have hg := hG gp (List.mem_of_getElem? hgp)
      split at h
      · cases h
      · rename_i r hr
        split at h
        · cases h
        · rename_i w' hw'
          split at h
          · cases h
          · rename_i q' hq'
            have gb := sp_hd_b hg
            have hC : (if (sp_hd gp).1 < 0 then -(sp_hd gp).2 else (sp_hd gp).2) ≠ 0 := by split <;> omega
            have rb := sp_fr_b (Int.mul_ne_zero (by have := tw.2.2.1; omega) (by omega)) hr
            have r0 : r.1 ≠ 0 := fun q => Int.mul_ne_zero tw.1 hC (rb.2.2.2.mp q)
            have hcf : sp_cf (-r.1) r.2 := ⟨by omega, by omega, rb.2.1, rb.2.2.1⟩
            refine sp_dl_qw hG (sp_plus_w hcf h1 hg.2 hw') (fun p hp => ?_) h
            rcases List.mem_or_eq_of_mem_set hp with e | e
            · exact hq p e
            · subst e
              refine sp_come_w ?_ ⟨r0, rb.1, rb.2.1, rb.2.2.1, sp_sb_ok _ tw.2.2.2.2⟩ hq'
              rw [List.getD_eq_getElem?_getD]
              cases hg2 : qs[sp_fd bt t.2.2 0 G]? with
              | none => exact sp_pw_nil
              | some q => exact hq q (List.mem_of_getElem? hg2)
/-- reducing keeps the elements sorted, and their leading monomials -/
theorem SI_red {j m m' i : Nat} {els els' : List sp_E} (h : SI j els) (hi : i < els.length) (hr : sp_red j m els i = (m', .inr els')) : SI j els' ∧ els'.length = els.length ∧ (sp_G els').map sp_ld = (sp_G els).map sp_ld := by
  have gi : els[i]? = some els[i] := List.getElem?_eq_getElem hi
  generalize els[i] = E at gi
  have hE := List.mem_of_getElem? gi
  unfold sp_red at hr
  rw [sp_at0_at gi] at hr
  split at hr
  · cases hr
  · rename_i o1 qr hd
    obtain ⟨qs, rest⟩ := qr
    have hrest := SI_rest h hE hd
    have h1 := h E hE
    have hw : sp_pw (E.1.drop 1) := ⟨by rw [List.length_drop]; have := h1.2.1.1.1; omega, fun t ht => h1.2.1.1.2 t (List.mem_of_mem_drop ht)⟩
    have hqw := sp_dl_qw (fun p hp => (h.G p hp).2) hw (fun p hp => by rw [List.mem_replicate] at hp; rw [hp.2]; exact sp_pw_nil) hd
    split at hr
    · cases hr
    · rename_i ss hss
      split at hr
      · cases hr
      · rename_i p hp
        cases hr
        have hmok := sp_ld_ok h1.2.1.1
        have hp2 := so_top hrest.1 hmok hrest.2.2 hp
        have hso : so j p := by rw [hp2]; exact List.pairwise_cons.mpr ⟨hrest.2.2, hrest.2.1⟩
        refine ⟨fun E' hE' => ?_, List.length_set .., ?_⟩
        · rcases List.mem_or_eq_of_mem_set hE' with e | e
          · exact h E' e
          · subst e
            exact ⟨hso, ⟨sp_come_w hrest.1 (sp_tw1 hmok) hp, (sp_shs_w hqw h.col h1.2.1.2 hss).1⟩, by show p ≠ []; rw [hp2]; exact List.cons_ne_nil _ _⟩
        · unfold sp_G
          rw [List.map_map, List.map_map, List.map_set]
          apply List.ext_getElem?
          intro k
          rw [List.getElem?_set]
          by_cases hik : i = k
          · subst hik
            rw [if_pos rfl, if_pos (by rw [List.length_map]; exact hi), List.getElem?_map, gi]
            show some (sp_ld p) = some (sp_ld E.1)
            rw [hp2]; rfl
          · rw [if_neg hik]
