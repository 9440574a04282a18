/-! PLAIN: generator, pair, thin and the loop keep the elements sorted -/
theorem sp_key_lt {a : sp_M} (h : sp_ok a) (j : Nat) : sp_key j a < 4611686018427387904 := by
  obtain ⟨a0, a1, a2, a3, a4⟩ := h
  unfold sp_key
  split
  · unfold sp_6; omega
  · split <;> omega
theorem sp_mapS_w {a b : Int} (hc : sp_cf a b) : ∀ {ss ss' : List sp_P}, (∀ p ∈ ss, sp_pw p) → sp_mapS a b ss = some ss' → ∀ p ∈ ss', sp_pw p
  | [], ss', _, h => by cases h; exact fun p hp => (by cases hp)
  | x :: r, ss', hs, h => by
    unfold sp_mapS at h
    cases h1 : sp_scale a b x with
    | none => rw [h1] at h; cases h
    | some y =>
      rw [h1] at h
      cases h2 : sp_mapS a b r with
      | none => rw [h2] at h; cases h
      | some r' =>
        rw [h2] at h
        cases h
        intro p hp
        rcases List.mem_cons.mp hp with e | e
        · subst e
          have hx := hs x (List.mem_cons_self ..)
          have := sp_scale_w hc hx.2 h1
          exact ⟨by rw [this.1]; exact hx.1, this.2⟩
        · exact sp_mapS_w hc (fun p hp => hs p (List.mem_cons_of_mem _ hp)) h2 p e
theorem sp_mf_cf {p : sp_P} (h : sp_pw p) : sp_cf (sp_mf p).1 (sp_mf p).2 := by
  have hb := sp_hd_b h
  refine ⟨?_, ?_, ?_, ?_⟩
  · show (if (sp_hd p).1 < 0 then -(sp_hd p).2 else (sp_hd p).2) ≠ 0
    split <;> omega
  · show (if (sp_hd p).1 < 0 then -(sp_hd p).2 else (sp_hd p).2).natAbs ≤ _
    split <;> omega
  · show 1 ≤ ((sp_hd p).1.natAbs : Int)
    omega
  · show ((sp_hd p).1.natAbs : Int) ≤ _
    omega
theorem SI_mon {j : Nat} {E E' : sp_E} (h : so j E.1 ∧ sp_ew E ∧ E.1 ≠ []) (hm : sp_mon E = some E') : so j E'.1 ∧ sp_ew E' ∧ E'.1 ≠ [] := by
  have hne := sp_mon_w h.2.1 hm h.2.2
  have hcf := sp_mf_cf h.2.1.1
  unfold sp_mon at hm
  cases h1 : sp_scale (sp_mf E.1).1 (sp_mf E.1).2 E.1 with
  | none => rw [h1] at hm; cases hm
  | some p =>
    rw [h1] at hm
    cases h2 : sp_mapS (sp_mf E.1).1 (sp_mf E.1).2 E.2 with
    | none => rw [h2] at hm; cases hm
    | some ss =>
      rw [h2] at hm
      cases hm
      have hw := sp_scale_w hcf h.2.1.1.2 h1
      exact ⟨so_map h.1 (so_scale (j := j) h1), ⟨⟨by rw [hw.1]; exact h.2.1.1.1, hw.2⟩, sp_mapS_w hcf h.2.1.2 h2⟩, hne⟩
theorem SI.app {j : Nat} {els : List sp_E} {E : sp_E} (h : SI j els) (hE : so j E.1 ∧ sp_ew E ∧ E.1 ≠ []) : SI j (els ++ [E]) := by
  intro E' hE'
  rcases List.mem_append.mp hE' with e | e
  · exact h E' e
  · rw [List.mem_singleton] at e; subst e; exact hE
theorem SI_gen {j sh k : Nat} {p : sp_P} {st st' : sp_ES} (h : SI j st.1) (hp : so j p) (hw : sp_pw p) (hg : sp_gen sh k p st = some st') : SI j st'.1 := by
  unfold sp_gen at hg
  split at hg
  · cases hg; exact h
  · rename_i h0
    cases hm : sp_mon (p, sp_us sh k) with
    | none => rw [hm] at hg; cases hg
    | some E =>
      rw [hm] at hg
      cases hg
      exact h.app (SI_mon (E := (p, sp_us sh k)) ⟨hp, ⟨hw, sp_us_w⟩, fun q => h0 (by have q' : p = [] := q; rw [q']; rfl)⟩ hm)
theorem SI.at0 {j i : Nat} {els : List sp_E} (h : SI j els) : sp_ew (sp_at0 els i) := by
  unfold sp_at0
  rw [List.getD_eq_getElem?_getD]
  cases hg : els[i]? with
  | none => exact ⟨sp_pw_nil, fun p hp => (by cases hp)⟩
  | some E => exact (h E (List.mem_of_getElem? hg)).2.1
theorem sp_ss_w {j : Nat} {a b : sp_M} : ∀ {ps qs rs : List sp_P}, (∀ p ∈ ps, sp_pw p) → (∀ p ∈ qs, sp_pw p) → sp_ss j a b ps qs = some rs → ∀ p ∈ rs, sp_pw p
  | [], qs, rs, _, _, h => by cases qs <;> (cases h; exact fun p hp => (by cases hp))
  | p :: ps, [], rs, _, _, h => by cases h; exact fun p hp => (by cases hp)
  | p :: ps, q :: qs, rs, hp, hq, h => by
    unfold sp_ss at h
    cases h1 : sp_s2 j a b p q with
    | none => rw [h1] at h; cases h
    | some x =>
      rw [h1] at h
      cases h2 : sp_ss j a b ps qs with
      | none => rw [h2] at h; cases h
      | some r =>
        rw [h2] at h
        cases h
        intro y hy
        rcases List.mem_cons.mp hy with e | e
        · subst e; exact sp_s2_w (hp p (List.mem_cons_self ..)) (hq q (List.mem_cons_self ..)) h1
        · exact sp_ss_w (fun p h => hp p (List.mem_cons_of_mem _ h)) (fun p h => hq p (List.mem_cons_of_mem _ h)) h2 y e
theorem so_s2 {j : Nat} {a b : sp_M} {p q r : sp_P} (hp : sp_pw p) (hq : sp_pw q) (h : sp_s2 j a b p q = some r) : so j r := by
  unfold sp_s2 at h
  cases h1 : sp_plus j 1 1 a [] p with
  | none => rw [h1] at h; cases h
  | some x =>
    rw [h1] at h
    exact (so_plus sp_cfm (so_plus sp_cf1 (so_nil j) sp_pw_nil hp.2 h1).1 (sp_plus_w sp_cf1 sp_pw_nil hp.2 h1) hq.2 h).1
theorem SI_pair {j m m' i k : Nat} {st st' : sp_ES} (hs : SI j st.1) (h : sp_pair j m st i k = (m', .inr st')) : SI j st'.1 := by
  unfold sp_pair at h
  split at h
  · cases h
  · rename_i wk hwk
    have hi := hs.at0 (i := i)
    have hk := hs.at0 (i := k)
    have wkw := sp_s2_w hi.1 hk.1 hwk
    have wks := so_s2 hi.1 hk.1 hwk
    split at h
    · cases h
    · rename_i ss hss
      have ssw := sp_ss_w hi.2 hk.2 hss
      unfold sp_add at h
      split at h
      · cases h
      · rename_i qr hqr
        split at h
        · cases h; exact hs
        · rename_i h0
          split at h
          · cases h
          · rename_i ss' hss'
            split at h
            · cases h
            · rename_i E hE
              split at h
              · cases h
              · cases h
                have hd : sp_dl j (sp_G st.1) 1000 m wk (List.replicate (sp_G st.1).length []) [] = ((sp_dl j (sp_G st.1) 1000 m wk (List.replicate (sp_G st.1).length []) []).1, .inr (qr.1, qr.2)) := Prod.ext rfl hqr
                have a1 := so_dl hs.G 4611686018427387904 wkw wks (fun t ht => sp_key_lt (wkw.2 t ht).2.2.2.2 j) sp_pw_nil (so_nil j) (fun t ht => (by cases ht)) hd
                have hqw := sp_dl_qw (fun p hp => (hs.G p hp).2) wkw (fun p hp => by rw [List.mem_replicate] at hp; rw [hp.2]; exact sp_pw_nil) hd
                exact hs.app (SI_mon (E := (qr.2, ss')) ⟨a1.2.1, ⟨a1.1, (sp_shs_w hqw hs.col ssw hss').1⟩, fun q => h0 (by have q' : qr.2 = [] := q; rw [q']; rfl)⟩ hE)
theorem SI_lp {j : Nat} : ∀ {k m pr ps : Nat} {st st' : sp_ES} {m' pr' ps' bf : Nat}, SI j st.1 → sp_lp j k m pr ps st = (m', (pr', (ps', (bf, .inr st')))) → SI j st'.1
  | 0, m, pr, ps, st, st', m', pr', ps', bf, hs, h => by
    rw [sp_lp] at h
    cases h
  | k + 1, m, pr, ps, st, st', m', pr', ps', bf, hs, h => by
    rw [sp_lp] at h
    split at h
    · cases h; exact hs
    · rename_i b hb
      split at h
      · exact SI_lp (st := (st.1, sp_clr st.2 b.1 b.2)) hs h
      · split at h
        · cases h
        · rename_i m2 st2 hp
          exact SI_lp (SI_pair (st := (st.1, sp_clr st.2 b.1 b.2)) hs hp) h
theorem sp_ei_mem {j : Nat} {t s : sp_E} : ∀ {r}, s ∈ sp_ei j t r → s = t ∨ s ∈ r
  | [], h => Or.inl (List.mem_singleton.mp h)
  | x :: r, h => by
    unfold sp_ei at h
    split at h
    · rcases List.mem_cons.mp h with h | h
      · exact Or.inr (h ▸ List.mem_cons_self ..)
      · rcases sp_ei_mem h with h | h
        · exact Or.inl h
        · exact Or.inr (List.mem_cons_of_mem _ h)
    · rcases List.mem_cons.mp h with h | h
      · exact Or.inl h
      · exact Or.inr h
theorem sp_eo_mem {j : Nat} {s : sp_E} : ∀ {r acc}, s ∈ sp_eo j acc r → s ∈ acc ∨ s ∈ r
  | [], acc, h => Or.inl h
  | t :: r, acc, h => by
    rcases sp_eo_mem (r := r) (acc := sp_ei j t acc) h with h | h
    · rcases sp_ei_mem h with h | h
      · exact Or.inr (h ▸ List.mem_cons_self ..)
      · exact Or.inl h
    · exact Or.inr (List.mem_cons_of_mem _ h)
theorem sp_kp_mem {els : List sp_E} {s : sp_E} : ∀ {i}, i ≤ els.length → s ∈ sp_kp els i → s ∈ els
  | 0, _, h => by cases h
  | i + 1, hi, h => by
    unfold sp_kp at h
    split at h
    · exact sp_kp_mem (by omega) h
    · rcases List.mem_append.mp h with h | h
      · exact sp_kp_mem (by omega) h
      · rw [List.mem_singleton] at h
        have gi : els[i]? = some els[i] := List.getElem?_eq_getElem (by omega)
        rw [sp_at0_at gi] at h
        rw [h]
        exact List.mem_of_getElem? gi
theorem SI_thin {j : Nat} {els : List sp_E} (h : SI j els) : SI j (sp_thin j els) := by
  intro E hE
  unfold sp_thin at hE
  rcases sp_eo_mem (List.mem_reverse.mp hE) with e | e
  · cases e
  · exact h E (sp_kp_mem (Nat.le_refl _) e)
