/-! PLAIN: the shares are sorted too -/
theorem so_st {j : Nat} {sg : Int} {c : sp_P} (hs : sg = 1 ∨ sg = -1) (hc : sp_pw c) : ∀ {q to to' : sp_P}, sp_pw to → so j to → (∀ t ∈ q, sp_tw t) → sp_st j sg c to q = some to' → so j to'
  | [], to, to', _, ho, _, h => by cases h; exact ho
  | t :: r, to, to', hw, ho, hq, h => by
    unfold sp_st at h
    have hcf := sp_sg_cf hs (hq t (List.mem_cons_self ..))
    cases h1 : sp_plus j (sg * t.1) t.2.1 t.2.2 to c with
    | none => rw [h1] at h; cases h
    | some p1 =>
      rw [h1] at h
      exact so_st hs hc (sp_plus_w hcf hw hc.2 h1) (so_plus hcf ho hw hc.2 h1).1 (fun s hs => hq s (List.mem_cons_of_mem _ hs)) h
theorem so_sh {j : Nat} {sg : Int} (hs : sg = 1 ∨ sg = -1) : ∀ {qs cs : List sp_P} {to to' : sp_P}, sp_pw to → so j to → (∀ p ∈ qs, sp_pw p) → (∀ p ∈ cs, sp_pw p) → sp_sh j sg qs cs to = some to' → so j to'
  | [], cs, to, to', _, ho, _, _, h => by cases cs <;> (cases h; exact ho)
  | q :: qs, [], to, to', _, ho, _, _, h => by cases h; exact ho
  | q :: qs, c :: cs, to, to', hw, ho, h1, h2, h => by
    unfold sp_sh at h
    have hc := h2 c (List.mem_cons_self ..)
    have hq := (h1 q (List.mem_cons_self ..)).2
    cases h3 : sp_st j sg c to q with
    | none => rw [h3] at h; cases h
    | some p1 =>
      rw [h3] at h
      exact so_sh hs (sp_st_w hs hc hw hq h3) (so_st hs hc hw ho hq h3) (fun p hp => h1 p (List.mem_cons_of_mem _ hp)) (fun p hp => h2 p (List.mem_cons_of_mem _ hp)) h
theorem so_shs {j : Nat} {qs : List sp_P} {els : List sp_E} (hq : ∀ p ∈ qs, sp_pw p) (he : ∀ k, ∀ p ∈ sp_col els k, sp_pw p) : ∀ {k : Nat} {ss ss' : List sp_P}, (∀ p ∈ ss, sp_pw p) → (∀ p ∈ ss, so j p) → sp_shs j qs els k ss = some ss' → ∀ p ∈ ss', so j p
  | k, [], ss', _, _, h => by cases h; exact fun p hp => (by cases hp)
  | k, x :: r, ss', hs, ho, h => by
    unfold sp_shs at h
    cases h1 : sp_sh j (-1) qs (sp_col els k) x with
    | none => rw [h1] at h; cases h
    | some y =>
      rw [h1] at h
      cases h2 : sp_shs j qs els (k + 1) r with
      | none => rw [h2] at h; cases h
      | some r' =>
        rw [h2] at h
        cases h
        intro p hp
        rcases List.mem_cons.mp hp with e | e
        · subst e; exact so_sh (Or.inr rfl) (hs x (List.mem_cons_self ..)) (ho x (List.mem_cons_self ..)) hq (he k) h1
        · exact so_shs hq he (fun p hp => hs p (List.mem_cons_of_mem _ hp)) (fun p hp => ho p (List.mem_cons_of_mem _ hp)) h2 p e
theorem so_mapS {j : Nat} {a b : Int} : ∀ {ss ss' : List sp_P}, (∀ p ∈ ss, so j p) → sp_mapS a b ss = some ss' → ∀ p ∈ ss', so j p
  | [], ss', _, h => by cases h; exact fun p hp => (by cases hp)
  | x :: r, ss', hs, h => by
    unfold sp_mapS at h
    cases h1 : sp_scale a b x with
    | none => rw [h1] at h; cases h
    | some y =>
      rw [h1] at h
      cases h2 : sp_mapS a b r with
      | none => rw [h2] at h; cases h
      | some r' =>
        rw [h2] at h
        cases h
        intro p hp
        rcases List.mem_cons.mp hp with e | e
        · subst e; exact so_map (hs x (List.mem_cons_self ..)) (so_scale (j := j) h1)
        · exact so_mapS (fun p hp => hs p (List.mem_cons_of_mem _ hp)) h2 p e
theorem so_ss {j : Nat} {a b : sp_M} : ∀ {ps qs rs : List sp_P}, (∀ p ∈ ps, sp_pw p) → (∀ p ∈ qs, sp_pw p) → sp_ss j a b ps qs = some rs → ∀ p ∈ rs, so j p
  | [], qs, rs, _, _, h => by cases qs <;> (cases h; exact fun p hp => (by cases hp))
  | p :: ps, [], rs, _, _, h => by cases h; exact fun p hp => (by cases hp)
  | p :: ps, q :: qs, rs, hp, hq, h => by
    unfold sp_ss at h
    cases h1 : sp_s2 j a b p q with
    | none => rw [h1] at h; cases h
    | some x =>
      rw [h1] at h
      cases h2 : sp_ss j a b ps qs with
      | none => rw [h2] at h; cases h
      | some r =>
        rw [h2] at h
        cases h
        intro y hy
        rcases List.mem_cons.mp hy with e | e
        · subst e; exact so_s2 (hp p (List.mem_cons_self ..)) (hq q (List.mem_cons_self ..)) h1
        · exact so_ss (fun p h => hp p (List.mem_cons_of_mem _ h)) (fun p h => hq p (List.mem_cons_of_mem _ h)) h2 y e
def SS (j : Nat) (els : List sp_E) : Prop := ∀ E ∈ els, ∀ p ∈ E.2, so j p
theorem SS_mon {j : Nat} {E E' : sp_E} (hs : ∀ p ∈ E.2, so j p) (h : sp_mon E = some E') : ∀ p ∈ E'.2, so j p := by
  unfold sp_mon at h
  cases h1 : sp_scale (sp_mf E.1).1 (sp_mf E.1).2 E.1 with
  | none => rw [h1] at h; cases h
  | some p =>
    rw [h1] at h
    cases h2 : sp_mapS (sp_mf E.1).1 (sp_mf E.1).2 E.2 with
    | none => rw [h2] at h; cases h
    | some ss =>
      rw [h2] at h
      cases h
      exact so_mapS hs h2
theorem SS.app {j : Nat} {els : List sp_E} {E : sp_E} (h : SS j els) (hE : ∀ p ∈ E.2, so j p) : SS j (els ++ [E]) := by
  intro E' hE'
  rcases List.mem_append.mp hE' with e | e
  · exact h E' e
  · rw [List.mem_singleton] at e; subst e; exact hE
theorem SS_gen {j sh k : Nat} {p : sp_P} {st st' : sp_ES} (h : SS j st.1) (hg : sp_gen sh k p st = some st') : SS j st'.1 := by
  unfold sp_gen at hg
  split at hg
  · cases hg; exact h
  · cases hm : sp_mon (p, sp_us sh k) with
    | none => rw [hm] at hg; cases hg
    | some E =>
      rw [hm] at hg
      cases hg
      refine h.app (SS_mon (E := (p, sp_us sh k)) (fun q hq => ?_) hm)
      obtain ⟨i, hi⟩ := List.getElem?_of_mem hq
      rw [(sp_us_at hi).2]
      split
      · exact List.pairwise_singleton _ _
      · exact so_nil j
theorem SS_pair {j m m' i k : Nat} {st st' : sp_ES} (hI : SI j st.1) (hs : SS j st.1) (h : sp_pair j m st i k = (m', .inr st')) : SS j st'.1 := by
  have wi := hI.at0 (i := i)
  have wk' := hI.at0 (i := k)
  unfold sp_pair at h
  split at h
  · cases h
  · rename_i wk hwk
    have wkw := sp_s2_w wi.1 wk'.1 hwk
    split at h
    · cases h
    · rename_i ss hss
      have ssw := sp_ss_w wi.2 wk'.2 hss
      have sso := so_ss wi.2 wk'.2 hss
      unfold sp_add at h
      split at h
      · cases h
      · rename_i qr hqr
        split at h
        · cases h; exact hs
        · split at h
          · cases h
          · rename_i ss' hss'
            split at h
            · cases h
            · rename_i E hE
              split at h
              · cases h
              · cases h
                have hd : sp_dl j (sp_G st.1) 1000 m wk (List.replicate (sp_G st.1).length []) [] = ((sp_dl j (sp_G st.1) 1000 m wk (List.replicate (sp_G st.1).length []) []).1, .inr (qr.1, qr.2)) := Prod.ext rfl hqr
                have hqw := sp_dl_qw (fun p hp => (hI.G p hp).2) wkw (fun p hp => by rw [List.mem_replicate] at hp; rw [hp.2]; exact sp_pw_nil) hd
                exact hs.app (SS_mon (E := (qr.2, ss')) (so_shs hqw hI.col ssw sso hss') hE)
theorem SS_lp {j : Nat} : ∀ {k m pr ps : Nat} {st st' : sp_ES} {m' pr' ps' bf : Nat}, SI j st.1 → SS j st.1 → sp_lp j k m pr ps st = (m', (pr', (ps', (bf, .inr st')))) → SS j st'.1
  | 0, m, pr, ps, st, st', m', pr', ps', bf, _, hs, h => by
    rw [sp_lp] at h
    cases h
  | k + 1, m, pr, ps, st, st', m', pr', ps', bf, hI, hs, h => by
    rw [sp_lp] at h
    split at h
    · cases h; exact hs
    · rename_i b hb
      split at h
      · exact SS_lp (st := (st.1, sp_clr st.2 b.1 b.2)) hI hs h
      · split at h
        · cases h
        · rename_i m2 st2 hp
          exact SS_lp (SI_pair (st := (st.1, sp_clr st.2 b.1 b.2)) hI hp) (SS_pair (st := (st.1, sp_clr st.2 b.1 b.2)) hI hs hp) h
theorem SS_thin {j : Nat} {els : List sp_E} (h : SS j els) : SS j (sp_thin j els) := fun E hE =>
  h E (sp_kp_mem (Nat.le_refl _) ((sp_thin_perm j els).mem_iff.mp hE))
theorem SS_red {j m m' i : Nat} {els els' : List sp_E} (hI : SI j els) (h : SS j els) (hi : i < els.length) (hr : sp_red j m els i = (m', .inr els')) : SS j els' := by
  have gi : els[i]? = some els[i] := List.getElem?_eq_getElem hi
  generalize els[i] = E at gi
  have hE := List.mem_of_getElem? gi
  unfold sp_red at hr
  rw [sp_at0_at gi] at hr
  split at hr
  · cases hr
  · rename_i o1 qr hd
    obtain ⟨qs, rest⟩ := qr
    have h1 := hI E hE
    have hw : sp_pw (E.1.drop 1) := ⟨by rw [List.length_drop]; have := h1.2.1.1.1; omega, fun t ht => h1.2.1.1.2 t (List.mem_of_mem_drop ht)⟩
    have hqw := sp_dl_qw (fun p hp => (hI.G p hp).2) hw (fun p hp => by rw [List.mem_replicate] at hp; rw [hp.2]; exact sp_pw_nil) hd
    split at hr
    · cases hr
    · rename_i ss hss
      split at hr
      · cases hr
      · cases hr
        intro E' hE'
        rcases List.mem_or_eq_of_mem_set hE' with e | e
        · exact h E' e
        · subst e
          exact so_shs hqw hI.col h1.2.1.2 (h E hE) hss
theorem SS_reds {j : Nat} : ∀ {k i m m' : Nat} {els els' : List sp_E}, SI j els → SS j els → i + k ≤ els.length → sp_reds j k i m els = (m', .inr els') → SS j els'
  | 0, i, m, m', els, els', _, h, _, hr => by rw [sp_reds] at hr; cases hr; exact h
  | k + 1, i, m, m', els, els', hI, h, hi, hr => by
    rw [sp_reds] at hr
    split at hr
    · cases hr
    · rename_i m2 els2 h2
      have a1 := SI_red hI (by omega) h2
      exact SS_reds a1.1 (SS_red hI h (by omega) h2) (by rw [a1.2.1]; omega) hr
theorem SS_fin {j : Nat} {st : sp_ES} {k m m' pr ps bf : Nat} {els : List sp_E} (hI : SI j st.1) (h : SS j st.1) (hf : sp_fin j (sp_lp j k m 0 0 st) = (m', (pr, (ps, (bf, .inr els))))) : SS j els := by
  unfold sp_fin at hf
  split at hf
  · cases hf
  · rename_i m2 pr2 ps2 bf2 st2 hl
    obtain ⟨m3, o, hr⟩ : ∃ m3 o, sp_reds j (sp_thin j st2.1).length 0 m2 (sp_thin j st2.1) = (m3, o) := ⟨_, _, rfl⟩
    rw [hr] at hf
    cases hf
    exact SS_reds (SI_thin (SI_lp hI hl)) (SS_thin (SS_lp hI h hl)) (by omega) hr
