/-! PLAIN: what holds of the elements, and the acts that keep it -/
theorem fold_mem {α β : Type} {P : α → Prop} {f : α → β → α} : ∀ {l : List β} {a : α}, (∀ a x, x ∈ l → P a → P (f a x)) → P a → P (l.foldl f a)
  | [], a, _, h => h
  | x :: l, a, hs, h => fold_mem (l := l) (fun a y hy => hs a y (List.mem_cons_of_mem _ hy)) (hs a x (List.mem_cons_self ..) h)
theorem sp_next_lt {j : Nat} {G : List sp_P} {w : Nat → Nat → Bool} : ∀ b, sp_next j G w = some b → b.1 < b.2 ∧ b.2 < G.length := by
  unfold sp_next
  refine fold_mem (P := fun o : Option (Nat × Nat) => ∀ b : Nat × Nat, o = some b → b.1 < b.2 ∧ b.2 < G.length) (fun a k hk ha => ?_) (fun b hb => by cases hb)
  have hk := List.mem_range.mp hk
  unfold sp_nk
  refine fold_mem (P := fun o : Option (Nat × Nat) => ∀ b : Nat × Nat, o = some b → b.1 < b.2 ∧ b.2 < G.length) (fun a i hi ha => ?_) ha
  have hi := List.mem_range.mp hi
  unfold sp_ns
  split
  · split
    · intro b hb; cases hb; exact ⟨hi, hk⟩
    · split
      · intro b hb; cases hb; exact ⟨hi, hk⟩
      · exact ha
  · exact ha
theorem sp_fr_self {n : Int} (h : 0 < n) : sp_fr n n = some (1, 1) := by
  have e : ((Int.gcd n n : Nat) : Int) = n := by rw [Int.gcd_self]; omega
  have e1 : n.tdiv n = 1 := Int.tdiv_self (by omega)
  unfold sp_fr
  rw [e, e1, if_pos ⟨by decide, by decide⟩, if_neg (by omega)]
  rfl
theorem sp_mon_hd {E E' : sp_E} (hw : sp_ew E) (h0 : E.1 ≠ []) (h : sp_mon E = some E') : sp_hd E'.1 = (1, 1) := by
  obtain ⟨p, ss⟩ := E
  cases p with
  | nil => exact absurd rfl h0
  | cons t r =>
    have tw := hw.1.2 t (List.mem_cons_self ..)
    unfold sp_mon at h
    have e0 : t.1 * (if t.1 < 0 then -t.2.1 else t.2.1) = t.2.1 * (t.1.natAbs : Int) := by
      split
      · rw [show ((t.1.natAbs : Nat) : Int) = -t.1 by omega, Int.mul_neg, Int.mul_neg, Int.mul_comm]
      · rw [show ((t.1.natAbs : Nat) : Int) = t.1 by omega, Int.mul_comm]
    have hpos : 0 < t.2.1 * (t.1.natAbs : Int) := Int.mul_pos (by have := tw.2.2.1; omega) (by have := tw.1; omega)
    have e1 : sp_fr (t.1 * (sp_mf (t :: r)).1) (t.2.1 * (sp_mf (t :: r)).2) = some (1, 1) := by
      show sp_fr (t.1 * (if t.1 < 0 then -t.2.1 else t.2.1)) (t.2.1 * (t.1.natAbs : Int)) = _
      rw [e0]
      exact sp_fr_self hpos
    dsimp only at h
    rw [sp_scale, e1] at h
    cases h2 : sp_scale (sp_mf (t :: r)).1 (sp_mf (t :: r)).2 r with
    | none => rw [h2] at h; cases h
    | some r' =>
      rw [h2] at h
      cases h3 : sp_mapS (sp_mf (t :: r)).1 (sp_mf (t :: r)).2 ss with
      | none => rw [h3] at h; cases h
      | some ss' => rw [h3] at h; cases h; rfl
/-- an element of so many shares, in so many variables, the leading number 1 -/
def HE1 (v sh : Nat) (E : sp_E) : Prop := E.2.length = sh ∧ (HVp v E.1 ∧ ∀ p ∈ E.2, HVp v p) ∧ sp_hd E.1 = (1, 1)
def SE (j v sh : Nat) (els : List sp_E) : Prop := SI j els ∧ els.length ≤ 24 ∧ ∀ E ∈ els, HE1 v sh E
theorem HE1_mon {v sh : Nat} {E E' : sp_E} (hw : sp_ew E) (h0 : E.1 ≠ []) (hl : E.2.length = sh) (hv : HVp v E.1) (hs : ∀ p ∈ E.2, HVp v p) (h : sp_mon E = some E') : HE1 v sh E' := by
  have h9 := sp_mon_hd hw h0 h
  unfold sp_mon at h
  cases h1 : sp_scale (sp_mf E.1).1 (sp_mf E.1).2 E.1 with
  | none => rw [h1] at h; cases h
  | some p =>
    rw [h1] at h
    cases h2 : sp_mapS (sp_mf E.1).1 (sp_mf E.1).2 E.2 with
    | none => rw [h2] at h; cases h
    | some ss =>
      rw [h2] at h
      cases h
      have h3 := HVp_mapS hs h2
      exact ⟨by show ss.length = sh; rw [h3.2, hl], ⟨HVp_map hv (so_scale (j := 0) h1), h3.1⟩, h9⟩
theorem HVp_us {v sh k : Nat} : ∀ p ∈ sp_us sh k, HVp v p := by
  intro p hp
  obtain ⟨i, hi⟩ := List.getElem?_of_mem hp
  rw [(sp_us_at hi).2]
  split
  · exact HVp_un v
  · exact HVp_nil v
theorem SE.app {j v sh : Nat} {els : List sp_E} {E : sp_E} (h : SE j v sh els) (hl : els.length < 24) (hE : so j E.1 ∧ sp_ew E ∧ E.1 ≠ []) (h1 : HE1 v sh E) : SE j v sh (els ++ [E]) := by
  refine ⟨h.1.app hE, by rw [List.length_append]; show _ + 1 ≤ 24; omega, fun E' hE' => ?_⟩
  rcases List.mem_append.mp hE' with e | e
  · exact h.2.2 E' e
  · rw [List.mem_singleton] at e; subst e; exact h1
theorem SE_gen {j v sh k : Nat} {p : sp_P} {st st' : sp_ES} (h : SE j v sh st.1) (hl : st.1.length < 24) (hp : so j p) (hw : sp_pw p) (hv : HVp v p) (hg : sp_gen sh k p st = some st') : SE j v sh st'.1 ∧ st'.1.length ≤ st.1.length + 1 := by
  unfold sp_gen at hg
  split at hg
  · cases hg; exact ⟨h, Nat.le_succ _⟩
  · rename_i h0
    cases hm : sp_mon (p, sp_us sh k) with
    | none => rw [hm] at hg; cases hg
    | some E =>
      rw [hm] at hg
      cases hg
      have hne : p ≠ [] := fun q => h0 (by rw [q]; rfl)
      have hew : sp_ew (p, sp_us sh k) := ⟨hw, sp_us_w⟩
      refine ⟨h.app hl (SI_mon (E := (p, sp_us sh k)) ⟨hp, hew, hne⟩ hm) (HE1_mon (E := (p, sp_us sh k)) hew hne (sp_us_len sh k) hv HVp_us hm), ?_⟩
      show (st.1 ++ [E]).length ≤ _
      rw [List.length_append]
      exact Nat.le_refl _
theorem SE.G {j v sh : Nat} {els : List sp_E} (h : SE j v sh els) : ∀ p ∈ sp_G els, HVp v p := by
  intro p hp
  unfold sp_G at hp
  obtain ⟨E, hE, rfl⟩ := List.mem_map.mp hp
  exact (h.2.2 E hE).2.1.1
theorem SE.col {j v sh : Nat} {els : List sp_E} (h : SE j v sh els) (k : Nat) : ∀ p ∈ sp_col els k, HVp v p := by
  intro p hp
  unfold sp_col at hp
  obtain ⟨E, hE, rfl⟩ := List.mem_map.mp hp
  exact HVp_getD (h.2.2 E hE).2.1.2
theorem SE.at0 {j v sh i : Nat} {els : List sp_E} (h : SE j v sh els) (hi : i < els.length) : HE1 v sh (sp_at0 els i) := by
  have gi : els[i]? = some els[i] := List.getElem?_eq_getElem hi
  rw [sp_at0_at gi]
  exact h.2.2 _ (List.mem_of_getElem? gi)
theorem gl_at0 (els : List sp_E) (k : Nat) : gl (sp_G els) k = sp_ld (sp_at0 els k).1 := by
  unfold gl sp_G sp_at0
  rw [List.getD_eq_getElem?_getD, List.getD_eq_getElem?_getD, List.getElem?_map]
  cases els[k]? <;> rfl
theorem HVp_rep {v n : Nat} : ∀ p ∈ List.replicate n ([] : sp_P), HVp v p := fun p hp => by
  rw [List.mem_replicate] at hp
  rw [hp.2]
  exact HVp_nil v
theorem SE_pair {j v sh m m' i k : Nat} {st st' : sp_ES} (hs : SE j v sh st.1) (hi : i < st.1.length) (hk : k < st.1.length) (h : sp_pair j m st i k = (m', .inr st')) : SE j v sh st'.1 := by
  have hSI := SI_pair hs.1 h
  have hlen := (sp_pair_mu hs.2.1 h).1
  have ei := hs.at0 hi
  have ek := hs.at0 hk
  refine ⟨hSI, hlen, ?_⟩
  have wi := hs.1.at0 (i := i)
  have wk' := hs.1.at0 (i := k)
  unfold sp_pair at h
  rw [gl_at0, gl_at0] at h
  have hci : HV v (sp_ld (sp_at0 st.1 i).1) := HVp_ld ei.2.1.1
  have hck : HV v (sp_ld (sp_at0 st.1 k).1) := HVp_ld ek.2.1.1
  have ha := HV_sb (sp_ld (sp_at0 st.1 i).1) (HV_cm hci hck)
  have hb := HV_sb (sp_ld (sp_at0 st.1 k).1) (HV_cm hci hck)
  split at h
  · cases h
  · rename_i wk hwk
    have hwv := HVp_s2 ha hb ei.2.1.1 ek.2.1.1 hwk
    have wkw := sp_s2_w wi.1 wk'.1 hwk
    have wks := so_s2 wi.1 wk'.1 hwk
    split at h
    · cases h
    · rename_i ss hss
      have hsv := HVp_ss ha hb ei.2.1.2 ek.2.1.2 hss
      have ssw := sp_ss_w wi.2 wk'.2 hss
      unfold sp_add at h
      split at h
      · cases h
      · rename_i qr hqr
        split at h
        · cases h; exact hs.2.2
        · rename_i h0
          split at h
          · cases h
          · rename_i ss' hss'
            split at h
            · cases h
            · rename_i E hE
              split at h
              · cases h
              · cases h
                have hd : sp_dl j (sp_G st.1) 1000 m wk (List.replicate (sp_G st.1).length []) [] = ((sp_dl j (sp_G st.1) 1000 m wk (List.replicate (sp_G st.1).length []) []).1, .inr (qr.1, qr.2)) := Prod.ext rfl hqr
                have a1 := so_dl hs.1.G 4611686018427387904 wkw wks (fun t ht => sp_key_lt (wkw.2 t ht).2.2.2.2 j) sp_pw_nil (so_nil j) (fun t ht => (by cases ht)) hd
                have hqw := sp_dl_qw (fun p hp => (hs.1.G p hp).2) wkw (fun p hp => by rw [List.mem_replicate] at hp; rw [hp.2]; exact sp_pw_nil) hd
                have hqv := HVp_dl hs.G hwv HVp_rep (HVp_nil v) hd
                have hs1 := sp_shs_w hqw hs.1.col ssw hss'
                have hs2 := HVp_shs hqv.1 hs.col hsv.1 hss'
                have hne : qr.2 ≠ [] := fun q => h0 (by rw [q]; rfl)
                intro E' hE'
                rcases List.mem_append.mp hE' with e | e
                · exact hs.2.2 E' e
                · rw [List.mem_singleton] at e
                  subst e
                  exact HE1_mon (E := (qr.2, ss')) ⟨a1.1, hs1.1⟩ hne (by show ss'.length = sh; rw [hs1.2, hsv.2 (by rw [ei.1, ek.1]), ei.1]) hqv.2 hs2 hE
theorem SE_lp {j v sh : Nat} : ∀ {k m pr ps : Nat} {st st' : sp_ES} {m' pr' ps' bf : Nat}, SE j v sh st.1 → sp_lp j k m pr ps st = (m', (pr', (ps', (bf, .inr st')))) → SE j v sh st'.1
  | 0, m, pr, ps, st, st', m', pr', ps', bf, hs, h => by
    rw [sp_lp] at h
    cases h
  | k + 1, m, pr, ps, st, st', m', pr', ps', bf, hs, h => by
    rw [sp_lp] at h
    split at h
    · cases h; exact hs
    · rename_i b hb
      have hlt := sp_next_lt b hb
      have hGl : (sp_G st.1).length = st.1.length := by rw [sp_G, List.length_map]
      split at h
      · exact SE_lp (st := (st.1, sp_clr st.2 b.1 b.2)) hs h
      · split at h
        · cases h
        · rename_i m2 st2 hp
          exact SE_lp (SE_pair (st := (st.1, sp_clr st.2 b.1 b.2)) hs (by show b.1 < st.1.length; omega) (by show b.2 < st.1.length; omega) hp) h
theorem sp_ei_perm (j : Nat) (t : sp_E) : ∀ r, List.Perm (sp_ei j t r) (t :: r)
  | [] => List.Perm.refl _
  | x :: r => by
    unfold sp_ei
    split
    · exact (List.Perm.cons x (sp_ei_perm j t r)).trans (List.Perm.swap t x r)
    · exact List.Perm.refl _
theorem sp_eo_perm (j : Nat) : ∀ r acc : List sp_E, List.Perm (sp_eo j acc r) (acc ++ r)
  | [], acc => by rw [List.append_nil]; exact List.Perm.refl _
  | t :: r, acc => by
    refine (sp_eo_perm j r (sp_ei j t acc)).trans ?_
    refine ((sp_ei_perm j t acc).append_right r).trans ?_
    exact List.perm_middle.symm
theorem sp_thin_perm (j : Nat) (els : List sp_E) : List.Perm (sp_thin j els) (sp_kp els els.length) :=
  (List.reverse_perm _).trans (sp_eo_perm j _ [])
theorem SE_thin {j v sh : Nat} {els : List sp_E} (h : SE j v sh els) : SE j v sh (sp_thin j els) := by
  refine ⟨SI_thin h.1, ?_, fun E hE => ?_⟩
  · rw [(sp_thin_perm j els).length_eq]
    have := sp_kp_len els els.length
    have := h.2.1
    omega
  · exact h.2.2 E (sp_kp_mem (Nat.le_refl _) ((sp_thin_perm j els).mem_iff.mp hE))
/-- no leading monomial divides another -/
def ND (els : List sp_E) : Prop := (els.map (fun E => sp_ld E.1)).Pairwise (fun a b => sp_dv a b = false ∧ sp_dv b a = false)
theorem sp_gone_f {els : List sp_E} {i k : Nat} (hi : sp_gone els i = false) (hk : k < els.length) (hki : k ≠ i) (hd : sp_dv (gl (sp_G els) k) (gl (sp_G els) i) = true) : gl (sp_G els) k = gl (sp_G els) i ∧ i < k := by
  unfold sp_gone at hi
  have h1 := (List.any_eq_false.mp hi) k (List.mem_range.mpr hk)
  rw [decide_eq_true hki, hd, Bool.true_and, Bool.true_and] at h1
  by_cases he : gl (sp_G els) k = gl (sp_G els) i
  · refine ⟨he, ?_⟩
    by_cases hlt : k < i
    · rw [decide_eq_true hlt, Bool.or_true] at h1; exact absurd rfl h1
    · omega
  · rw [decide_eq_false he, Bool.not_false, Bool.true_or] at h1; exact absurd rfl h1
theorem sp_gone_2 {els : List sp_E} {i k : Nat} (hi : sp_gone els i = false) (hk : sp_gone els k = false) (li : i < els.length) (lk : k < els.length) (hne : k ≠ i) : sp_dv (gl (sp_G els) k) (gl (sp_G els) i) = false := by
  cases hd : sp_dv (gl (sp_G els) k) (gl (sp_G els) i) with
  | false => rfl
  | true =>
    have h1 := sp_gone_f hi lk hne hd
    have hd2 : sp_dv (gl (sp_G els) i) (gl (sp_G els) k) = true := by rw [h1.1] at hd ⊢; exact hd
    have h2 := sp_gone_f hk li (fun q => hne q.symm) hd2
    omega
theorem ND_kp {els : List sp_E} : ∀ i, i ≤ els.length → ND (sp_kp els i) ∧ ∀ E ∈ sp_kp els i, ∃ a, a < i ∧ sp_gone els a = false ∧ sp_at0 els a = E
  | 0, _ => ⟨List.Pairwise.nil, fun E h => (by cases h)⟩
  | i + 1, hi => by
    have ih := ND_kp (els := els) i (by omega)
    unfold sp_kp
    split
    · exact ⟨ih.1, fun E hE => by
        obtain ⟨a, h1, h2⟩ := ih.2 E hE
        exact ⟨a, by omega, h2⟩⟩
    · rename_i hg
      have hg : sp_gone els i = false := by cases hq : sp_gone els i with
        | false => rfl
        | true => exact absurd hq hg
      refine ⟨?_, fun E hE => ?_⟩
      · unfold ND
        rw [List.map_append, List.pairwise_append]
        refine ⟨ih.1, List.pairwise_singleton _ _, fun a ha b hb => ?_⟩
        obtain ⟨E, hE, rfl⟩ := List.mem_map.mp ha
        obtain ⟨k, hk1, hk2, rfl⟩ := ih.2 E hE
        rw [List.map_singleton, List.mem_singleton] at hb
        subst hb
        rw [← gl_at0, ← gl_at0]
        exact ⟨sp_gone_2 hg hk2 (by omega) (by omega) (by omega), sp_gone_2 hk2 hg (by omega) (by omega) (by omega)⟩
      · rcases List.mem_append.mp hE with e | e
        · obtain ⟨a, h1, h2⟩ := ih.2 E e
          exact ⟨a, by omega, h2⟩
        · rw [List.mem_singleton] at e
          exact ⟨i, by omega, hg, e.symm⟩
theorem ND_thin (j : Nat) (els : List sp_E) : ND (sp_thin j els) :=
  (((sp_thin_perm j els).map _).pairwise_iff (fun h => ⟨h.2, h.1⟩)).mpr (ND_kp els.length (Nat.le_refl _)).1
theorem ND_ld {els els' : List sp_E} (h : ND els) (he : (sp_G els').map sp_ld = (sp_G els).map sp_ld) : ND els' := by
  unfold sp_G at he
  rw [List.map_map, List.map_map] at he
  unfold ND at h ⊢
  exact (show (els'.map (fun E => sp_ld E.1)) = els.map (fun E => sp_ld E.1) from he) ▸ h
theorem SE_red {j v sh m m' i : Nat} {els els' : List sp_E} (h : SE j v sh els) (hi : i < els.length) (hr : sp_red j m els i = (m', .inr els')) : SE j v sh els' ∧ els'.length = els.length ∧ (sp_G els').map sp_ld = (sp_G els).map sp_ld := by
  have h3 := SI_red h.1 hi hr
  refine ⟨⟨h3.1, by rw [h3.2.1]; exact h.2.1, ?_⟩, h3.2⟩
  have gi : els[i]? = some els[i] := List.getElem?_eq_getElem hi
  have e0 := h.at0 hi
  rw [sp_at0_at gi] at e0
  generalize els[i] = E at gi e0
  have hE := List.mem_of_getElem? gi
  unfold sp_red at hr
  rw [sp_at0_at gi] at hr
  split at hr
  · cases hr
  · rename_i o1 qr hd
    obtain ⟨qs, rest⟩ := qr
    have hrest := SI_rest h.1 hE hd
    have h1 := h.1 E hE
    have hw : sp_pw (E.1.drop 1) := ⟨by rw [List.length_drop]; have := h1.2.1.1.1; omega, fun t ht => h1.2.1.1.2 t (List.mem_of_mem_drop ht)⟩
    have hqw := sp_dl_qw (fun p hp => (h.1.G p hp).2) hw (fun p hp => by rw [List.mem_replicate] at hp; rw [hp.2]; exact sp_pw_nil) hd
    have hqv := HVp_dl h.G (fun t ht => e0.2.1.1 t (List.mem_of_mem_drop ht)) HVp_rep (HVp_nil v) hd
    split at hr
    · cases hr
    · rename_i ss hss
      split at hr
      · cases hr
      · rename_i p hp
        cases hr
        have hmok := sp_ld_ok h1.2.1.1
        have hp2 := so_top hrest.1 hmok hrest.2.2 hp
        intro E' hE'
        rcases List.mem_or_eq_of_mem_set hE' with e | e
        · exact h.2.2 E' e
        · subst e
          refine ⟨by show ss.length = sh; rw [(sp_shs_w hqw h.1.col h1.2.1.2 hss).2, e0.1], ⟨HVp_come hqv.2 (HVp_ld e0.2.1.1) hp, HVp_shs hqv.1 h.col e0.2.1.2 hss⟩, ?_⟩
          show sp_hd p = (1, 1)
          rw [hp2]; rfl
theorem SE_reds {j v sh : Nat} : ∀ {k i m m' : Nat} {els els' : List sp_E}, SE j v sh els → i + k ≤ els.length → sp_reds j k i m els = (m', .inr els') → SE j v sh els' ∧ els'.length = els.length ∧ (sp_G els').map sp_ld = (sp_G els).map sp_ld
  | 0, i, m, m', els, els', h, _, hr => by rw [sp_reds] at hr; cases hr; exact ⟨h, rfl, rfl⟩
  | k + 1, i, m, m', els, els', h, hi, hr => by
    rw [sp_reds] at hr
    split at hr
    · cases hr
    · rename_i m2 els2 h2
      have a1 := SE_red h (by omega) h2
      have a2 := SE_reds a1.1 (by rw [a1.2.1]; omega) hr
      exact ⟨a2.1, a2.2.1.trans a1.2.1, a2.2.2.trans a1.2.2⟩
/-- what a finished basis is -/
theorem SE_fin {j v sh : Nat} {st : sp_ES} {k m m' pr ps bf : Nat} {els : List sp_E} (h : SE j v sh st.1) (hf : sp_fin j (sp_lp j k m 0 0 st) = (m', (pr, (ps, (bf, .inr els))))) : SE j v sh els ∧ ND els := by
  unfold sp_fin at hf
  split at hf
  · cases hf
  · rename_i m2 pr2 ps2 bf2 st2 hl
    have hs := SE_thin (SE_lp h hl)
    obtain ⟨m3, o, hr⟩ : ∃ m3 o, sp_reds j (sp_thin j st2.1).length 0 m2 (sp_thin j st2.1) = (m3, o) := ⟨_, _, rfl⟩
    rw [hr] at hf
    cases hf
    have h3 := SE_reds hs (by omega) hr
    exact ⟨h3.1, ND_ld (ND_thin j _) h3.2.2⟩
