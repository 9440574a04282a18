/-! PLAIN: only the first v variables -/
/-- only the first v variables are in it -/
def HV (v : Nat) (m : sp_M) : Prop := ∀ i, v ≤ i → i < 5 → sp_ex m i = 0
def HVp (v : Nat) (p : sp_P) : Prop := ∀ t ∈ p, HV v t.2.2
theorem lt5 {i : Nat} (h : i < 5) : i = 0 ∨ i = 1 ∨ i = 2 ∨ i = 3 ∨ i = 4 := by omega
theorem sp_mm_ex (a b : sp_M) {i : Nat} (h : i < 5) : sp_ex (sp_mm a b) i = sp_ex a i + sp_ex b i := by
  rcases lt5 h with h | h | h | h | h <;> (subst h; rfl)
theorem sp_sb_ex (a b : sp_M) {i : Nat} (h : i < 5) : sp_ex (sp_sb a b) i = sp_ex a i - sp_ex b i := by
  rcases lt5 h with h | h | h | h | h <;> (subst h; rfl)
theorem HV_zm (v : Nat) : HV v sp_zm := fun i _ h => by
  rcases lt5 h with h | h | h | h | h <;> (subst h; rfl)
theorem HV_mm {v : Nat} {a b : sp_M} (ha : HV v a) (hb : HV v b) : HV v (sp_mm a b) := fun i h1 h2 => by
  rw [sp_mm_ex _ _ h2, ha i h1 h2, hb i h1 h2]
theorem HV_sb {v : Nat} {a : sp_M} (b : sp_M) (ha : HV v a) : HV v (sp_sb a b) := fun i h1 h2 => by
  rw [sp_sb_ex _ _ h2, ha i h1 h2]; exact Nat.zero_sub _
theorem HV_cm {v : Nat} {a b : sp_M} (ha : HV v a) (hb : HV v b) : HV v (sp_cm a b) := fun i h1 h2 => by
  rw [sp_cm_ex, ha i h1 h2, hb i h1 h2]; rfl
theorem HV_le {v w : Nat} {m : sp_M} (h : HV v m) (hw : v ≤ w) : HV w m := fun i h1 h2 => h i (by omega) h2
theorem HVp_le {v w : Nat} {p : sp_P} (h : HVp v p) (hw : v ≤ w) : HVp w p := fun t ht => HV_le (h t ht) hw
theorem HVp_nil (v : Nat) : HVp v [] := fun _ h => (by cases h)
theorem HVp_ld {v : Nat} {p : sp_P} (h : HVp v p) : HV v (sp_ld p) := by
  cases p with
  | nil => exact HV_zm v
  | cons t r => exact h t (List.mem_cons_self ..)
theorem HVp_un (v : Nat) : HVp v sp_un := fun t ht => by
  rw [sp_un, List.mem_singleton] at ht
  subst ht
  exact HV_zm v
theorem come_mem {j : Nat} {p p' : sp_P} {a b : Int} {m : sp_M} (h : sp_come j p a b m = some p') : ∀ t ∈ p', t.2.2 = m ∨ t ∈ p := by
  have ins : sp_ins p (sp_at j m p) (a, (b, m)) = some p' → ∀ t ∈ p', t.2.2 = m ∨ t ∈ p := by
    intro hi t ht
    unfold sp_ins at hi
    split at hi
    · cases hi
    · cases hi
      rcases (List.mem_insertIdx (sp_at_le j m p)).mp ht with e | e
      · subst e; exact Or.inl rfl
      · exact Or.inr e
  unfold sp_come at h
  split at h
  · rename_i t _
    split at h
    · cases hf : sp_fr (t.1 * b + a * t.2.1) (t.2.1 * b) with
      | none => rw [hf] at h; cases h
      | some r =>
        rw [hf] at h
        cases h
        intro s hs
        unfold sp_put at hs
        split at hs
        · exact Or.inr (List.mem_of_mem_eraseIdx hs)
        · rcases List.mem_or_eq_of_mem_set hs with e | e
          · exact Or.inr e
          · subst e; exact Or.inl rfl
    · exact ins h
  · exact ins h
theorem HVp_come {v j : Nat} {p p' : sp_P} {a b : Int} {m : sp_M} (hp : HVp v p) (hm : HV v m) (h : sp_come j p a b m = some p') : HVp v p' := fun t ht => by
  rcases come_mem h t ht with e | e
  · rw [e]; exact hm
  · exact hp t e
theorem HVp_one {v j : Nat} {a b : Int} {m : sp_M} {t : sp_T} {p p' : sp_P} (hp : HVp v p) (hm : HV v m) (ht : HV v t.2.2) (h : sp_one j a b m t p = some p') : HVp v p' := by
  unfold sp_one at h
  split at h
  · cases hr : sp_fr (a * t.1) (b * t.2.1) with
    | none => rw [hr] at h; cases h
    | some r =>
      rw [hr] at h
      exact HVp_come hp (HV_mm hm ht) h
  · cases h
theorem HVp_plus {v j : Nat} {a b : Int} {m : sp_M} (hm : HV v m) : ∀ {q p p' : sp_P}, HVp v p → HVp v q → sp_plus j a b m p q = some p' → HVp v p'
  | [], p, p', hp, _, h => by cases h; exact hp
  | t :: r, p, p', hp, hq, h => by
    unfold sp_plus at h
    cases h1 : sp_one j a b m t p with
    | none => rw [h1] at h; cases h
    | some p1 =>
      rw [h1] at h
      exact HVp_plus hm (HVp_one hp hm (hq t (List.mem_cons_self ..)) h1) (fun s hs => hq s (List.mem_cons_of_mem _ hs)) h
theorem HVp_getD {v : Nat} {qs : List sp_P} {i : Nat} (h : ∀ p ∈ qs, HVp v p) : HVp v (qs.getD i []) := by
  rw [List.getD_eq_getElem?_getD]
  cases hg : qs[i]? with
  | none => exact HVp_nil v
  | some q => exact h q (List.mem_of_getElem? hg)
theorem HVp_dl {v j : Nat} {G : List sp_P} {bt : Nat} (hG : ∀ p ∈ G, HVp v p) : ∀ {n n' : Nat} {w rest rest' : sp_P} {qs qs' : List sp_P}, HVp v w → (∀ p ∈ qs, HVp v p) → HVp v rest → sp_dl j G bt n w qs rest = (n', .inr (qs', rest')) → (∀ p ∈ qs', HVp v p) ∧ HVp v rest'
  | n, n', [], rest, rest', qs, qs', _, hq, hr, h => by
    rw [sp_dl] at h
    cases h; exact ⟨hq, hr⟩
  | 0, n', t :: w, rest, rest', qs, qs', _, _, _, h => by
    rw [sp_dl] at h
    cases h
  | n + 1, n', t :: w, rest, rest', qs, qs', h1, hq, hr, h => by
    have tv := h1 t (List.mem_cons_self ..)
    rw [sp_dl] at h
    split at h
    · split at h
      · cases h
      · rename_i rest2 hr2
        exact HVp_dl hG (fun s hs => h1 s (List.mem_cons_of_mem _ hs)) hq (HVp_come hr tv hr2) h
    · rename_i gp hgp
      have hg := hG gp (List.mem_of_getElem? hgp)
      split at h
      · cases h
      · rename_i r _
        split at h
        · cases h
        · rename_i w' hw'
          split at h
          · cases h
          · rename_i q' hq'
            have hm := HV_sb (sp_ld gp) tv
            refine HVp_dl hG (HVp_plus hm h1 hg hw') (fun p hp => ?_) hr h
            rcases List.mem_or_eq_of_mem_set hp with e | e
            · exact hq p e
            · subst e
              exact HVp_come (HVp_getD hq) hm hq'
theorem HVp_st {v j : Nat} {sg : Int} {c : sp_P} (hc : HVp v c) : ∀ {q to to' : sp_P}, HVp v to → HVp v q → sp_st j sg c to q = some to' → HVp v to'
  | [], to, to', hw, _, h => by cases h; exact hw
  | t :: r, to, to', hw, hq, h => by
    unfold sp_st at h
    cases h1 : sp_plus j (sg * t.1) t.2.1 t.2.2 to c with
    | none => rw [h1] at h; cases h
    | some p1 =>
      rw [h1] at h
      exact HVp_st hc (HVp_plus (hq t (List.mem_cons_self ..)) hw hc h1) (fun s hs => hq s (List.mem_cons_of_mem _ hs)) h
theorem HVp_sh {v j : Nat} {sg : Int} : ∀ {qs cs : List sp_P} {to to' : sp_P}, HVp v to → (∀ p ∈ qs, HVp v p) → (∀ p ∈ cs, HVp v p) → sp_sh j sg qs cs to = some to' → HVp v to'
  | [], cs, to, to', hw, _, _, h => by cases cs <;> (cases h; exact hw)
  | q :: qs, [], to, to', hw, _, _, h => by cases h; exact hw
  | q :: qs, c :: cs, to, to', hw, h1, h2, h => by
    unfold sp_sh at h
    cases h3 : sp_st j sg c to q with
    | none => rw [h3] at h; cases h
    | some p1 =>
      rw [h3] at h
      exact HVp_sh (HVp_st (h2 c (List.mem_cons_self ..)) hw (h1 q (List.mem_cons_self ..)) h3) (fun p hp => h1 p (List.mem_cons_of_mem _ hp)) (fun p hp => h2 p (List.mem_cons_of_mem _ hp)) h
theorem HVp_shs {v j : Nat} {qs : List sp_P} {els : List sp_E} (hq : ∀ p ∈ qs, HVp v p) (he : ∀ k, ∀ p ∈ sp_col els k, HVp v p) : ∀ {k : Nat} {ss ss' : List sp_P}, (∀ p ∈ ss, HVp v p) → sp_shs j qs els k ss = some ss' → ∀ p ∈ ss', HVp v p
  | k, [], ss', _, h => by cases h; exact fun p hp => (by cases hp)
  | k, x :: r, ss', hs, h => by
    unfold sp_shs at h
    cases h1 : sp_sh j (-1) qs (sp_col els k) x with
    | none => rw [h1] at h; cases h
    | some y =>
      rw [h1] at h
      cases h2 : sp_shs j qs els (k + 1) r with
      | none => rw [h2] at h; cases h
      | some r' =>
        rw [h2] at h
        cases h
        intro p hp
        rcases List.mem_cons.mp hp with e | e
        · subst e; exact HVp_sh (hs x (List.mem_cons_self ..)) hq (he k) h1
        · exact HVp_shs hq he (fun p hp => hs p (List.mem_cons_of_mem _ hp)) h2 p e
theorem HVp_map {v : Nat} {p p' : sp_P} (h : HVp v p) (he : p'.map (fun t => t.2.2) = p.map (fun t => t.2.2)) : HVp v p' := fun t ht => by
  have h1 : t.2.2 ∈ p'.map (fun t => t.2.2) := List.mem_map.mpr ⟨t, ht, rfl⟩
  rw [he] at h1
  obtain ⟨s, hs, e⟩ := List.mem_map.mp h1
  rw [← e]
  exact h s hs
theorem HVp_mapS {v : Nat} {a b : Int} : ∀ {ss ss' : List sp_P}, (∀ p ∈ ss, HVp v p) → sp_mapS a b ss = some ss' → (∀ p ∈ ss', HVp v p) ∧ ss'.length = ss.length
  | [], ss', _, h => by cases h; exact ⟨fun p hp => (by cases hp), rfl⟩
  | x :: r, ss', hs, h => by
    unfold sp_mapS at h
    cases h1 : sp_scale a b x with
    | none => rw [h1] at h; cases h
    | some y =>
      rw [h1] at h
      cases h2 : sp_mapS a b r with
      | none => rw [h2] at h; cases h
      | some r' =>
        rw [h2] at h
        cases h
        have ih := HVp_mapS (fun p hp => hs p (List.mem_cons_of_mem _ hp)) h2
        refine ⟨fun p hp => ?_, by rw [List.length_cons, List.length_cons, ih.2]⟩
        rcases List.mem_cons.mp hp with e | e
        · subst e; exact HVp_map (hs x (List.mem_cons_self ..)) (so_scale (j := 0) h1)
        · exact ih.1 p e
theorem HVp_s2 {v j : Nat} {a b : sp_M} {p q r : sp_P} (ha : HV v a) (hb : HV v b) (hp : HVp v p) (hq : HVp v q) (h : sp_s2 j a b p q = some r) : HVp v r := by
  unfold sp_s2 at h
  cases h1 : sp_plus j 1 1 a [] p with
  | none => rw [h1] at h; cases h
  | some x =>
    rw [h1] at h
    exact HVp_plus hb (HVp_plus ha (HVp_nil v) hp h1) hq h
theorem HVp_ss {v j : Nat} {a b : sp_M} (ha : HV v a) (hb : HV v b) : ∀ {ps qs rs : List sp_P}, (∀ p ∈ ps, HVp v p) → (∀ p ∈ qs, HVp v p) → sp_ss j a b ps qs = some rs → (∀ p ∈ rs, HVp v p) ∧ (ps.length = qs.length → rs.length = ps.length)
  | [], qs, rs, _, _, h => by cases qs <;> (cases h; exact ⟨fun p hp => (by cases hp), fun _ => rfl⟩)
  | p :: ps, [], rs, _, _, h => by cases h; exact ⟨fun p hp => (by cases hp), fun h => (by cases h)⟩
  | p :: ps, q :: qs, rs, hp, hq, h => by
    unfold sp_ss at h
    cases h1 : sp_s2 j a b p q with
    | none => rw [h1] at h; cases h
    | some x =>
      rw [h1] at h
      cases h2 : sp_ss j a b ps qs with
      | none => rw [h2] at h; cases h
      | some r =>
        rw [h2] at h
        cases h
        have ih := HVp_ss ha hb (fun p h => hp p (List.mem_cons_of_mem _ h)) (fun p h => hq p (List.mem_cons_of_mem _ h)) h2
        refine ⟨fun y hy => ?_, fun hl => by rw [List.length_cons, List.length_cons, ih.2 (by simpa using hl)]⟩
        rcases List.mem_cons.mp hy with e | e
        · subst e; exact HVp_s2 ha hb (hp p (List.mem_cons_self ..)) (hq q (List.mem_cons_self ..)) h1
        · exact ih.1 y e
