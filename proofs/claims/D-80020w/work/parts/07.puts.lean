/-! puts and arrays as operations -/
theorem jm_u_self {α : Type} (f : Nat → α) (k : Nat) (v : α) : jm_u f k v k = v := by simp [jm_u]
theorem jm_u_ne {α : Type} {f : Nat → α} {k j : Nat} {v : α} (h : j ≠ k) : jm_u f k v j = f j := by simp [jm_u, h]
theorem jm_fs_i {σ : jm_S} {q t i : Nat} {x : Int32} (hf : (jm_fk t)[i]? = some none) : ((jm_fk t).mapIdx (fun k o => jm_fv σ q k o)).set i (.int x) = (jm_fk t).mapIdx (fun k o => jm_fv (jm_wi σ q i x) q k o) := by
  apply List.ext_getElem?
  intro j
  by_cases hj : j = i
  · subst hj
    rw [List.getElem?_set_self (by simpa using (List.getElem?_eq_some_iff.mp hf).1), List.getElem?_mapIdx, hf]
    simp [jm_fv, jm_wi, jm_u]
  · rw [List.getElem?_set_ne (fun e => hj e.symm), List.getElem?_mapIdx, List.getElem?_mapIdx]
    cases (jm_fk t)[j]? with
    | none => rfl
    | some o => cases o <;> simp [jm_fv, jm_wi, jm_u, hj]
theorem jm_fs_r {σ : jm_S} {q t i t2 a : Nat} (hf : (jm_fk t)[i]? = some (some t2)) : ((jm_fk t).mapIdx (fun k o => jm_fv σ q k o)).set i (.ref a) = (jm_fk t).mapIdx (fun k o => jm_fv (jm_wr σ q i (a + 1)) q k o) := by
  apply List.ext_getElem?
  intro j
  by_cases hj : j = i
  · subst hj
    rw [List.getElem?_set_self (by simpa using (List.getElem?_eq_some_iff.mp hf).1), List.getElem?_mapIdx, hf]
    simp [jm_fv, jm_wr, jm_u, jm_rv]
  · rw [List.getElem?_set_ne (fun e => hj e.symm), List.getElem?_mapIdx, List.getElem?_mapIdx]
    cases (jm_fk t)[j]? with
    | none => rfl
    | some o => cases o <;> simp [jm_fv, jm_wr, jm_u, hj]
theorem jm_wi_off {σ : jm_S} {q i : Nat} {x : Int32} : ∀ y, y ≠ q → (jm_wi σ q i x).1 y = σ.1 y ∧ (jm_wi σ q i x).2.1 y = σ.2.1 y := fun y hy => ⟨by simp [jm_wi, jm_u, hy], rfl⟩
theorem jm_wr_off {σ : jm_S} {q i a : Nat} : ∀ y, y ≠ q → (jm_wr σ q i a).1 y = σ.1 y ∧ (jm_wr σ q i a).2.1 y = σ.2.1 y := fun y hy => ⟨rfl, by simp [jm_wr, jm_u, hy]⟩
theorem jm_wa_off {σ : jm_S} {q : Nat} {f : Nat → Int32} : ∀ y, y ≠ q → (jm_wa σ q f).1 y = σ.1 y ∧ (jm_wa σ q f).2.1 y = σ.2.1 y := fun y hy => ⟨by simp [jm_wa, jm_u, hy], rfl⟩
theorem jm_nz {g : jm_G} {s : State} {q : Nat} (h : jm_w g s) (h1 : 1 ≤ gdm g q) (h2 : gdm g q ≤ 12) : gb g ≤ q ∧ q ≠ 0 := by
  obtain ⟨-, -, -, ⟨h0, h3, -⟩, -⟩ := h
  have := h3 q h1 h2
  exact ⟨this, by omega⟩
/-- behind a write to the cell q: the memory, and what lies below our cells -/
theorem jm_af {g : jm_G} {σ σ' : jm_S} {H H1 H0 : Heap} {q i1 : Nat} {e : va_E} {locs : List Loc} (hr : jm_rep g σ H) (hS : va_S (fun q => gb g ≤ q) H0 H locs) (hz : H1.size = H.size) (oq : ∀ x, x ≠ q → H1[x]? = H[x]?) (h0 : σ'.2.2 = σ.2.2) (h1 : ∀ x, x ≠ q → σ'.1 x = σ.1 x ∧ σ'.2.1 x = σ.2.1 x)
    (he : jm_E g (gdm g q) σ' q = some e) (hq : va_at (gD g) classes (q, e) H1) (ht : ∀ k t', jm_rt (gdm g q) k = some t' → jm_mr σ' q k ≠ 0 → gdm g (jm_mr σ' q k - 1) = t' ∧ jm_mr σ' q k - 1 < jm_hs σ) (hb : gb g ≤ q) : jm_rep g σ' H1 ∧ va_S (fun q => gb g ≤ q) H0 H1 (locs ++ [⟨q, i1⟩]) :=
  ⟨hr.set1 hz oq h0 h1 he hq ht, hS.put hz oq hb⟩
theorem jm_lr.mem {g : jm_G} {hs hs' nL : Nat} {ls : Array Slot} {L : List (Option jm_V)} (h : jm_lr g hs ls nL L) (hh : hs' = hs) : jm_lr g hs' ls nL L := hh ▸ h
section
variable {id pc : Nat}
def oPi (t i n : Nat) : jm_Op := fun _ L stk σ k => match stk with
  | .inl x :: .inr (.inr (t', q)) :: r => cond (Nat.beq t' t) (k n L r (jm_wi σ q i x)) False
  | _ => False
def oPz (t i n : Nat) : jm_Op := fun _ L stk σ k => match stk with
  | .inl x :: .inr (.inr (t', q)) :: r => cond (Nat.beq t' t) ((x = 0 ∨ x = 1) ∧ k n L r (jm_wi σ q i x)) False
  | _ => False
def oPr (t i t2 n : Nat) : jm_Op := fun _ L stk σ k => match stk with
  | .inr (.inr (t3, a)) :: .inr (.inr (t', q)) :: r => cond (Nat.beq t' t && Nat.beq t3 t2) (k n L r (jm_wr σ q i (a + 1))) False
  | _ => False
theorem jm_zb {x : Int32} (h : x = 0 ∨ x = 1) : narrow .boolean (.int x) = .int x ∧ fits .boolean (.int x) = true := by
  rcases h with h | h <;> subst h <;> exact ⟨by decide +kernel, by decide +kernel⟩
theorem s_puti {t i index N : Nat} {C : String} {T : u_T} {ty : Nat → FieldType} (hd : decode (mC id) pc = .ok (.putfield index, 3)) (hc : jm_ci t C T N ty) (hf : (jm_fk t)[i]? = some none) (hty : ty i = .int) (hfin : (T i).2.2.2 = false)
    (hl : Cond.fieldLink (mY id).cls index (T i).1 (T i).2.1 (T i).2.2.1 ∈ jm_tb) : jm_sn id pc (oPi t i (pc + 3)) := by
  intro g d L stk σ K k h hk
  match stk, h with
  | .inl x :: .inr (.inr (t', q)) :: r, h =>
    obtain ⟨hb, h9⟩ := jm_cnd h
    have ht := Nat.eq_of_beq_eq_true hb
    subst ht
    intro p l e R s m args below meth c H locs cells slots ls n0 hfl F hr hl0 hs hS h1 h2
    have c1 := hc.1
    have hi : i < N := by rw [← hc.2.2.2.2.2.1]; exact (List.getElem?_eq_some_iff.mp hf).1
    have hq : gdm g q = t' := hs.2.1.1
    refine jm_put (fs := (jm_fk t').mapIdx (fun k o => jm_fv σ q k o)) (v := .int x) (i := i) (t := t') (g := g) F.1.1 F.1.2.1 (fun w hw => F.2.1.1 w hw args) hc (jm_own F) F.2.1.2.1 (jm_P1 hr hs.2.1 (jm_E_o c1)) hi (by simp [hc.2.2.2.2.2.1]) hl hfin (by rw [hty]; rfl) (by rw [hty]; rfl) hd (fun H1 i1 e1 z1 o1 => ?_)
    rw [jm_fs_i hf] at e1
    obtain ⟨hr1, hS1⟩ := jm_af (i1 := i1) (σ' := jm_wi σ q i x) hr hS z1 o1 rfl jm_wi_off (by rw [hq]; exact jm_E_o c1) e1 (fun k t' hk hne => hr.2.2.1 q hs.2.1.2 k t' hk hne) (jm_nz (q := q) F.2.1 (by rw [hq]; exact c1.1) (by rw [hq]; omega)).1
    exact hk _ _ _ _ h9 p l e R s m args below meth c H1 _ cells slots ls n0 hfl F hr1 hl0 hs.2.2 hS1 h1 h2
theorem s_putiN {t i index N : Nat} {C : String} {host : String} {T : u_T} {ty : Nat → FieldType} (hd : decode (mC id) pc = .ok (.putfield index, 3)) (hc : jm_ci t C T N ty) (hf : (jm_fk t)[i]? = some none) (hty : ty i = .int) (hfin : (T i).2.2.2 = false)
    (hl : Cond.fieldLinkNest (mY id).cls index (T i).1 (T i).2.1 (T i).2.2.1 host ∈ jm_tb) : jm_sn id pc (oPi t i (pc + 3)) := by
  intro g d L stk σ K k h hk
  match stk, h with
  | .inl x :: .inr (.inr (t', q)) :: r, h =>
    obtain ⟨hb, h9⟩ := jm_cnd h
    have ht := Nat.eq_of_beq_eq_true hb
    subst ht
    intro p l e R s m args below meth c H locs cells slots ls n0 hfl F hr hl0 hs hS h1 h2
    have c1 := hc.1
    have hi : i < N := by rw [← hc.2.2.2.2.2.1]; exact (List.getElem?_eq_some_iff.mp hf).1
    have hq : gdm g q = t' := hs.2.1.1
    refine jm_putN (fs := (jm_fk t').mapIdx (fun k o => jm_fv σ q k o)) (v := .int x) (i := i) (t := t') (g := g) F.1.1 F.1.2.1 (fun w hw => F.2.1.1 w hw args) hc (jm_own F) F.2.1.2.1 (jm_P1 hr hs.2.1 (jm_E_o c1)) hi (by simp [hc.2.2.2.2.2.1]) hl hfin (by rw [hty]; rfl) (by rw [hty]; rfl) hd (fun H1 i1 e1 z1 o1 => ?_)
    rw [jm_fs_i hf] at e1
    obtain ⟨hr1, hS1⟩ := jm_af (i1 := i1) (σ' := jm_wi σ q i x) hr hS z1 o1 rfl jm_wi_off (by rw [hq]; exact jm_E_o c1) e1 (fun k t' hk hne => hr.2.2.1 q hs.2.1.2 k t' hk hne) (jm_nz (q := q) F.2.1 (by rw [hq]; exact c1.1) (by rw [hq]; omega)).1
    exact hk _ _ _ _ h9 p l e R s m args below meth c H1 _ cells slots ls n0 hfl F hr1 hl0 hs.2.2 hS1 h1 h2
theorem s_putz {t i index N : Nat} {C : String} {T : u_T} {ty : Nat → FieldType} (hd : decode (mC id) pc = .ok (.putfield index, 3)) (hc : jm_ci t C T N ty) (hf : (jm_fk t)[i]? = some none) (hty : ty i = .boolean) (hfin : (T i).2.2.2 = false)
    (hl : Cond.fieldLink (mY id).cls index (T i).1 (T i).2.1 (T i).2.2.1 ∈ jm_tb) : jm_sn id pc (oPz t i (pc + 3)) := by
  intro g d L stk σ K k h hk
  match stk, h with
  | .inl x :: .inr (.inr (t', q)) :: r, h =>
    obtain ⟨hb, h9⟩ := jm_cnd h
    have ht := Nat.eq_of_beq_eq_true hb
    subst ht
    intro p l e R s m args below meth c H locs cells slots ls n0 hfl F hr hl0 hs hS h1 h2
    have c1 := hc.1
    have hi : i < N := by rw [← hc.2.2.2.2.2.1]; exact (List.getElem?_eq_some_iff.mp hf).1
    have hq : gdm g q = t' := hs.2.1.1
    refine jm_put (fs := (jm_fk t').mapIdx (fun k o => jm_fv σ q k o)) (v := .int x) (i := i) (t := t') (g := g) F.1.1 F.1.2.1 (fun w hw => F.2.1.1 w hw args) hc (jm_own F) F.2.1.2.1 (jm_P1 hr hs.2.1 (jm_E_o c1)) hi (by simp [hc.2.2.2.2.2.1]) hl hfin (by rw [hty]; exact (jm_zb h9.1).1) (by rw [hty]; exact (jm_zb h9.1).2) hd (fun H1 i1 e1 z1 o1 => ?_)
    rw [jm_fs_i hf] at e1
    obtain ⟨hr1, hS1⟩ := jm_af (i1 := i1) (σ' := jm_wi σ q i x) hr hS z1 o1 rfl jm_wi_off (by rw [hq]; exact jm_E_o c1) e1 (fun k t' hk hne => hr.2.2.1 q hs.2.1.2 k t' hk hne) (jm_nz (q := q) F.2.1 (by rw [hq]; exact c1.1) (by rw [hq]; omega)).1
    exact hk _ _ _ _ h9.2 p l e R s m args below meth c H1 _ cells slots ls n0 hfl F hr1 hl0 hs.2.2 hS1 h1 h2
theorem s_putiF {t i index N : Nat} {C : String} {T : u_T} {ty : Nat → FieldType} (hd : decode (mC id) pc = .ok (.putfield index, 3)) (hc : jm_ci t C T N ty) (hf : (jm_fk t)[i]? = some none) (hty : ty i = .int) (hfin : (T i).2.2.2 = true) (hin2 : (mY id).name = "<init>") (hdecl : (T i).1 = (mY id).cls)
    (hl : Cond.fieldLink (mY id).cls index (T i).1 (T i).2.1 (T i).2.2.1 ∈ jm_tb) : jm_sn id pc (oPi t i (pc + 3)) := by
  intro g d L stk σ K k h hk
  match stk, h with
  | .inl x :: .inr (.inr (t', q)) :: r, h =>
    obtain ⟨hb, h9⟩ := jm_cnd h
    have ht := Nat.eq_of_beq_eq_true hb
    subst ht
    intro p l e R s m args below meth c H locs cells slots ls n0 hfl F hr hl0 hs hS h1 h2
    have c1 := hc.1
    have hi : i < N := by rw [← hc.2.2.2.2.2.1]; exact (List.getElem?_eq_some_iff.mp hf).1
    have hq : gdm g q = t' := hs.2.1.1
    refine jm_putF (fs := (jm_fk t').mapIdx (fun k o => jm_fv σ q k o)) (v := .int x) (i := i) (t := t') (g := g) F.1.1 F.1.2.1 (fun w hw => F.2.1.1 w hw args) hc (jm_own F) F.2.1.2.1 (jm_P1 hr hs.2.1 (jm_E_o c1)) hi (by simp [hc.2.2.2.2.2.1]) hl hfin (by rw [(name_of_methodNamed F.1.2.2.2.2.2.1 F.1.2.2.2.2.2.2.1).1]; exact hin2) hdecl (by rw [hty]; rfl) (by rw [hty]; rfl) hd (fun H1 i1 e1 z1 o1 => ?_)
    rw [jm_fs_i hf] at e1
    obtain ⟨hr1, hS1⟩ := jm_af (i1 := i1) (σ' := jm_wi σ q i x) hr hS z1 o1 rfl jm_wi_off (by rw [hq]; exact jm_E_o c1) e1 (fun k t' hk hne => hr.2.2.1 q hs.2.1.2 k t' hk hne) (jm_nz (q := q) F.2.1 (by rw [hq]; exact c1.1) (by rw [hq]; omega)).1
    exact hk _ _ _ _ h9 p l e R s m args below meth c H1 _ cells slots ls n0 hfl F hr1 hl0 hs.2.2 hS1 h1 h2
theorem s_putr {t i t2 index N : Nat} {C : String} {T : u_T} {ty : Nat → FieldType} (hd : decode (mC id) pc = .ok (.putfield index, 3)) (hc : jm_ci t C T N ty) (hf : (jm_fk t)[i]? = some (some t2)) (hty : ∀ a, narrow (ty i) (.ref a) = .ref a ∧ fits (ty i) (.ref a) = true) (hfin : (T i).2.2.2 = false)
    (hl : Cond.fieldLink (mY id).cls index (T i).1 (T i).2.1 (T i).2.2.1 ∈ jm_tb) : jm_sn id pc (oPr t i t2 (pc + 3)) := by
  intro g d L stk σ K k h hk
  match stk, h with
  | .inr (.inr (t3, a)) :: .inr (.inr (t', q)) :: r, h =>
    obtain ⟨hb, h9⟩ := jm_cnd h
    obtain ⟨hb, hb3⟩ := (Bool.and_eq_true _ _).mp hb
    have ht := Nat.eq_of_beq_eq_true hb
    have ht3 := Nat.eq_of_beq_eq_true hb3
    subst ht
    subst ht3
    intro p l e R s m args below meth c H locs cells slots ls n0 hfl F hr hl0 hs hS h1 h2
    have c1 := hc.1
    have hi : i < N := by rw [← hc.2.2.2.2.2.1]; exact (List.getElem?_eq_some_iff.mp hf).1
    have hq : gdm g q = t' := hs.2.1.1
    have ha : gdm g a = t3 ∧ a < jm_hs σ := hs.1
    refine jm_put (fs := (jm_fk t').mapIdx (fun k o => jm_fv σ q k o)) (v := .ref a) (i := i) (t := t') (g := g) F.1.1 F.1.2.1 (fun w hw => F.2.1.1 w hw args) hc (jm_own F) F.2.1.2.1 (jm_P1 hr hs.2.1 (jm_E_o c1)) hi (by simp [hc.2.2.2.2.2.1]) hl hfin (hty a).1 (hty a).2 hd (fun H1 i1 e1 z1 o1 => ?_)
    rw [jm_fs_r hf] at e1
    have h8 : ∀ k2 t9, jm_rt (gdm g q) k2 = some t9 → jm_mr (jm_wr σ q i (a + 1)) q k2 ≠ 0 → gdm g (jm_mr (jm_wr σ q i (a + 1)) q k2 - 1) = t9 ∧ jm_mr (jm_wr σ q i (a + 1)) q k2 - 1 < jm_hs σ := by
      intro k2 t9 hk2 hne
      by_cases hk3 : k2 = i
      · subst hk3
        rw [hq, jm_rt_o c1 hf] at hk2
        cases hk2
        have e5 : jm_mr (jm_wr σ q k2 (a + 1)) q k2 = a + 1 := by simp [jm_mr, jm_wr, jm_u]
        rw [e5]
        exact ha
      · have e5 : jm_mr (jm_wr σ q i (a + 1)) q k2 = jm_mr σ q k2 := by simp [jm_mr, jm_wr, jm_u, hk3]
        rw [e5] at hne ⊢
        exact hr.2.2.1 q hs.2.1.2 k2 t9 hk2 hne
    obtain ⟨hr1, hS1⟩ := jm_af (i1 := i1) (σ' := jm_wr σ q i (a + 1)) hr hS z1 o1 rfl jm_wr_off (by rw [hq]; exact jm_E_o c1) e1 h8 (jm_nz (q := q) F.2.1 (by rw [hq]; exact c1.1) (by rw [hq]; omega)).1
    exact hk _ _ _ _ h9 p l e R s m args below meth c H1 _ cells slots ls n0 hfl F hr1 hl0 hs.2.2 hS1 h1 h2
theorem s_putrF {t i t2 index N : Nat} {C : String} {T : u_T} {ty : Nat → FieldType} (hd : decode (mC id) pc = .ok (.putfield index, 3)) (hc : jm_ci t C T N ty) (hf : (jm_fk t)[i]? = some (some t2)) (hty : ∀ a, narrow (ty i) (.ref a) = .ref a ∧ fits (ty i) (.ref a) = true) (hfin : (T i).2.2.2 = true) (hin2 : (mY id).name = "<init>") (hdecl : (T i).1 = (mY id).cls)
    (hl : Cond.fieldLink (mY id).cls index (T i).1 (T i).2.1 (T i).2.2.1 ∈ jm_tb) : jm_sn id pc (oPr t i t2 (pc + 3)) := by
  intro g d L stk σ K k h hk
  match stk, h with
  | .inr (.inr (t3, a)) :: .inr (.inr (t', q)) :: r, h =>
    obtain ⟨hb, h9⟩ := jm_cnd h
    obtain ⟨hb, hb3⟩ := (Bool.and_eq_true _ _).mp hb
    have ht := Nat.eq_of_beq_eq_true hb
    have ht3 := Nat.eq_of_beq_eq_true hb3
    subst ht
    subst ht3
    intro p l e R s m args below meth c H locs cells slots ls n0 hfl F hr hl0 hs hS h1 h2
    have c1 := hc.1
    have hi : i < N := by rw [← hc.2.2.2.2.2.1]; exact (List.getElem?_eq_some_iff.mp hf).1
    have hq : gdm g q = t' := hs.2.1.1
    have ha : gdm g a = t3 ∧ a < jm_hs σ := hs.1
    refine jm_putF (fs := (jm_fk t').mapIdx (fun k o => jm_fv σ q k o)) (v := .ref a) (i := i) (t := t') (g := g) F.1.1 F.1.2.1 (fun w hw => F.2.1.1 w hw args) hc (jm_own F) F.2.1.2.1 (jm_P1 hr hs.2.1 (jm_E_o c1)) hi (by simp [hc.2.2.2.2.2.1]) hl hfin (by rw [(name_of_methodNamed F.1.2.2.2.2.2.1 F.1.2.2.2.2.2.2.1).1]; exact hin2) hdecl (hty a).1 (hty a).2 hd (fun H1 i1 e1 z1 o1 => ?_)
    rw [jm_fs_r hf] at e1
    have h8 : ∀ k2 t9, jm_rt (gdm g q) k2 = some t9 → jm_mr (jm_wr σ q i (a + 1)) q k2 ≠ 0 → gdm g (jm_mr (jm_wr σ q i (a + 1)) q k2 - 1) = t9 ∧ jm_mr (jm_wr σ q i (a + 1)) q k2 - 1 < jm_hs σ := by
      intro k2 t9 hk2 hne
      by_cases hk3 : k2 = i
      · subst hk3
        rw [hq, jm_rt_o c1 hf] at hk2
        cases hk2
        have e5 : jm_mr (jm_wr σ q k2 (a + 1)) q k2 = a + 1 := by simp [jm_mr, jm_wr, jm_u]
        rw [e5]
        exact ha
      · have e5 : jm_mr (jm_wr σ q i (a + 1)) q k2 = jm_mr σ q k2 := by simp [jm_mr, jm_wr, jm_u, hk3]
        rw [e5] at hne ⊢
        exact hr.2.2.1 q hs.2.1.2 k2 t9 hk2 hne
    obtain ⟨hr1, hS1⟩ := jm_af (i1 := i1) (σ' := jm_wr σ q i (a + 1)) hr hS z1 o1 rfl jm_wr_off (by rw [hq]; exact jm_E_o c1) e1 h8 (jm_nz (q := q) F.2.1 (by rw [hq]; exact c1.1) (by rw [hq]; omega)).1
    exact hk _ _ _ _ h9 p l e R s m args below meth c H1 _ cells slots ls n0 hfl F hr1 hl0 hs.2.2 hS1 h1 h2
end
