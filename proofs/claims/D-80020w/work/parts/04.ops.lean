/-! operations on the stack and the locals, each with its soundness -/
theorem jm_cnd {b : Bool} {P : Prop} (h : cond b P False) : b = true ∧ P := by
  cases b with
  | true => exact ⟨rfl, h⟩
  | false => exact h.elim
section
variable {id pc : Nat}
def oC (v : Int32) (n : Nat) : jm_Op := fun _ L stk σ k => k n L (aI v :: stk) σ
theorem s_iconst {i : Int} {v : Int32} (hd : decode (mC id) pc = .ok (.iconst i, 1)) (hv : Int32.ofInt i = v) : jm_sn id pc (oC v (pc + 1)) :=
  fun g d L stk σ K k h hk => jm_stk (hk _ _ _ _ h) (fun _ h => ⟨trivial, h⟩) (fun hx hb w => lv_iconst hx hb hd hv w)
theorem s_bipush {i : Int} {v : Int32} (hd : decode (mC id) pc = .ok (.bipush i, 2)) (hv : (Int8.ofInt i).toInt32 = v) : jm_sn id pc (oC v (pc + 2)) :=
  fun g d L stk σ K k h hk => jm_stk (hk _ _ _ _ h) (fun _ h => ⟨trivial, h⟩) (fun hx hb w => lv_bipush hx hb hd hv w)
theorem s_sipush {i : Int} {v : Int32} (hd : decode (mC id) pc = .ok (.sipush i, 3)) (hv : (Int16.ofInt i).toInt32 = v) : jm_sn id pc (oC v (pc + 3)) :=
  fun g d L stk σ K k h hk => jm_stk (hk _ _ _ _ h) (fun _ h => ⟨trivial, h⟩) (fun hx hb w => lv_sipush hx hb hd hv w)
def oCL (v : Int64) (n : Nat) : jm_Op := fun _ L stk σ k => k n L (aL v :: stk) σ
theorem s_lconst {i : Fin 2} {v : Int64} (hd : decode (mC id) pc = .ok (.lconst i, 1)) (hv : Int64.ofNat (i : Nat) = v) : jm_sn id pc (oCL v (pc + 1)) :=
  fun g d L stk σ K k h hk => jm_stk (hk _ _ _ _ h) (fun _ h => ⟨trivial, h⟩) (fun hx hb w => lv_lconst hx hb hd hv w)
theorem jm_own {g : jm_G} {d n0 : Nat} {p : Program} {R : Room} {s : State} {m : MethodId} {meth : Method} {c : Code} (F : jm_F g d id n0 p R s m meth c) : s.vm.findClass (mY id).cls = some m.cls := findClass_of_methodNamed F.1.2.2.2.2.2.1
theorem s_ldc {i : Nat} {v : Int32} (hd : decode (mC id) pc = .ok (.ldc i, 2)) (hw : Cond.constant (mY id).cls i v ∈ jm_tb) : jm_sn id pc (oC v (pc + 2)) := by
  intro g d L stk σ K k h hk p l e R s m args below meth c H locs cells slots ls n0 hfl F hr hl hs hS h1 h2
  exact lv_ldc F.1.1 F.1.2.1 (jm_own F) (F.2.1.1 _ hw args) hd (hk _ _ _ _ h p l e R s m args below meth c H locs cells slots ls n0 hfl F hr hl ⟨trivial, hs⟩ hS h1 h2)
theorem s_ldc2 {i : Nat} {v : Int64} (hd : decode (mC id) pc = .ok (.ldc2_w i, 3)) (hw : Cond.constantLong (mY id).cls i v ∈ jm_tb) : jm_sn id pc (oCL v (pc + 3)) := by
  intro g d L stk σ K k h hk p l e R s m args below meth c H locs cells slots ls n0 hfl F hr hl hs hS h1 h2
  exact lv_ldc2 F.1.1 F.1.2.1 (jm_own F) (F.2.1.1 _ hw args) hd (hk _ _ _ _ h p l e R s m args below meth c H locs cells slots ls n0 hfl F hr hl ⟨trivial, hs⟩ hS h1 h2)
-- loads
def oIl (i n : Nat) : jm_Op := fun _ L stk σ k => match L[i]? with
  | some (some (.inl x)) => k n L (aI x :: stk) σ
  | _ => False
def oLl (i n : Nat) : jm_Op := fun _ L stk σ k => match L[i]? with
  | some (some (.inr (.inl x))) => k n L (aL x :: stk) σ
  | _ => False
def oAl (i n : Nat) : jm_Op := fun _ L stk σ k => match L[i]? with
  | some (some (.inr (.inr (t, q)))) => k n L (aR t q :: stk) σ
  | _ => False
theorem jm_ld {g : jm_G} {d pc' i : Nat} {L : List (Option jm_V)} {stk : List jm_V} {σ : jm_S} {K : jm_O → Prop} {v : jm_V} (hi : L[i]? = some (some v)) (hj : J g d id pc' L (v :: stk) σ K)
    (hw : ∀ {p : Program} {l : Launch} {e : Env} {R : Room} {s : State} {m : MethodId} {args : Array Value} {below : List Frame} {meth : Method} {c : Code} {H : Heap} {locs : List Loc} {cells slots : Nat} {ls : Array Slot} {Q : State → Prop},
      p.tables.exec = Jvm.exec → c.code = mC id → ls[i]? = some (.val (jm_vo v)) → W p l e R s m args below meth c H locs cells slots Q (F0 m pc' ls (jm_vo v :: stk.map jm_vo)) → W p l e R s m args below meth c H locs cells slots Q (F0 m pc ls (stk.map jm_vo))) : J g d id pc L stk σ K := by
  intro p l e R s m args below meth c H locs cells slots ls n0 hfl F hr hl hs hS h1 h2
  exact hw F.1.1 F.1.2.1 (hl.2.2 i v hi).1 (hj p l e R s m args below meth c H locs cells slots ls n0 hfl F hr hl ⟨(hl.2.2 i v hi).2, hs⟩ hS h1 h2)
theorem jm_Il {g : jm_G} {d i n : Nat} {L : List (Option jm_V)} {stk : List jm_V} {σ : jm_S} {k : Nat → List (Option jm_V) → List jm_V → jm_S → Prop} (h : oIl i n g L stk σ k) : ∃ x, L[i]? = some (some (aI x)) ∧ k n L (aI x :: stk) σ := by
  unfold oIl at h
  split at h
  · exact ⟨_, by assumption, h⟩
  · exact h.elim
theorem jm_Ll {g : jm_G} {d i n : Nat} {L : List (Option jm_V)} {stk : List jm_V} {σ : jm_S} {k : Nat → List (Option jm_V) → List jm_V → jm_S → Prop} (h : oLl i n g L stk σ k) : ∃ x, L[i]? = some (some (aL x)) ∧ k n L (aL x :: stk) σ := by
  unfold oLl at h
  split at h
  · exact ⟨_, by assumption, h⟩
  · exact h.elim
theorem jm_Al {g : jm_G} {d i n : Nat} {L : List (Option jm_V)} {stk : List jm_V} {σ : jm_S} {k : Nat → List (Option jm_V) → List jm_V → jm_S → Prop} (h : oAl i n g L stk σ k) : ∃ t q : Nat, L[i]? = some (some (aR t q)) ∧ k n L (aR t q :: stk) σ := by
  unfold oAl at h
  split at h
  · exact ⟨_, _, by assumption, h⟩
  · exact h.elim
theorem s_iload {i : Nat} (hd : decode (mC id) pc = .ok (.iload i, 2)) : jm_sn id pc (oIl i (pc + 2)) := by
  intro g d L stk σ K k h hk
  obtain ⟨x, h1, h2⟩ := jm_Il (d := 0) h
  exact jm_ld h1 (hk _ _ _ _ h2) (fun hx hb he w => lv_iload hx hb hd he w)
theorem s_iload_n {j : Fin 4} {i : Nat} (hd : decode (mC id) pc = .ok (.iload_n j, 1)) (hj : (j : Nat) = i) : jm_sn id pc (oIl i (pc + 1)) := by
  intro g d L stk σ K k h hk
  obtain ⟨x, h1, h2⟩ := jm_Il (d := 0) h
  exact jm_ld h1 (hk _ _ _ _ h2) (fun hx hb he w => lv_iload_n hx hb hd hj he w)
theorem s_lload {i : Nat} (hd : decode (mC id) pc = .ok (.lload i, 2)) : jm_sn id pc (oLl i (pc + 2)) := by
  intro g d L stk σ K k h hk
  obtain ⟨x, h1, h2⟩ := jm_Ll (d := 0) h
  exact jm_ld h1 (hk _ _ _ _ h2) (fun hx hb he w => lv_lload hx hb hd he w)
theorem s_lload_n {j : Fin 4} {i : Nat} (hd : decode (mC id) pc = .ok (.lload_n j, 1)) (hj : (j : Nat) = i) : jm_sn id pc (oLl i (pc + 1)) := by
  intro g d L stk σ K k h hk
  obtain ⟨x, h1, h2⟩ := jm_Ll (d := 0) h
  exact jm_ld h1 (hk _ _ _ _ h2) (fun hx hb he w => lv_lload_n hx hb hd hj he w)
theorem s_aload {i : Nat} (hd : decode (mC id) pc = .ok (.aload i, 2)) : jm_sn id pc (oAl i (pc + 2)) := by
  intro g d L stk σ K k h hk
  obtain ⟨t, q, h1, h2⟩ := jm_Al (d := 0) h
  exact jm_ld h1 (hk _ _ _ _ h2) (fun hx hb he w => lv_aload hx hb hd he w)
theorem s_aload_n {j : Fin 4} {i : Nat} (hd : decode (mC id) pc = .ok (.aload_n j, 1)) (hj : (j : Nat) = i) : jm_sn id pc (oAl i (pc + 1)) := by
  intro g d L stk σ K k h hk
  obtain ⟨t, q, h1, h2⟩ := jm_Al (d := 0) h
  exact jm_ld h1 (hk _ _ _ _ h2) (fun hx hb he w => lv_aload_n hx hb hd hj he w)
-- stores
def jm_kl (L : List (Option jm_V)) (i : Nat) : List (Option jm_V) := match i with
  | 0 => L
  | j + 1 => match L[j]? with
    | some (some (.inr (.inl _))) => L.set j none
    | _ => L
def jm_s1 (L : List (Option jm_V)) (i : Nat) (v : jm_V) : List (Option jm_V) := (jm_kl L i).set i (some v)
def jm_s2 (L : List (Option jm_V)) (i : Nat) (v : jm_V) : List (Option jm_V) := ((jm_kl L i).set i (some v)).set (i + 1) none
theorem jm_kl_get {L : List (Option jm_V)} {i j : Nat} {w : jm_V} (h : (jm_kl L i)[j]? = some (some w)) : L[j]? = some (some w) ∧ ¬ (j + 1 = i ∧ (jm_vo w).category = 2) := by
  unfold jm_kl at h
  split at h
  · exact ⟨h, by omega⟩
  · rename_i i' 
    split at h
    · rename_i x hx
      by_cases hj : j = i'
      · subst hj
        rw [List.getElem?_set_self (List.getElem?_eq_some_iff.mp hx).1] at h
        cases h
      · rw [List.getElem?_set_ne (fun e => hj e.symm)] at h
        exact ⟨h, fun q => hj (by omega)⟩
    · rename_i hx
      refine ⟨h, fun q => ?_⟩
      have hj : j = i' := by omega
      subst hj
      match w, h, q with
      | .inl x, h, q => exact absurd q.2 (by simp [jm_vo, Value.category])
      | .inr (.inl x), h, q => exact hx x h
      | .inr (.inr x), h, q => exact absurd q.2 (by simp [jm_vo, Value.category])
/-- the listed values of the locals -/
def jm_al (L : List (Option jm_V)) : List (Nat × Value) := (List.range L.length).filterMap (fun i => match L[i]? with
  | some (some v) => some (i, jm_vo v)
  | _ => none)
theorem jm_al_mem {L : List (Option jm_V)} {q : Nat × Value} (h : q ∈ jm_al L) : ∃ v, L[q.1]? = some (some v) ∧ q.2 = jm_vo v := by
  obtain ⟨i, -, hi⟩ := List.mem_filterMap.mp h
  split at hi
  · rename_i v hv
    cases hi
    exact ⟨v, hv, rfl⟩
  · cases hi
theorem jm_mem_al {L : List (Option jm_V)} {i : Nat} {v : jm_V} (h : L[i]? = some (some v)) : (i, jm_vo v) ∈ jm_al L := by
  refine List.mem_filterMap.mpr ⟨i, List.mem_range.mpr (List.getElem?_eq_some_iff.mp h).1, ?_⟩
  rw [h]
theorem jm_lr.has {g : jm_G} {hs nL : Nat} {ls : Array Slot} {L : List (Option jm_V)} (h : jm_lr g hs ls nL L) : lv_has ls nL (jm_al L) :=
  ⟨h.1, h.2.1, fun q hq => by
    obtain ⟨v, h1, h2⟩ := jm_al_mem hq
    rw [h2]
    exact (h.2.2 _ v h1).1⟩
theorem jm_lr1 {g : jm_G} {hs nL i : Nat} {ls ls' : Array Slot} {L : List (Option jm_V)} {v : jm_V} (h : jm_lr g hs ls nL L) (hv : jm_vr g hs v)
    (h' : lv_has ls' nL ((i, jm_vo v) :: (jm_al L).filter (fun q => !(q.1 == i) && !(q.1 + 1 == i && q.2.category == 2)))) : jm_lr g hs ls' nL (jm_s1 L i v) := by
  refine ⟨h'.1, h'.2.1, fun j w hw => ?_⟩
  unfold jm_s1 at hw
  by_cases hj : j = i
  · subst hj
    have hl : j < (jm_kl L j).length := by
      have := (List.getElem?_eq_some_iff.mp hw).1
      simpa using this
    rw [List.getElem?_set_self hl] at hw
    cases hw
    exact ⟨h'.2.2 (j, _) List.mem_cons_self, hv⟩
  · rw [List.getElem?_set_ne (fun e => hj e.symm)] at hw
    obtain ⟨h1, h2⟩ := jm_kl_get hw
    refine ⟨h'.2.2 (j, _) (List.mem_cons_of_mem _ (List.mem_filter.mpr ⟨jm_mem_al h1, ?_⟩)), (h.2.2 _ _ h1).2⟩
    simp only [Bool.and_eq_true, Bool.not_eq_true', beq_eq_false_iff_ne, ne_eq, Bool.and_eq_false_iff]
    refine ⟨hj, ?_⟩
    by_cases h3 : j + 1 = i
    · exact Or.inr fun h4 => h2 ⟨h3, h4⟩
    · exact Or.inl h3
theorem jm_lr2 {g : jm_G} {hs nL i : Nat} {ls ls' : Array Slot} {L : List (Option jm_V)} {v : jm_V} (h : jm_lr g hs ls nL L) (hv : jm_vr g hs v)
    (h' : lv_has ls' nL ((i, jm_vo v) :: (jm_al L).filter (fun q => !(q.1 == i) && (!(q.1 == i + 1) && !(q.1 + 1 == i && q.2.category == 2))))) : jm_lr g hs ls' nL (jm_s2 L i v) := by
  refine ⟨h'.1, h'.2.1, fun j w hw => ?_⟩
  unfold jm_s2 at hw
  by_cases hj1 : j = i + 1
  · subst hj1
    by_cases hl : i + 1 < ((jm_kl L i).set i (some v)).length
    · rw [List.getElem?_set_self hl] at hw
      cases hw
    · rw [List.getElem?_eq_none (by simpa using hl)] at hw
      cases hw
  rw [List.getElem?_set_ne (fun e => hj1 e.symm)] at hw
  by_cases hj : j = i
  · subst hj
    have hl : j < (jm_kl L j).length := by
      have := (List.getElem?_eq_some_iff.mp hw).1
      simpa using this
    rw [List.getElem?_set_self hl] at hw
    cases hw
    exact ⟨h'.2.2 (j, _) List.mem_cons_self, hv⟩
  · rw [List.getElem?_set_ne (fun e => hj e.symm)] at hw
    obtain ⟨h1, h2⟩ := jm_kl_get hw
    refine ⟨h'.2.2 (j, _) (List.mem_cons_of_mem _ (List.mem_filter.mpr ⟨jm_mem_al h1, ?_⟩)), (h.2.2 _ _ h1).2⟩
    simp only [Bool.and_eq_true, Bool.not_eq_true', beq_eq_false_iff_ne, ne_eq, Bool.and_eq_false_iff]
    refine ⟨hj, hj1, ?_⟩
    by_cases h3 : j + 1 = i
    · exact Or.inr fun h4 => h2 ⟨h3, h4⟩
    · exact Or.inl h3
def oIs (i n : Nat) : jm_Op := fun _ L stk σ k => match stk with
  | .inl x :: r => k n (jm_s1 L i (aI x)) r σ
  | _ => False
def oLs (i n : Nat) : jm_Op := fun _ L stk σ k => match stk with
  | .inr (.inl x) :: r => k n (jm_s2 L i (aL x)) r σ
  | _ => False
def oAs (i n : Nat) : jm_Op := fun _ L stk σ k => match stk with
  | .inr (.inr (t, q)) :: r => k n (jm_s1 L i (aR t q)) r σ
  | _ => False
def oInc (i : Nat) (v : Int32) (n : Nat) : jm_Op := fun _ L stk σ k => match L[i]? with
  | some (some (.inl x)) => k n (jm_s1 L i (aI (x + v))) stk σ
  | _ => False
theorem s_istore {i : Nat} (hd : decode (mC id) pc = .ok (.istore i, 2)) (hi : i < mL id) : jm_sn id pc (oIs i (pc + 2)) := by
  intro g d L stk σ K k h hk
  match stk, h with
  | .inl x :: r, h =>
    intro p l e R s m args below meth c H locs cells slots ls n0 hfl F hr hl hs hS h1 h2
    exact lv_istore F.1.1 F.1.2.1 hd hl.has hi rfl (fun ls' h' => hk _ _ _ _ h p l e R s m args below meth c H locs cells slots ls' n0 hfl F hr (jm_lr1 (v := aI x) hl trivial h') hs.2 hS h1 h2)
theorem s_istore_n {j : Fin 4} {i : Nat} (hd : decode (mC id) pc = .ok (.istore_n j, 1)) (hj : (j : Nat) = i) (hi : i < mL id) : jm_sn id pc (oIs i (pc + 1)) := by
  intro g d L stk σ K k h hk
  match stk, h with
  | .inl x :: r, h =>
    intro p l e R s m args below meth c H locs cells slots ls n0 hfl F hr hl hs hS h1 h2
    exact lv_istore_n F.1.1 F.1.2.1 hd hj hl.has hi rfl (fun ls' h' => hk _ _ _ _ h p l e R s m args below meth c H locs cells slots ls' n0 hfl F hr (jm_lr1 (v := aI x) hl trivial h') hs.2 hS h1 h2)
theorem s_lstore {i : Nat} (hd : decode (mC id) pc = .ok (.lstore i, 2)) (hi : i + 1 < mL id) : jm_sn id pc (oLs i (pc + 2)) := by
  intro g d L stk σ K k h hk
  match stk, h with
  | .inr (.inl x) :: r, h =>
    intro p l e R s m args below meth c H locs cells slots ls n0 hfl F hr hl hs hS h1 h2
    exact lv_lstore F.1.1 F.1.2.1 hd hl.has hi rfl (fun ls' h' => hk _ _ _ _ h p l e R s m args below meth c H locs cells slots ls' n0 hfl F hr (jm_lr2 (v := aL x) hl trivial h') hs.2 hS h1 h2)
theorem s_lstore_n {j : Fin 4} {i : Nat} (hd : decode (mC id) pc = .ok (.lstore_n j, 1)) (hj : (j : Nat) = i) (hi : i + 1 < mL id) : jm_sn id pc (oLs i (pc + 1)) := by
  intro g d L stk σ K k h hk
  match stk, h with
  | .inr (.inl x) :: r, h =>
    intro p l e R s m args below meth c H locs cells slots ls n0 hfl F hr hl hs hS h1 h2
    exact lv_lstore_n F.1.1 F.1.2.1 hd hj hl.has hi rfl (fun ls' h' => hk _ _ _ _ h p l e R s m args below meth c H locs cells slots ls' n0 hfl F hr (jm_lr2 (v := aL x) hl trivial h') hs.2 hS h1 h2)
theorem s_astore {i : Nat} (hd : decode (mC id) pc = .ok (.astore i, 2)) (hi : i < mL id) : jm_sn id pc (oAs i (pc + 2)) := by
  intro g d L stk σ K k h hk
  match stk, h with
  | .inr (.inr (t, q)) :: r, h =>
    intro p l e R s m args below meth c H locs cells slots ls n0 hfl F hr hl hs hS h1 h2
    exact lv_astore F.1.1 F.1.2.1 hd hl.has hi rfl (fun ls' h' => hk _ _ _ _ h p l e R s m args below meth c H locs cells slots ls' n0 hfl F hr (jm_lr1 (v := aR t q) hl hs.1 h') hs.2 hS h1 h2)
theorem s_astore_n {j : Fin 4} {i : Nat} (hd : decode (mC id) pc = .ok (.astore_n j, 1)) (hj : (j : Nat) = i) (hi : i < mL id) : jm_sn id pc (oAs i (pc + 1)) := by
  intro g d L stk σ K k h hk
  match stk, h with
  | .inr (.inr (t, q)) :: r, h =>
    intro p l e R s m args below meth c H locs cells slots ls n0 hfl F hr hl hs hS h1 h2
    exact lv_astore_n F.1.1 F.1.2.1 hd hj hl.has hi rfl (fun ls' h' => hk _ _ _ _ h p l e R s m args below meth c H locs cells slots ls' n0 hfl F hr (jm_lr1 (v := aR t q) hl hs.1 h') hs.2 hS h1 h2)
theorem s_iinc {i : Nat} {n : Int} {v : Int32} (hd : decode (mC id) pc = .ok (.iinc i n, 3)) (hv : Int32.ofInt n = v) (hi : i < mL id) : jm_sn id pc (oInc i v (pc + 3)) := by
  intro g d L stk σ K k h hk
  unfold oInc at h
  split at h
  · rename_i x hx
    intro p l e R s m args below meth c H locs cells slots ls n0 hfl F hr hl hs hS h1 h2
    obtain ⟨j, hj⟩ := List.getElem?_of_mem (jm_mem_al hx)
    exact lv_iinc (v := x + v) F.1.1 F.1.2.1 hd hl.has hj (by rw [hv]) hi rfl (fun ls' h' => hk _ _ _ _ h p l e R s m args below meth c H locs cells slots ls' n0 hfl F hr (jm_lr1 (v := aI (x + v)) hl trivial h') hs hS h1 h2)
  · exact h.elim
end
