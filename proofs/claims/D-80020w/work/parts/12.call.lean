/-! calls: one rule, both outcomes -/
def jm_cw (id : Nat) : Cond := match mH id with
  | [] => .code (mY id) (mC id) (mL id) (mT id)
  | h :: t => .codeWith (mY id) (mC id) (mL id) (mT id) (h :: t)
theorem jm_cw_spec {id : Nat} {a : Array Value} {s : State} (h : (jm_cw id).before a s = true) : ∃ m meth c, s.methodNamed? (mY id) = some m ∧ s.vm.method? m = some meth ∧ meth.code = some c ∧ c.code = mC id ∧ c.maxLocals = mL id ∧
    c.exceptionTable.toList.map (fun x => (x.startPc, x.endPc, x.handlerPc, x.catchType)) = mH id ∧ meth.sig.returnType = mT id ∧ meth.locks = false ∧ parseMethodDescriptor (mY id).desc = some meth.sig := by
  unfold jm_cw at h
  split at h
  · rename_i he
    obtain ⟨m, hn⟩ := Cond.code_named h
    obtain ⟨meth, c, h1, h2, h3, h4, h5, h6, h7, h8⟩ := Cond.code_spec hn h
    refine ⟨m, meth, c, hn, h1, h2, h3, h4, ?_, h5, h6, h8⟩
    rw [he]
    simp at h7
    simp [h7]
  · rename_i h0 t0 he
    obtain ⟨m, meth, c, hn, h1, h2, h3, h4, h5, h6, h7, h8⟩ := Cond.codeWith_spec h
    exact ⟨m, meth, c, hn, h1, h2, h3, h4, h5.trans he.symm, h6, h7, h8⟩
/-- the locals with which a method begins -/
def jm_ent : List jm_V → List (Option jm_V)
  | [] => []
  | .inr (.inl x) :: r => some (aL x) :: none :: jm_ent r
  | v :: r => some v :: jm_ent r
theorem jm_ent_get : ∀ (vs : List jm_V) (i k : Nat) (v : jm_V), (jm_ent vs)[i]? = some (some v) → (k + i, jm_vo v) ∈ lv_args k (vs.map jm_vo) ∧ v ∈ vs
  | [], i, k, v, h => by simp [jm_ent] at h
  | .inl x :: r, i, k, v, h => by
    cases i with
    | zero => simp [jm_ent] at h; subst h; exact ⟨List.mem_cons_self, List.mem_cons_self⟩
    | succ i =>
      have h' : (jm_ent r)[i]? = some (some v) := by simpa [jm_ent] using h
      obtain ⟨h1, h2⟩ := jm_ent_get r i (k + 1) v h'
      refine ⟨List.mem_cons_of_mem _ ?_, List.mem_cons_of_mem _ h2⟩
      have e : k + (i + 1) = k + 1 + i := by omega
      rw [e]
      exact h1
  | .inr (.inl x) :: r, i, k, v, h => by
    match i, h with
    | 0, h => simp [jm_ent] at h; subst h; exact ⟨List.mem_cons_self, List.mem_cons_self⟩
    | 1, h => simp [jm_ent] at h
    | i + 2, h =>
      have h' : (jm_ent r)[i]? = some (some v) := by simpa [jm_ent] using h
      obtain ⟨h1, h2⟩ := jm_ent_get r i (k + 2) v h'
      refine ⟨List.mem_cons_of_mem _ ?_, List.mem_cons_of_mem _ h2⟩
      have e : k + (i + 2) = k + 2 + i := by omega
      rw [e]
      exact h1
  | .inr (.inr x) :: r, i, k, v, h => by
    cases i with
    | zero => simp [jm_ent] at h; subst h; exact ⟨List.mem_cons_self, List.mem_cons_self⟩
    | succ i =>
      have h' : (jm_ent r)[i]? = some (some v) := by simpa [jm_ent] using h
      obtain ⟨h1, h2⟩ := jm_ent_get r i (k + 1) v h'
      refine ⟨List.mem_cons_of_mem _ ?_, List.mem_cons_of_mem _ h2⟩
      have e : k + (i + 1) = k + 1 + i := by omega
      rw [e]
      exact h1
theorem jm_st.mem {g : jm_G} {hs : Nat} : ∀ {vs : List jm_V}, jm_st g hs vs → ∀ v ∈ vs, jm_vr g hs v
  | [], _, v, hv => by cases hv
  | w :: r, h, v, hv => by
    rcases List.mem_cons.mp hv with rfl | hv
    · exact h.1
    · exact jm_st.mem h.2 v hv
theorem jm_st.of_mem {g : jm_G} {hs : Nat} : ∀ {vs : List jm_V}, (∀ v ∈ vs, jm_vr g hs v) → jm_st g hs vs
  | [], _ => trivial
  | w :: r, h => ⟨h w List.mem_cons_self, jm_st.of_mem (fun v hv => h v (List.mem_cons_of_mem _ hv))⟩
def jm_entry (id : Nat) (vs : List jm_V) : List (Option jm_V) := jm_ent vs ++ List.replicate (mL id - (jm_ent vs).length) none
theorem jm_entry_get {id i : Nat} {vs : List jm_V} {v : jm_V} (h : (jm_entry id vs)[i]? = some (some v)) : (jm_ent vs)[i]? = some (some v) := by
  unfold jm_entry at h
  by_cases hi : i < (jm_ent vs).length
  · rwa [List.getElem?_append_left hi] at h
  · rw [List.getElem?_append_right (by omega), List.getElem?_replicate] at h
    split at h <;> cases h
def jm_Qm (g : jm_G) (n0 : Nat) (K : jm_O → Prop) : Array Value → State → Outcome → State → Prop := fun _ st o t =>
  ∃ u : jm_O, K u ∧ jm_or g u o t ∧ st.WarmedH t.vm ∧ ∃ (Lc : List Loc) (k n : Nat), st.sameButNew ({ t with vm := st.vm } : State) Lc k n ∧ (∀ q ∈ Lc, gb g ≤ q.base) ∧ st.heap.size + k = jm_hs u.1 ∧ n0 + n = jm_ns u.1 ∧ ∀ q : Nat, q < gb g → t.heap[q]? = st.heap[q]?
abbrev jm_rm (g : jm_G) (d : Nat) (σ : jm_S) : Room := { frames := d + 1, cells := gb g + 601024 - jm_hs σ, slots := 7293000 - jm_ns σ, locals := 42 * (d + 1) }
theorem jm_met {g : jm_G} {d id : Nat} {σ : jm_S} {K : jm_O → Prop} {l : Launch} {vs : List jm_V} (hJ : J g d id 0 (jm_entry id vs) [] σ K) (hfl : l.flags = flags0) (hpl : plainName (mY id).cls = true) (hlen : (lg_sl (vs.map jm_vo)).length ≤ mL id) :
    MetFree l (mY id) (headSpec [jm_cw id] (jm_rm g d σ)) (fun a st => a = (vs.map jm_vo).toArray ∧ jm_w g st ∧ jm_rep g σ st.heap ∧ jm_st g (jm_hs σ) vs) (fun _ _ _ _ _ => True) (jm_Qm g (jm_ns σ) K) := by
  refine MetFree.of_bodyS (code := mC id) (maxLocals := mL id) (ret := mT id) hpl ?_ ?_
  · intro args s m h hn
    obtain ⟨m', meth, c, hn', h1, h2, h3, h4, -, h5, h6, -⟩ := jm_cw_spec (atoms_spec (ws := [jm_cw id]) h _ List.mem_cons_self)
    cases hn.symm.trans hn'
    exact ⟨meth, c, h1, h2, h3, h4, h5, h6⟩
  · intro p e s m args below meth c s₁ B hml hP _
    obtain ⟨rfl, hw, hr, hst⟩ := hP
    have X₀ := Stand.of_body B
    obtain ⟨m', meth', c', hn', g1, g2, g3, g4, g5, g6, g7, -⟩ := jm_cw_spec (atoms_spec (ws := [jm_cw id]) B.pre _ List.mem_cons_self)
    cases B.named.symm.trans hn'
    cases B.method.symm.trans g1
    cases X₀.code.symm.trans g2
    have hlim := hr.2.2.2
    have hsz := hr.1
    have F : jm_F g d id (jm_ns σ) p (jm_rm g d σ) s m meth c := ⟨⟨B.exec, g3, g4, g6, g7, B.named, B.method, g2, g5⟩, hw, rfl, rfl, by show s.heap.size + (gb g + 601024 - jm_hs σ) = _; omega, by show jm_ns σ + (7293000 - jm_ns σ) = _; omega⟩
    have hl := lv_entry (vs.map jm_vo) (n := mL id) hlen
    have hl2 : jm_lr g (jm_hs σ) ((lg_sl (vs.map jm_vo) ++ List.replicate (mL id - (lg_sl (vs.map jm_vo)).length) Slot.unset).toArray) (mL id) (jm_entry id vs) := by
      refine ⟨hl.1, hl.2.1, fun i v hv => ?_⟩
      obtain ⟨h1, h2⟩ := jm_ent_get vs i 0 v (jm_entry_get hv)
      rw [Nat.zero_add] at h1
      exact ⟨hl.2.2 (i, _) h1, hst.mem v h2⟩
    have hh0 : s₁.heap = s.heap := by rw [B.state]; rfl
    obtain ⟨t, a1, o, u, b1, b2, b3, b4, b5, b6⟩ := hJ p l e (jm_rm g d σ) s m (vs.map jm_vo).toArray below meth c s.heap [] 0 0 _ (jm_ns σ) hfl F hr hl2 trivial va_S.rf (by rw [hsz]; rfl) rfl s₁ hh0 X₀
    rw [lg_entry_eq]
    exact ⟨t, o, a1, b1, b2, u, b3, b4, b5, b6⟩
