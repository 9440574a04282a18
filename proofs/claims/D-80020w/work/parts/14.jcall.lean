/-! THE CALL RULE -/
/-- the instruction at pc of the method id calls id' with vs -/
def jm_inv (g : jm_G) (id pc id' : Nat) (vs : List jm_V) : Prop :=
  ∀ (d n0 : Nat) (p : Program) (l : Launch) (e : Env) (R : Room) (s : State) (m : MethodId) (args : Array Value) (below : List Frame) (meth : Method) (c : Code) (T : State) (locs : List Loc) (cells slots : Nat) (ls : Array Slot) (r : List jm_V) (σ : jm_S),
    jm_F g d id n0 p R s m meth c → jm_rep g σ T.heap → jm_st g (jm_hs σ) vs → va_S (fun q => gb g ≤ q) s.heap T.heap locs → Stand p l e R s m args below meth c T locs cells slots →
    ∃ (vm₁ : Vm) (mk : MethodId) (ig : Instr), Stand p l e R s m args below meth c (T.setVm vm₁) locs cells slots ∧ (T.setVm vm₁).methodNamed? (mY id') = some mk ∧ decode c.code pc = .ok (ig, 3) ∧
      ∀ target, Steps p.tables e below (doInvoke e ((T.setVm vm₁).setTop (F0 m pc ls (r.map jm_vo))) [] mk (vs.map jm_vo).toArray).1 target → Steps p.tables e below (T.setTop (F0 m pc ls ((vs.reverse ++ r).map jm_vo))) target
/-- where an exception goes -/
def jm_thr (g : jm_G) (d id pc : Nat) (L : List (Option jm_V)) (σ : jm_S) (q : Nat) (K : jm_O → Prop) : Prop := match mH id with
  | [] => K (σ, .inr q)
  | [(a, b, h, _)] => cond (Nat.ble a pc && Nat.ble (pc + 1) b) (J g d id h L [aR 7 q] σ K) (K (σ, .inr q))
  | _ => False
theorem jm_recv {g : jm_G} {s : State} {σ : jm_S} {H : Heap} {t q N : Nat} {C : String} {T : u_T} {ty : Nat → FieldType} (hw : jm_w g s) (hr : jm_rep g σ H) (hq : gdm g q = t ∧ q < jm_hs σ) (hc : jm_ci t C T N ty) : ∃ cell : Cell, H[q]? = some cell ∧ cell.vm.isStatics = false ∧ s.vm.findClass C = some cell.cls := by
  obtain ⟨c1, c2, -⟩ := hc
  obtain ⟨r, h1, cell, q1, q2, q3, -⟩ := jm_P1 hr hq (jm_E_o c1)
  exact ⟨cell, q1, by rw [q3]; rfl, by rw [q2]; exact (hw.2.1.1 _ _ c2).2.1⟩
/-- what is known of the class of the exception -/
def jm_stopOk : Prop := jm_ci 7 R_S F_S 1 t_S ∧ ∀ id h, h ∈ mH id → h.2.2.2 ≠ 0 ∧ Cond.classLink (mY id).cls h.2.2.2 R_S ∈ jm_tb
theorem jm_tail {p : Program} {l : Launch} {e : Env} {R : Room} {s : State} {m : MethodId} {args : Array Value} {below : List Frame} {meth : Method} {c : Code} {T : State} {locs : List Loc} {cells slots : Nat} (X : Stand p l e R s m args below meth c T locs cells slots) {g : jm_G} {d id n0 pc q : Nat} {L : List (Option jm_V)} {σ : jm_S} {K : jm_O → Prop} {ls : Array Slot} {st : List Value}
    (hok : jm_stopOk) (hfl : l.flags = flags0) (F : jm_F g d id n0 p R s m meth c) (hr : jm_rep g σ T.heap) (hl : jm_lr g (jm_hs σ) ls (mL id) L) (hq : gdm g q = 7 ∧ q < jm_hs σ) (hS : va_S (fun q => gb g ≤ q) s.heap T.heap locs) (h1 : s.heap.size + cells = jm_hs σ) (h2 : n0 + slots = jm_ns σ)
    (h : jm_thr g d id pc L σ q K) : ∃ t, Steps p.tables e below ((T.setTop (F0 m pc ls st)).pushFrame (.throwing q)) t ∧ jm_Q g s n0 below K t := by
  have htab := F.1.2.2.2.2.2.2.2.2
  have leave : (∀ x ∈ c.exceptionTable.toList, covers x pc = false) → K (σ, .inr q) → ∃ t, Steps p.tables e below ((T.setTop (F0 m pc ls st)).pushFrame (.throwing q)) t ∧ jm_Q g s n0 below K t := fun hout hK => by
    obtain ⟨hst, b1, b2, b5, b6⟩ := X.leaveThrown q (g := F0 m pc ls st) rfl rfl rfl hout F.1.2.2.2.2.1
    exact ⟨_, hst, _, (σ, .inr q), b1, b2, hK, ⟨hr, rfl, hq⟩, b5, locs, cells, slots, b6, hS.2.2, h1, h2, fun x hx => hS.2.1 x (Nat.lt_of_lt_of_le hx F.2.1.2.2.1) (Nat.not_le.mpr hx)⟩
  unfold jm_thr at h
  split at h
  · rename_i he
    rw [he] at htab
    exact leave (fun x hx => by rw [List.map_eq_nil_iff.mp htab] at hx; cases hx) h
  · rename_i a b hd ct he
    rw [he] at htab
    obtain ⟨x, hx, hxe⟩ : ∃ x, c.exceptionTable.toList = [x] ∧ (x.startPc, x.endPc, x.handlerPc, x.catchType) = (a, b, hd, ct) := by
      match hc : c.exceptionTable.toList, htab with
      | [x], htab => exact ⟨x, rfl, by simpa using htab⟩
    simp only [Prod.mk.injEq] at hxe
    obtain ⟨e1, e2, e3, e4⟩ := hxe
    cases hcov : (Nat.ble a pc && Nat.ble (pc + 1) b) with
    | false =>
      rw [hcov, cond_false] at h
      refine leave (fun y hy => ?_) h
      rw [hx] at hy
      rw [List.mem_singleton.mp hy]
      simp only [covers, e1, e2]
      simp only [Bool.and_eq_false_iff] at hcov
      rcases hcov with hz | hz
      · have : ¬ a ≤ pc := fun z => by rw [Nat.ble_eq_true_of_le z] at hz; cases hz
        simp [this]
      · have : ¬ pc < b := fun z => by rw [Nat.ble_eq_true_of_le z] at hz; cases hz
        simp [this]
    | true =>
      rw [hcov, cond_true] at h
      simp only [Bool.and_eq_true] at hcov
      have k1 := Nat.le_of_ble_eq_true hcov.1
      have k2 := Nat.le_of_ble_eq_true hcov.2
      obtain ⟨n1, n2⟩ := hok.2 id (a, b, hd, ct) (by rw [he]; exact List.mem_cons_self)
      obtain ⟨cell, g1, g2, g3⟩ := jm_recv F.2.1 hr hq hok.1
      have hKn := (F.2.1.2.1.1 6 (R_S, F_S, 1) rfl).2
      have hcls : cell.cls = (gD g).1 6 := Option.some.inj (g3.symm.trans hKn.1)
      obtain ⟨vm', X', st'⟩ := jm_catch X (a := q) (g := F0 m pc ls st) rfl (jm_own F) hx (by simp only [covers, e1, e2]; simp; exact ⟨k1, k2⟩) (by rw [e4]; exact n1) (name := R_S) (by rw [e4]; exact F.2.1.1 _ n2 args) g3 g1 g2 (by rw [hcls]; exact va_assign hKn)
      obtain ⟨t, a1, b1⟩ := h p l e R s m args below meth c T.heap locs cells slots ls n0 hfl F hr hl ⟨hq, trivial⟩ hS h1 h2 (T.setVm vm') rfl X'
      refine ⟨t, st' t ?_, b1⟩
      rw [e3]
      exact a1
  · exact h.elim
theorem jm_weak {tb : Tables} {e : Env} {x : Frame} {below : List Frame} {a b : State} (h : Steps tb e (x :: below) a b) : Steps tb e below a b := by
  obtain ⟨n, h1, h2⟩ := h
  refine ⟨n, h1, fun k hk => ?_⟩
  obtain ⟨above, e1, e2, -⟩ := h2 k hk
  refine ⟨above ++ [x], by rw [e1, List.append_assoc]; rfl, by simp, fun y hy => ?_⟩
  cases above with
  | nil => exact e2 rfl
  | cons z t => simp at hy
/-- what comes behind a call -/
def jm_aft (g : jm_G) (d id pc : Nat) (L : List (Option jm_V)) (r : List jm_V) (u : jm_O) (K : jm_O → Prop) : Prop := match u.2 with
  | .inl v => J g d id (pc + 3) L (v.toList ++ r) u.1 K
  | .inr q => jm_thr g d id pc L u.1 q K
theorem J_call' {g : jm_G} {d id pc id' : Nat} {L L0 : List (Option jm_V)} {stk r vs : List jm_V} {σ : jm_S} {K K' : jm_O → Prop} (hok : jm_stopOk) (hinv : jm_inv g id pc id' vs) (hcw : jm_cw id' ∈ jm_tb) (hpl : plainName (mY id').cls = true) (hml : mL id' ≤ 23)
    (hlen : (lg_sl (vs.map jm_vo)).length ≤ mL id') (hstk : stk = vs.reverse ++ r) (hcs : Nat.ble (jm_cs r) 8 = true) (hL : L0 = jm_entry id' vs) (hcal : J g d id' 0 L0 [] σ K')
    (hk : ∀ u, K' u → jm_aft g (d + 1) id pc L r u K) : J g (d + 1) id pc L stk σ K := by
  subst hstk
  subst hL
  intro p l e R s m args below meth c H locs cells slots ls n0 hfl F hr hl hst hS h1 h2 T hT X
  subst hT
  have hall := jm_st.mem hst
  have hvs : jm_st g (jm_hs σ) vs := jm_st.of_mem (fun v hv => hall v (List.mem_append_left _ (List.mem_reverse.mpr hv)))
  have hrr : jm_st g (jm_hs σ) r := jm_st.of_mem (fun v hv => hall v (List.mem_append_right _ hv))
  obtain ⟨vm₁, mk, ig, X₁, hnamed, hdec, hstep⟩ := hinv (d + 1) n0 p l e R s m args below meth c T locs cells slots ls r σ F hr hvs hS X
  have hW1 : s.WarmedH vm₁ := X₁.warmed
  have hw1 : ∀ {w : Cond}, w ∈ jm_tb → ∀ a : Array Value, w.before a (T.setVm vm₁) = true := fun hw => jm_word (U := T.setVm vm₁) (List.mem_filter.mp hw).2 hW1 (F.2.1.1 _ hw)
  have hcwU := hw1 hcw (vs.map jm_vo).toArray
  obtain ⟨m', methY, cY, hn', hmY, hcY, hbY, hlY, hhY, hrY, hkY, -⟩ := jm_cw_spec hcwU
  cases hnamed.symm.trans hn'
  have hplain : (T.setVm vm₁).plainMethod mk := by
    refine State.plainMethod.of_name (fun k hk => ?_)
    obtain ⟨k', hk', hnm⟩ := className_of_methodNamed hnamed
    cases hk.symm.trans hk'
    rw [hnm]; exact hpl
  have hcsr := Nat.le_of_ble_eq_true hcs
  have hceq := jm_cs_eq r
  have f1 := F.2.2.1
  have f2 := F.2.2.2.1
  have f3 := F.2.2.2.2.1
  have f4 := F.2.2.2.2.2
  have hlim := hr.2.2.2
  have hszT : T.heap.size = jm_hs σ := hr.1
  obtain ⟨Y, hin⟩ := X₁.into (g := F0 m pc ls (r.map jm_vo)) rfl (by rw [F.1.2.2.1]; exact hl.1) hdec (vs.map jm_vo).toArray (R' := jm_rm g d σ) hmY hcY hkY hplain (by show d + 1 + 1 ≤ _; omega) (by rw [hlY]; show 2 * 0 + _ + _ + 42 * (d + 1) ≤ _; rw [hceq]; omega) (by show cells + (gb g + 601024 - jm_hs σ) ≤ _; omega) (by show slots + (7293000 - jm_ns σ) ≤ _; omega)
  have hwc : jm_w g ((T.setVm vm₁).calling (F0 m pc ls (r.map jm_vo)) mk (vs.map jm_vo).toArray) :=
    F.2.1.moved (U := (T.setVm vm₁).calling (F0 m pc ls (r.map jm_vo)) mk (vs.map jm_vo).toArray) hW1 (by have := F.2.1.2.2.1; have := hS.1; show gb g ≤ T.heap.size; omega) (fun q hq => hS.2.1 q (Nat.lt_of_lt_of_le hq F.2.1.2.2.1) (Nat.not_le.mpr hq))
  have F' : jm_F g d id' (jm_ns σ) p (jm_rm g d σ) ((T.setVm vm₁).calling (F0 m pc ls (r.map jm_vo)) mk (vs.map jm_vo).toArray) mk methY cY := ⟨⟨F.1.1, hbY, hlY, hrY, hkY, hnamed, hmY, hcY, hhY⟩, hwc, rfl, rfl, by show T.heap.size + (gb g + 601024 - jm_hs σ) = _; omega, by show jm_ns σ + (7293000 - jm_ns σ) = _; omega⟩
  have hl1 := lv_entry (vs.map jm_vo) (n := mL id') hlen
  have hl2 : jm_lr g (jm_hs σ) ((lg_sl (vs.map jm_vo) ++ List.replicate (mL id' - (lg_sl (vs.map jm_vo)).length) Slot.unset).toArray) (mL id') (jm_entry id' vs) := by
    refine ⟨hl1.1, hl1.2.1, fun i v hv => ?_⟩
    obtain ⟨h1, h2⟩ := jm_ent_get vs i 0 v (jm_entry_get hv)
    rw [Nat.zero_add] at h1
    exact ⟨hl1.2.2 (i, _) h1, hvs.mem v h2⟩
  obtain ⟨s₂, hst2, o, u, hrun, hend, hKu, hor, hWt, Lc, k, n, hsame, hLc, hsz, hns, hlow⟩ := hcal p l e (jm_rm g d σ) _ mk (vs.map jm_vo).toArray (.java (F0 m pc ls (r.map jm_vo)) :: below) methY cY T.heap [] 0 0 _ (jm_ns σ) hfl F' hr hl2 trivial va_S.rf (by show T.heap.size + 0 = _; omega) rfl (((T.setVm vm₁).setTop (F0 m pc ls (r.map jm_vo))).pushFrame (.java (entryFrame mk (vs.map jm_vo).toArray cY.maxLocals))) rfl Y
  have hsteps : Steps p.tables e below (doInvoke e ((T.setVm vm₁).setTop (F0 m pc ls (r.map jm_vo))) [] mk (vs.map jm_vo).toArray).1 s₂ := by
    have e9 : entryFrame mk (vs.map jm_vo).toArray cY.maxLocals = F0 mk 0 ((lg_sl (vs.map jm_vo) ++ List.replicate (mL id' - (lg_sl (vs.map jm_vo)).length) Slot.unset).toArray) [] := by rw [hlY, lg_entry_eq]
    rw [hin]
    rw [e9] at hst2 ⊢
    exact jm_weak hst2
  have hsz : T.heap.size + k = jm_hs u.1 := hsz
  have hlow : ∀ q : Nat, q < gb g → s₂.heap[q]? = T.heap[q]? := hlow
  have hszu : s₂.heap.size = jm_hs u.1 := hor.1.1
  have hS' : va_S (fun q => gb g ≤ q) s.heap s₂.heap (locs ++ Lc) := ⟨by have := hS.1; omega, fun q g1 g2 => by rw [hlow q (Nat.not_le.mp g2)]; exact hS.2.1 q g1 g2, fun x hx => by
    rcases List.mem_append.mp hx with h | h
    · exact hS.2.2 x h
    · exact hLc x h⟩
  have hle : jm_hs σ ≤ jm_hs u.1 := by omega
  have hku := hk u hKu
  obtain ⟨σ', ur⟩ := u
  have hsz : T.heap.size + k = jm_hs σ' := hsz
  have hns : jm_ns σ + n = jm_ns σ' := hns
  have hle : jm_hs σ ≤ jm_hs σ' := hle
  cases o with
  | returned v =>
    obtain ⟨T', X', -, -, ht⟩ := X₁.outOf (g := F0 m pc ls (r.map jm_vo)) rfl hdec hend hWt hsame
    have hT' : T'.heap = s₂.heap := by rw [ht]; rfl
    obtain ⟨vr, hvr, hvv⟩ : ∃ vr : Option jm_V, ur = .inl vr ∧ v = vr.map jm_vo ∧ ∀ w, vr = some w → jm_vr g (jm_hs σ') w := by
      match ur, hor with
      | .inl none, hor => exact ⟨none, rfl, by have := hor.2; cases this; rfl, fun w h => by cases h⟩
      | .inl (some w), hor => exact ⟨some w, rfl, by have := hor.2.1; cases this; rfl, fun w' h => by cases h; exact hor.2.2⟩
      | .inr q, hor => exact absurd hor.2.1 (by simp)
    subst hvr
    obtain ⟨rfl, hvt⟩ := hvv
    have hstk2 : jm_st g (jm_hs σ') (vr.toList ++ r) := by
      cases vr with
      | none => exact hrr.mono hle
      | some w => exact ⟨hvt w rfl, hrr.mono hle⟩
    obtain ⟨t2, a1, b1⟩ := hku p l e R s m args below meth c T'.heap (locs ++ Lc) (cells + k) (slots + n) ls n0 hfl F (by rw [hT']; exact hor.1) (hl.mono hle) hstk2 (by rw [hT']; exact hS') (by show _ = jm_hs σ'; omega) (by show _ = jm_ns σ'; omega) T' rfl X'
    refine ⟨t2, hstep t2 (hsteps.trans ?_), b1⟩
    rw [ht]
    cases vr <;> exact a1
  | threw x =>
    obtain ⟨T', X', -, -, ht⟩ := X₁.outOfThrown (g := F0 m pc ls (r.map jm_vo)) rfl hend hWt hsame
    have hT' : T'.heap = s₂.heap := by rw [ht]; exact (Stand.throwing_heap T' _ x).symm
    obtain ⟨hur, hx7⟩ : ur = .inr x ∧ (gdm g x = 7 ∧ x < jm_hs σ') := by
      match ur, hor with
      | .inl none, hor => exact absurd hor.2 (by simp)
      | .inl (some w), hor => exact absurd hor.2.1 (by simp)
      | .inr q, hor => obtain ⟨-, h3, h4, h5⟩ := hor; cases h3; exact ⟨rfl, h4, h5⟩
    subst hur
    obtain ⟨t2, a1, b1⟩ := jm_tail X' (st := r.map jm_vo) (pc := pc) hok hfl F (by rw [hT']; exact hor.1) (hl.mono hle) hx7 (by rw [hT']; exact hS') (by show _ = jm_hs σ'; omega) (by show _ = jm_ns σ'; omega) hku
    refine ⟨t2, hstep t2 (hsteps.trans ?_), b1⟩
    rw [ht]
    exact a1
