/-! ends of an invocation; how what holds at a start moves to a callee's start -/
theorem jm_word {w : Cond} (hk : jm_ok w = true) {s U : State} (hW : s.WarmedH U.vm) (h : ∀ a : Array Value, w.before a s = true) : ∀ a : Array Value, w.before a U = true := by
  intro a
  cases w
  case fieldLinkNest => exact va_Nw.use rfl (va_Nw.warmF hW (h #[]))
  case methodLinkNest => exact va_Nw.use rfl (va_Nw.warmM hW (h #[]))
  case declares => exact va_Nw.use rfl (va_Nw.warmD hW (h #[]))
  case castable => exact va_Nw.use rfl (va_Nw.warmC hW (h #[]))
  case arrayOver t =>
    cases t
    case object => exact va_AO.use (va_AO.moved hW.alike (h #[]))
    all_goals exact word_at hW (good_of_word hk) (h #[])
  all_goals exact word_at hW (good_of_word hk) (h #[])
theorem jm_ls {owner name desc : String} {A : Nat → Prop} {s U : State} (hl : ∀ a : Array Value, (Cond.laysStatic owner name desc).before a s = true) (hz : va_Zq owner name desc A s s.heap) (hW : s.WarmedH U.vm) (hq : ∀ a : Nat, a < s.heap.size → ¬ A a → U.heap[a]? = s.heap[a]?) : ∀ a : Array Value, (Cond.laysStatic owner name desc).before a U = true := by
  intro a
  obtain ⟨c, k, i, f, b, cell, hc, hi, hst, ha, hcell, hs, hcls, hlt, hty⟩ := Cond.laysStatic_spec (hl a)
  have hn : ¬ A b := by
    rcases hz with ⟨cf, kf, fi, f', b', cell', z1, z2, z3, z4, z5, z6, z7, z8⟩ | ⟨t, cf, kf, fi, f', b', cell', z1, z2, z3, z4, z5, z6, z7, z8⟩
    · cases hi.symm.trans z1
      cases ha.symm.trans z4
      exact z8
    · cases hi.symm.trans z1
      cases ha.symm.trans z4
      exact z8
  obtain ⟨k', hi', hek⟩ := State.fieldFound?_setVm hW.alike hi
  exact Cond.laysStatic_of (s := U) (by rw [hW.alike.findClass]; exact hc) hi' hst (by rw [hek]; exact ha) (by rw [hq b (Array.getElem?_eq_some_iff.mp hcell).1 hn]; exact hcell) hs hcls hlt (by rw [hek]; exact hty)
theorem jm_w.moved {g : jm_G} {s U : State} (h : jm_w g s) (hW : s.WarmedH U.vm) (hz : gb g ≤ U.heap.size) (hq : ∀ q : Nat, q < gb g → U.heap[q]? = s.heap[q]?) : jm_w g U := by
  obtain ⟨h1, h2, h3, h4, h5, ⟨h6, h7⟩, ⟨h8, h9, h10, h11⟩, v, cell, ha, hb, hc, hd, he, hf, hg⟩ := h
  have hq2 : ∀ a : Nat, a < s.heap.size → ¬ (fun q => gb g ≤ q) a → U.heap[a]? = s.heap[a]? := fun a _ hn => hq a (Nat.not_le.mp hn)
  refine ⟨fun w hw => jm_word (List.mem_filter.mp hw).2 hW (h1 w hw), va_K.moved hW.alike h2, hz, h4, fun j hj => ?_, ⟨h6, va_X.moved hW.alike (h7.kept (hq _ h6))⟩, ⟨(va_Zq.moved hW.alike h8).kept hq2, (va_Zq.moved hW.alike h9).kept hq2, jm_ls h10 h8 hW hq2, jm_ls h11 h9 hW hq2⟩, v, cell, (va_Z.moved hW.alike ha).kept hq2, hb, by rw [hq v hb]; exact hc, hd, he, by rw [hW.alike.findClass]; exact hf, hg⟩
  obtain ⟨cell, k1, k2, k3, k4⟩ := h5 j hj
  exact ⟨cell, k1, by rw [hq _ k1]; exact k2, k3, by rw [hW.alike.findClass]; exact k4⟩
theorem jm_W.mono {p : Program} {l : Launch} {e : Env} {R : Room} {s : State} {m : MethodId} {args : Array Value} {below : List Frame} {meth : Method} {c : Code} {H : Heap} {locs : List Loc} {cells slots : Nat} {Q Q' : State → Prop} {fr : JFrame} (h : W p l e R s m args below meth c H locs cells slots Q fr) (hq : ∀ t, Q t → Q' t) : W p l e R s m args below meth c H locs cells slots Q' fr := by
  intro T hT X
  obtain ⟨t, a, b⟩ := h T hT X
  exact ⟨t, a, hq t b⟩
section
variable {p : Program} {l : Launch} {e : Env} {R : Room} {s : State} {m : MethodId} {args : Array Value} {below : List Frame} {meth : Method} {c : Code} {H : Heap} {locs : List Loc} {cells slots : Nat} {fr : JFrame}
variable {g : jm_G} {d id n0 pc : Nat} {σ : jm_S} {K : jm_O → Prop} {L : List (Option jm_V)}
theorem jm_fin {r : Option jm_V} (F : jm_F g d id n0 p R s m meth c) (hr : jm_rep g σ H) (hS : va_S (fun q => gb g ≤ q) s.heap H locs) (h1 : s.heap.size + cells = jm_hs σ) (h2 : n0 + slots = jm_ns σ) (hK : K (σ, .inl r)) (hv : ∀ v, r = some v → jm_vr g (jm_hs σ) v)
    (h : W p l e R s m args below meth c H locs cells slots (MQ below (fun _ _ o t => o = .returned (r.map jm_vo) ∧ t.heap = H) args s cells slots (fun q => gb g ≤ q)) fr) : W p l e R s m args below meth c H locs cells slots (jm_Q g s n0 below K) fr := by
  refine jm_W.mono h (fun t ht => ?_)
  obtain ⟨o, b1, b2, ⟨rfl, b4⟩, Lc, ⟨-, b5, b6⟩, b7⟩ := ht
  refine ⟨_, (σ, .inl r), b1, b2, hK, ⟨by rw [b4]; exact hr, ?_⟩, b5, Lc, cells, slots, b6, b7, h1, h2, fun q hq => ?_⟩
  · cases r with
    | none => rfl
    | some v => exact ⟨rfl, hv v rfl⟩
  · rw [b4]
    exact hS.2.1 q (Nat.lt_of_lt_of_le hq F.2.1.2.2.1) (Nat.not_le.mpr hq)
theorem J_vret (hd : decode (mC id) pc = .ok (.return_, 1)) (ht : mT id = none) (hK : K (σ, .inl none)) : J g d id pc L [] σ K := by
  intro p l e R s m args below meth c H locs cells slots ls n0 hfl F hr hl hs hS h1 h2
  exact jm_fin (r := none) F hr hS h1 h2 hK (fun v h => by cases h) (W.vret F.1.1 F.1.2.1 (by rw [F.1.2.2.2.1]; exact ht) (fun t ht _ => ⟨rfl, ht⟩) hS.2.2 hd F.1.2.2.2.2.1)
theorem J_iret {v : Int32} (hd : decode (mC id) pc = .ok (.ireturn, 1)) (ht : mT id = some .int) (hK : K (σ, .inl (some (aI v)))) : J g d id pc L [aI v] σ K := by
  intro p l e R s m args below meth c H locs cells slots ls n0 hfl F hr hl hs hS h1 h2
  exact jm_fin (r := some (aI v)) F hr hS h1 h2 hK (fun v h => by cases h; trivial) (W.iret F.1.1 F.1.2.1 (by rw [F.1.2.2.2.1]; exact ht) (fun t ht _ => ⟨rfl, ht⟩) hS.2.2 hd F.1.2.2.2.2.1)
theorem J_zret {v : Int32} (hd : decode (mC id) pc = .ok (.ireturn, 1)) (ht : mT id = some .boolean) (hv : v = 0 ∨ v = 1) (hK : K (σ, .inl (some (aI v)))) : J g d id pc L [aI v] σ K := by
  intro p l e R s m args below meth c H locs cells slots ls n0 hfl F hr hl hs hS h1 h2
  exact jm_fin (r := some (aI v)) F hr hS h1 h2 hK (fun v h => by cases h; trivial) (W.zret F.1.1 F.1.2.1 (by rw [F.1.2.2.2.1]; exact ht) (jm_zb hv).1 (fun t ht _ => ⟨rfl, ht⟩) hS.2.2 hd F.1.2.2.2.2.1)
theorem J_lret {v : Int64} (hd : decode (mC id) pc = .ok (.lreturn, 1)) (ht : mT id = some .long) (hK : K (σ, .inl (some (aL v)))) : J g d id pc L [aL v] σ K := by
  intro p l e R s m args below meth c H locs cells slots ls n0 hfl F hr hl hs hS h1 h2
  exact jm_fin (r := some (aL v)) F hr hS h1 h2 hK (fun v h => by cases h; trivial) (W.lret F.1.1 F.1.2.1 (by rw [F.1.2.2.2.1]; exact ht) (fun t ht _ => ⟨rfl, ht⟩) hS.2.2 hd F.1.2.2.2.2.1)
theorem J_aret {t q : Nat} {rt : FieldType} (hd : decode (mC id) pc = .ok (.areturn, 1)) (ht : mT id = some rt) (hn : (∃ n, rt = FieldType.object n) ∨ ∃ t, rt = FieldType.array t) (hK : K (σ, .inl (some (aR t q)))) : J g d id pc L [aR t q] σ K := by
  intro p l e R s m args below meth c H locs cells slots ls n0 hfl F hr hl hs hS h1 h2
  exact jm_fin (r := some (aR t q)) F hr hS h1 h2 hK (fun v h => by cases h; exact hs.1) (W.aret F.1.1 F.1.2.1 (by rw [F.1.2.2.2.1]; exact ht) hn (Or.inr ⟨q, rfl⟩) (fun t ht _ => ⟨rfl, ht⟩) hS.2.2 hd F.1.2.2.2.2.1)
/-- athrow, in a method without an exception table -/
theorem J_throw {q : Nat} {r : List jm_V} (hd : decode (mC id) pc = .ok (.athrow, 1)) (hH : mH id = []) (hK : K (σ, .inr q)) : J g d id pc L (aR 7 q :: r) σ K := by
  intro p l e R s m args below meth c H locs cells slots ls n0 hfl F hr hl hs hS h1 h2 T hT X
  have hex : c.exceptionTable.toList = [] := by
    have := F.1.2.2.2.2.2.2.2.2
    rw [hH] at this
    exact List.map_eq_nil_iff.mp this
  obtain ⟨hst, b1, b2, b5, b6⟩ := X.athrowLeaves F.1.1 (g := F0 m pc ls ((aR 7 q :: r).map jm_vo)) rfl rfl rfl (fun x hx => by rw [hex] at hx; cases hx) (a := q) (rest := r.map jm_vo) rfl (by rw [F.1.2.1]; exact hd) F.1.2.2.2.2.1
  refine ⟨_, hst, _, (σ, .inr q), b1, b2, hK, ⟨?_, rfl, hs.1⟩, b5, locs, cells, slots, b6, hS.2.2, h1, h2, fun x hx => ?_⟩
  · show jm_rep g σ T.heap
    rw [hT]; exact hr
  · show T.heap[x]? = _
    rw [hT]
    exact hS.2.1 x (Nat.lt_of_lt_of_le hx F.2.1.2.2.1) (Nat.not_le.mpr hx)
end
