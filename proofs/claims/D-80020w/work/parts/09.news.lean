/-! new cells -/
/-- a new cell, of so many slots, all 0 or null -/
def jm_nw (σ : jm_S) (n : Nat) : jm_S := (jm_u σ.1 (jm_hs σ) (fun _ => 0), jm_u σ.2.1 (jm_hs σ) (fun _ => 0), jm_hs σ + 1, jm_ns σ + n)
theorem jm_st.mono {g : jm_G} {hs hs' : Nat} (h : hs ≤ hs') : ∀ {stk : List jm_V}, jm_st g hs stk → jm_st g hs' stk
  | [], _ => trivial
  | v :: r, h1 => ⟨by
      match v, h1.1 with
      | .inl _, _ => trivial
      | .inr (.inl _), _ => trivial
      | .inr (.inr x), h2 => exact ⟨h2.1, Nat.lt_of_lt_of_le h2.2 h⟩, jm_st.mono h h1.2⟩
theorem jm_vr.mono {g : jm_G} {hs hs' : Nat} (h : hs ≤ hs') {v : jm_V} (h1 : jm_vr g hs v) : jm_vr g hs' v := by
  match v, h1 with
  | .inl _, _ => trivial
  | .inr (.inl _), _ => trivial
  | .inr (.inr x), h2 => exact ⟨h2.1, Nat.lt_of_lt_of_le h2.2 h⟩
theorem jm_lr.mono {g : jm_G} {hs hs' nL : Nat} {ls : Array Slot} {L : List (Option jm_V)} (h : hs ≤ hs') (h1 : jm_lr g hs ls nL L) : jm_lr g hs' ls nL L :=
  ⟨h1.1, h1.2.1, fun i v hv => ⟨(h1.2.2 i v hv).1, (h1.2.2 i v hv).2.mono h⟩⟩
theorem jm_rep.new {g : jm_G} {σ : jm_S} {H H1 : Heap} {n : Nat} (hr : jm_rep g σ H) (hlim : jm_hs σ + 1 ≤ gb g + 601024 ∧ jm_ns σ + n ≤ 7293000) (hz : H1.size = H.size + 1) (oq : ∀ x, x < H.size → H1[x]? = H[x]?) (hq : ∀ e, jm_E g (gdm g (jm_hs σ)) (jm_nw σ n) (jm_hs σ) = some e → va_at (gD g) classes (jm_hs σ, e) H1) : jm_rep g (jm_nw σ n) H1 := by
  have hne : ∀ x, x < jm_hs σ → x ≠ jm_hs σ := fun x hx => Nat.ne_of_lt hx
  refine ⟨by rw [hz, hr.1]; rfl, fun x hx e he => ?_, fun x hx k t' hk h0 => ?_, hlim⟩
  · have hx' : x < jm_hs σ + 1 := hx
    by_cases hxq : x = jm_hs σ
    · subst hxq
      exact hq e he
    · have hx2 : x < jm_hs σ := by omega
      rw [jm_E_congr (σ := σ) (by simp [jm_nw, jm_u, hxq]) (by simp [jm_nw, jm_u, hxq])] at he
      exact (hr.2.1 x hx2 e he).kept (oq x (by rw [hr.1]; exact hx2))
  · have hx' : x < jm_hs σ + 1 := hx
    by_cases hxq : x = jm_hs σ
    · subst hxq
      exact absurd (by simp [jm_mr, jm_nw, jm_u]) h0
    · have hx2 : x < jm_hs σ := by omega
      have e5 : jm_mr (jm_nw σ n) x k = jm_mr σ x k := by simp [jm_mr, jm_nw, jm_u, hxq]
      rw [e5] at h0 ⊢
      have := hr.2.2.1 x hx2 k t' hk h0
      exact ⟨this.1, Nat.lt_succ_of_lt this.2⟩
theorem jm_S.new {A : Nat → Prop} {H0 H H1 : Heap} {locs : List Loc} (hS : va_S A H0 H locs) (hz : H1.size = H.size + 1) (oq : ∀ x, x < H.size → H1[x]? = H[x]?) : va_S A H0 H1 locs :=
  ⟨Nat.le_trans hS.1 (by omega), fun x h1 h2 => (oq x (Nat.lt_of_lt_of_le h1 hS.1)).trans (hS.2.1 x h1 h2), hS.2.2⟩
section
variable {id pc : Nat}
def oNew (t N n : Nat) : jm_Op := fun g L stk σ k => (gdm g (jm_hs σ) = t ∧ jm_hs σ + 1 ≤ gb g + 601024 ∧ jm_ns σ + N ≤ 7293000) ∧ k n L (aR t (jm_hs σ) :: stk) (jm_nw σ N)
theorem s_new {t index N N' : Nat} {C : String} {T : u_T} {ty : Nat → FieldType} (hd : decode (mC id) pc = .ok (.new index, 3)) (hc : jm_ci t C T N ty) (hdf : ∀ j o, (jm_fk t)[j]? = some o → defaultValue (ty j) = (match o with | none => .int 0 | some _ => .null))
    (hl : Cond.classLink (mY id).cls index C ∈ jm_tb) (hi : Cond.instantiable C N' ∈ jm_tb) (hini : Cond.initialized C ∈ jm_tb) : jm_sn id pc (oNew t N' (pc + 3)) := by
  intro g d L stk σ K k h hk
  obtain ⟨⟨ht, hc1, hn1⟩, h9⟩ := h
  intro p l e R s m args below meth c H locs cells slots ls n0 hfl F hr hl0 hs hS h1 h2
  obtain ⟨c1, c2, c3, c4, c5, c6, -⟩ := hc
  have hw := F.2.1
  have hRc := F.2.2.2.2.1; have hRs := F.2.2.2.2.2
  have hKn := hw.2.1.1 (t - 1) _ c2
  have hszh : H.size = jm_hs σ := hr.1
  refine W.newcK F.1.1 F.1.2.1 (jm_own F) (hw.1 _ hl args) (hw.1 _ hi args) (hw.1 _ hini args) rfl hd (by omega) (by omega) hKn.2.1 hszh (fun H1 kC hkC e1 z1 o1 => ?_)
  have hr1 : jm_rep g (jm_nw σ N') H1 := by
    refine hr.new ⟨hc1, hn1⟩ (by omega) (fun x hx => o1 x (by omega)) (fun e he => ?_)
    rw [ht, jm_E_o c1] at he
    cases he
    refine ⟨_, c2, (u_born ty (fun w hw' => hw.1 w hw' args) c3 hKn hkC e1 c4).to (fun j hj => ?_)⟩
    have hj2 : j < (jm_fk t).length := by rw [c6]; exact hj
    have hj3 : (jm_fk t)[j]? = some (jm_fk t)[j] := List.getElem?_eq_getElem hj2
    show defaultValue (ty j) = vp_V _ j
    rw [hdf j _ hj3]
    unfold vp_V
    rw [List.getD_eq_getElem?_getD, List.getElem?_mapIdx, hj3]
    cases (jm_fk t)[j] <;> simp [jm_fv, jm_nw, jm_u, jm_rv]
  have hh : jm_hs σ ≤ jm_hs (jm_nw σ N') := Nat.le_succ _
  exact hk _ _ _ _ h9 p l e R s m args below meth c H1 locs (cells + 1) (slots + N') ls n0 hfl F hr1 (hl0.mono hh) ⟨⟨ht, Nat.lt_succ_self _⟩, hs.mono hh⟩ (jm_S.new hS (by omega) (fun x hx => o1 x (by omega))) (by show _ = jm_hs σ + 1; omega) (by show _ = jm_ns σ + N'; omega)
def oNa (t n : Nat) : jm_Op := fun g L stk σ k => match stk with
  | .inl x :: r => (¬ x < 0 ∧ gdm g (jm_hs σ) = t ∧ gln g (jm_hs σ) = x.toNatClampNeg ∧ jm_hs σ + 1 ≤ gb g + 601024 ∧ jm_ns σ + x.toNatClampNeg ≤ 7293000) ∧ k n L (aR t (jm_hs σ) :: r) (jm_nw σ x.toNatClampNeg)
  | _ => False
theorem jm_newa {t t0 : Nat} {atype : ArrayType} (ht0 : (t = 8 ∧ t0 = 0 ∧ atype = .int) ∨ (t = 9 ∧ t0 = 1 ∧ atype = .boolean)) (hd : decode (mC id) pc = .ok (.newarray atype, 2)) (hl : Cond.arrayClass (newarray.typeOf atype) ∈ jm_tb) : jm_sn id pc (oNa t (pc + 2)) := by
  intro g d L stk σ K k h hk
  match stk, h with
  | .inl x :: r, h =>
    obtain ⟨⟨hx0, ht, hln, hc1, hn1⟩, h9⟩ := h
    intro p l e R s m args below meth c H locs cells slots ls n0 hfl F hr hl0 hs hS h1 h2
    have hw := F.2.1
    have hRc := F.2.2.2.2.1; have hRs := F.2.2.2.2.2
    have hszh : H.size = jm_hs σ := hr.1
    refine va_newaK (N := x.toNatClampNeg) F.1.1 F.1.2.1 (hw.1 _ hl args) rfl hd rfl hx0 rfl ?_ (by omega) (by omega) hszh (fun H1 cA e1 z1 o1 hAr hNm => ?_)
    · rcases ht0 with ⟨-, -, rfl⟩ | ⟨-, -, rfl⟩
      · show _ * 4 ≤ _; omega
      · show _ * 1 ≤ _; omega
    have hcA : cA = gC g t := by
      rcases ht0 with ⟨rfl, -, rfl⟩ | ⟨rfl, -, rfl⟩
      · exact Option.some.inj (hNm.symm.trans (hw.2.1.2 0 _ rfl).2)
      · exact Option.some.inj (hNm.symm.trans (hw.2.1.2 1 _ rfl).2)
    have hr1 : jm_rep g (jm_nw σ x.toNatClampNeg) H1 := by
      refine hr.new ⟨hc1, hn1⟩ (by omega) (fun y hy => o1 y (by omega)) (fun e he => ?_)
      rw [ht, jm_E_i (by omega)] at he
      cases he
      show H1[jm_hs σ]? = some (vp_cell _ _)
      rw [e1, vp_cell_i, hcA, hln]
      congr 2
      funext j
      rcases ht0 with ⟨-, -, rfl⟩ | ⟨-, -, rfl⟩ <;> simp [jm_nw, jm_u, defaultValue, newarray.typeOf]
    have hh : jm_hs σ ≤ jm_hs (jm_nw σ x.toNatClampNeg) := Nat.le_succ _
    exact hk _ _ _ _ h9 p l e R s m args below meth c H1 locs (cells + 1) (slots + x.toNatClampNeg) ls n0 hfl F hr1 (hl0.mono hh) ⟨⟨ht, Nat.lt_succ_self _⟩, hs.2.mono hh⟩ (jm_S.new hS (by omega) (fun y hy => o1 y (by omega))) (by show _ = jm_hs σ + 1; omega) (by show _ = jm_ns σ + _; omega)
theorem s_newarrayI (hd : decode (mC id) pc = .ok (.newarray .int, 2)) (hl : Cond.arrayClass .int ∈ jm_tb) : jm_sn id pc (oNa 8 (pc + 2)) := jm_newa (t0 := 0) (Or.inl ⟨rfl, rfl, rfl⟩) hd hl
theorem s_newarrayZ (hd : decode (mC id) pc = .ok (.newarray .boolean, 2)) (hl : Cond.arrayClass .boolean ∈ jm_tb) : jm_sn id pc (oNa 9 (pc + 2)) := jm_newa (t0 := 1) (Or.inr ⟨rfl, rfl, rfl⟩) hd hl
theorem s_anewarray {t t0 index : Nat} {C : String} (ht1 : 10 ≤ t ∧ t ≤ 12) (hty : ∀ g, (jm_ty g)[t0]? = some (gC g t, .object C)) (hd : decode (mC id) pc = .ok (.anewarray index, 3)) (hl : Cond.classLink (mY id).cls index C ∈ jm_tb) (ho : Cond.arrayOver (.object C) ∈ jm_tb) : jm_sn id pc (oNa t (pc + 3)) := by
  intro g d L stk σ K k h hk
  match stk, h with
  | .inl x :: r, h =>
    obtain ⟨⟨hx0, ht, hln, hc1, hn1⟩, h9⟩ := h
    intro p l e R s m args below meth c H locs cells slots ls n0 hfl F hr hl0 hs hS h1 h2
    have hw := F.2.1
    have hRc := F.2.2.2.2.1; have hRs := F.2.2.2.2.2
    have hszh : H.size = jm_hs σ := hr.1
    refine W.anew F.1.1 F.1.2.1 (jm_own F) (hw.1 _ hl args) (hw.1 _ ho args) rfl hd rfl hx0 (by omega) (by omega) (by omega) (fun cA kA comp f1 f2 f3 f4 => ?_)
    generalize hH1 : H.push ({ cls := cA, slots := Array.replicate x.toNatClampNeg .null, vm := .none } : Cell) = H1
    have z1 : H1.size = H.size + 1 := by rw [← hH1, Array.size_push]
    have e1 : H1[H.size]? = some (arrV cA x.toNatClampNeg (fun _ => .null)) := by rw [← hH1, Array.getElem?_push_size, ← arrV_new]
    have o1 : ∀ q : Nat, q < H.size → H1[q]? = H[q]? := fun q hq => by rw [← hH1, Array.getElem?_push, if_neg (Nat.ne_of_lt hq)]
    have hcA : cA = gC g t := by
      obtain ⟨kA2, comp2, -, -, -, h8⟩ := (hw.2.1.2 t0 _ (hty g)).2
      exact Option.some.inj (f1.symm.trans h8)
    have hr1 : jm_rep g (jm_nw σ x.toNatClampNeg) H1 := by
      refine hr.new ⟨hc1, hn1⟩ (by omega) (fun y hy => o1 y (by omega)) (fun e he => ?_)
      rw [ht, jm_E_r ht1] at he
      cases he
      show H1[jm_hs σ]? = some (vp_cell _ _)
      rw [← hszh, e1, vp_cell_q, hcA, hszh, hln]
      congr 2
      funext j
      simp [jm_nw, jm_u, jm_on, va_rf]
    have hh : jm_hs σ ≤ jm_hs (jm_nw σ x.toNatClampNeg) := Nat.le_succ _
    rw [hszh]
    exact hk _ _ _ _ h9 p l e R s m args below meth c H1 locs (cells + 1) (slots + x.toNatClampNeg) ls n0 hfl F hr1 (hl0.mono hh) ⟨⟨ht, Nat.lt_succ_self _⟩, hs.2.mono hh⟩ (jm_S.new hS (by omega) (fun y hy => o1 y (by omega))) (by show _ = jm_hs σ + 1; omega) (by show _ = jm_ns σ + _; omega)
end
