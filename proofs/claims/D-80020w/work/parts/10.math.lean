/-! the JDK's members as operations: Math, arraycopy, Object() -/
def jm_cs : List jm_V → Nat
  | [] => 0
  | v :: r => cond (jm_c1 v) 1 2 + jm_cs r
theorem jm_cs_eq : ∀ r : List jm_V, ((r.map jm_vo).map fun v => v.category).sum = jm_cs r
  | [] => rfl
  | v :: r => by
    show (jm_vo v).category + ((r.map jm_vo).map fun v => v.category).sum = cond (jm_c1 v) 1 2 + jm_cs r
    rw [jm_cs_eq r]
    match v with
    | .inl _ => rfl
    | .inr (.inl _) => rfl
    | .inr (.inr _) => rfl
section
variable {id pc : Nat}
def oMax (n : Nat) : jm_Op := fun _ L stk σ k => match stk with
  | .inl y :: .inl x :: r => cond (Nat.ble (jm_cs r) 20) (k n L (aI (if x < y then y else x) :: r) σ) False
  | _ => False
theorem s_max {index : Nat} (hd : decode (mC id) pc = .ok (.invokestatic index, 3)) (hl : Cond.methodLink (mY id).cls index Lib.Math.max.name ∈ jm_tb) (h3 : Cond.static Lib.Math.max.name ∈ jm_tb) (h4 : Cond.initialized "java/lang/Math" ∈ jm_tb) (h5 : Cond.code Lib.Math.max.name Lib.Math.max.code 2 (some .int) ∈ jm_tb) : jm_sn id pc (oMax (pc + 3)) := by
  intro g d L stk σ K k h hk
  match stk, h with
  | .inl y :: .inl x :: r, h =>
    intro p l e R s m args below meth c H locs cells slots ls n0 hfl F hr hl0 hs hS h1 h2
    have h := jm_cnd h
    have hb := Nat.le_of_ble_eq_true h.1
    have f1 := F.2.2.1
    have f2 := F.2.2.2.1
    have f3 := F.2.2.2.2.1
    have f4 := F.2.2.2.2.2
    have hcs := jm_cs_eq r
    have hz := hr.1
    exact va_mmax F.1.1 F.1.2.1 (by rw [F.1.2.2.1, hl0.1]) (jm_own F) (F.2.1.1 _ hl args) (F.2.1.1 _ h3 args) (F.2.1.1 _ h4 args) (F.2.1.1 _ h5 args) (by omega) (by rw [hcs]; omega) (by have := hr.2.2.2; omega) (by have := hr.2.2.2; omega) hd (hk _ _ _ _ h.2 p l e R s m args below meth c H locs cells slots ls n0 hfl F hr hl0 ⟨trivial, hs.2.2⟩ hS h1 h2)
def oMin (n : Nat) : jm_Op := fun _ L stk σ k => match stk with
  | .inl y :: .inl x :: r => cond (Nat.ble (jm_cs r) 20) (k n L (aI (if y < x then y else x) :: r) σ) False
  | _ => False
theorem s_min {index : Nat} (hd : decode (mC id) pc = .ok (.invokestatic index, 3)) (hl : Cond.methodLink (mY id).cls index Lib.Math.min.name ∈ jm_tb) (h3 : Cond.static Lib.Math.min.name ∈ jm_tb) (h4 : Cond.initialized "java/lang/Math" ∈ jm_tb) (h5 : Cond.code Lib.Math.min.name Lib.Math.min.code 2 (some .int) ∈ jm_tb) : jm_sn id pc (oMin (pc + 3)) := by
  intro g d L stk σ K k h hk
  match stk, h with
  | .inl y :: .inl x :: r, h =>
    intro p l e R s m args below meth c H locs cells slots ls n0 hfl F hr hl0 hs hS h1 h2
    have h := jm_cnd h
    have hb := Nat.le_of_ble_eq_true h.1
    have f1 := F.2.2.1
    have f2 := F.2.2.2.1
    have f3 := F.2.2.2.2.1
    have f4 := F.2.2.2.2.2
    have hcs := jm_cs_eq r
    have hz := hr.1
    exact va_mmin F.1.1 F.1.2.1 (by rw [F.1.2.2.1, hl0.1]) (jm_own F) (F.2.1.1 _ hl args) (F.2.1.1 _ h3 args) (F.2.1.1 _ h4 args) (F.2.1.1 _ h5 args) (by omega) (by rw [hcs]; omega) (by have := hr.2.2.2; omega) (by have := hr.2.2.2; omega) hd (hk _ _ _ _ h.2 p l e R s m args below meth c H locs cells slots ls n0 hfl F hr hl0 ⟨trivial, hs.2.2⟩ hS h1 h2)
def oAbs (n : Nat) : jm_Op := fun _ L stk σ k => match stk with
  | .inl x :: r => cond (Nat.ble (jm_cs r) 20) (k n L (aI (if 0 ≤ x then x else 0 - x) :: r) σ) False
  | _ => False
theorem s_abs {index : Nat} (hd : decode (mC id) pc = .ok (.invokestatic index, 3)) (hl : Cond.methodLink (mY id).cls index Lib.Math.abs.name ∈ jm_tb) (h3 : Cond.static Lib.Math.abs.name ∈ jm_tb) (h4 : Cond.initialized "java/lang/Math" ∈ jm_tb) (h5 : Cond.code Lib.Math.abs.name Lib.Math.abs.code 1 (some .int) ∈ jm_tb) : jm_sn id pc (oAbs (pc + 3)) := by
  intro g d L stk σ K k h hk
  match stk, h with
  | .inl x :: r, h =>
    intro p l e R s m args below meth c H locs cells slots ls n0 hfl F hr hl0 hs hS h1 h2
    have h := jm_cnd h
    have hb := Nat.le_of_ble_eq_true h.1
    have f1 := F.2.2.1
    have f2 := F.2.2.2.1
    have f3 := F.2.2.2.2.1
    have f4 := F.2.2.2.2.2
    have hcs := jm_cs_eq r
    have hz := hr.1
    exact va_mabs F.1.1 F.1.2.1 (by rw [F.1.2.2.1, hl0.1]) (jm_own F) (F.2.1.1 _ hl args) (F.2.1.1 _ h3 args) (F.2.1.1 _ h4 args) (F.2.1.1 _ h5 args) (by omega) (by rw [hcs]; omega) (by have := hr.2.2.2; omega) (by have := hr.2.2.2; omega) hd (hk _ _ _ _ h.2 p l e R s m args below meth c H locs cells slots ls n0 hfl F hr hl0 ⟨trivial, hs.2⟩ hS h1 h2)
def oAbsL (n : Nat) : jm_Op := fun _ L stk σ k => match stk with
  | .inr (.inl x) :: r => cond (Nat.ble (jm_cs r) 20) (k n L (aL (if 0 < x then x else -x) :: r) σ) False
  | _ => False
theorem s_absL {index : Nat} (hd : decode (mC id) pc = .ok (.invokestatic index, 3)) (hl : Cond.methodLink (mY id).cls index Lib.MathLoose.abs_long.x ∈ jm_tb) (h3 : Cond.static Lib.MathLoose.abs_long.x ∈ jm_tb) (h4 : Cond.initialized "java/lang/Math" ∈ jm_tb) (h5 : Cond.code Lib.MathLoose.abs_long.x Lib.MathLoose.abs_long.code 2 (some .long) ∈ jm_tb) : jm_sn id pc (oAbsL (pc + 3)) := by
  intro g d L stk σ K k h hk
  match stk, h with
  | .inr (.inl x) :: r, h =>
    intro p l e R s m args below meth c H locs cells slots ls n0 hfl F hr hl0 hs hS h1 h2
    have h := jm_cnd h
    have hb := Nat.le_of_ble_eq_true h.1
    have f1 := F.2.2.1
    have f2 := F.2.2.2.1
    have f3 := F.2.2.2.2.1
    have f4 := F.2.2.2.2.2
    have hcs := jm_cs_eq r
    have hz := hr.1
    exact va_mabs_long F.1.1 F.1.2.1 (by rw [F.1.2.2.1, hl0.1]) (jm_own F) (F.2.1.1 _ hl args) (F.2.1.1 _ h3 args) (F.2.1.1 _ h4 args) (F.2.1.1 _ h5 args) (by omega) (by rw [hcs]; omega) (by have := hr.2.2.2; omega) (by have := hr.2.2.2; omega) hd (hk _ _ _ _ h.2 p l e R s m args below meth c H locs cells slots ls n0 hfl F hr hl0 ⟨trivial, hs.2⟩ hS h1 h2)

/-- Object(): nothing -/
def oObj (n : Nat) : jm_Op := fun _ L stk σ k => match stk with
  | .inr (.inr _) :: r => cond (Nat.ble (jm_cs r) 20) (k n L r σ) False
  | _ => False
theorem s_objInit {index : Nat} (hd : decode (mC id) pc = .ok (.invokespecial index, 3)) (hl : Cond.methodLink (mY id).cls index Lib.objectInit ∈ jm_tb) (h3 : Cond.instanceMethod Lib.objectInit ∈ jm_tb) (h5 : Cond.code Lib.objectInit ⟨#[0xb1]⟩ 1 none ∈ jm_tb) : jm_sn id pc (oObj (pc + 3)) := by
  intro g d L stk σ K k h hk
  match stk, h with
  | .inr (.inr x) :: r, h =>
    intro p l e R s m args below meth c H locs cells slots ls n0 hfl F hr hl0 hs hS h1 h2
    have h := jm_cnd h
    have hb := Nat.le_of_ble_eq_true h.1
    have f1 := F.2.2.1
    have f2 := F.2.2.2.1
    have hcs := jm_cs_eq r
    refine W.objInit F.1.1 F.1.2.1 (jm_own F) (F.2.1.1 _ hl args) (F.2.1.1 _ h3 args) (F.2.1.1 _ h5 args) rfl (by rw [F.1.2.2.1]; exact hl0.1) rfl hd (by omega) (by show 2 * 0 + _ + 12 ≤ _; rw [hcs]; omega) (hk _ _ _ _ h.2 p l e R s m args below meth c H locs cells slots ls n0 hfl F hr hl0 hs.2 hS h1 h2)
/-- System.arraycopy of ints -/
def oCpy (n : Nat) : jm_Op := fun g L stk σ k => match stk with
  | .inl w :: .inl dp :: .inr (.inr (t1, a)) :: .inl sp :: .inr (.inr (t0, a0)) :: r => cond (Nat.beq t0 8 && Nat.beq t1 8 && Nat.ble (jm_cs r) 20) ((¬ sp < 0 ∧ ¬ dp < 0 ∧ ¬ w < 0 ∧ sp.toNatClampNeg + w.toNatClampNeg ≤ gln g a0 ∧ dp.toNatClampNeg + w.toNatClampNeg ≤ gln g a) ∧ k n L r (jm_wa σ a (va_cpy (σ.1 a0) (σ.1 a) sp.toNatClampNeg dp.toNatClampNeg w.toNatClampNeg))) False
  | _ => False
theorem s_copy {index : Nat} (hd : decode (mC id) pc = .ok (.invokestatic index, 3)) (hl : Cond.methodLink (mY id).cls index arraycopyName ∈ jm_tb) (h3 : Cond.native arraycopyName ∈ jm_tb) (h4 : Cond.static arraycopyName ∈ jm_tb) (h5 : Cond.initialized "java/lang/System" ∈ jm_tb) : jm_sn id pc (oCpy (pc + 3)) := by
  intro g d L stk σ K k h hk
  match stk, h with
  | .inl w :: .inl dp :: .inr (.inr (t1, a)) :: .inl sp :: .inr (.inr (t0, a0)) :: r, h =>
    obtain ⟨hb, ⟨q1, q2, q3, q4, q5⟩, h9⟩ := jm_cnd h
    simp only [Bool.and_eq_true] at hb
    have e0 := Nat.eq_of_beq_eq_true hb.1.1
    have e1 := Nat.eq_of_beq_eq_true hb.1.2
    have hbr := Nat.le_of_ble_eq_true hb.2
    subst e0
    subst e1
    intro p l e R s m args below meth c H locs cells slots ls n0 hfl F hr hl0 hs hS h1 h2
    have ha : gdm g a = 8 ∧ a < jm_hs σ := hs.2.2.1
    have ha0 : gdm g a0 = 8 ∧ a0 < jm_hs σ := hs.2.2.2.2.1
    have hcs := jm_cs_eq r
    have f1 := F.2.2.1
    have f2 := F.2.2.2.1
    have nn : ∀ z : Int32, ¬ z < 0 → z.toInt = (z.toNatClampNeg : Int) := by
      intro z hz
      have hz0 : (0 : Int) ≤ z.toInt := by simpa using Int32.le_iff_toInt_le.mp (Int32.not_lt.mp hz)
      show z.toInt = ((z.toInt.toNat : Nat) : Int)
      omega
    have hc0 : H[a0]? = some (vp_cell (gC g 8) (gln g a0, .inl (σ.1 a0))) := jm_P1 hr ha0 (jm_E_i (Or.inl rfl))
    have hc1 : H[a]? = some (vp_cell (gC g 8) (gln g a, .inl (σ.1 a))) := jm_P1 hr ha (jm_E_i (Or.inl rfl))
    obtain ⟨-, k0, hk0, cm0, hkk0⟩ := (F.2.1.2.1.2 0 _ rfl).1 (gln g a0) (fun j => .int (σ.1 a0 j))
    obtain ⟨-, k1, hk1, cm1, hkk1⟩ := (F.2.1.2.1.2 0 _ rfl).1 (gln g a) (fun j => .int (σ.1 a j))
    intro T hT X
    obtain ⟨vm', X', step⟩ := X.arraycopy F.1.1 (jm_own F) (F.2.1.1 _ hl args) (F.2.1.1 _ h3 args) (F.2.1.1 _ h4 args) (F.2.1.1 _ h5 args) (src := a0) (dst := a) (cs := vp_cell (gC g 8) (gln g a0, .inl (σ.1 a0))) (cd := vp_cell (gC g 8) (gln g a, .inl (σ.1 a))) (srcPos := sp) (destPos := dp) (n := w) (by rw [hT]; exact hc0) (by rw [hT]; exact hc1)
      (fun _ h => by cases h) (fun _ h => by cases h) (fun h => by cases h) (fun h => by cases h) hk0 hk1 hkk0 hkk1 (by simp [refKind]) q1 q2 q3
      (by rw [nn sp q1, nn w q3]; show ¬ _ > ((arrV (gC g 8) (gln g a0) (fun j => .int (σ.1 a0 j))).slots.size : Int); rw [arrV_size]; omega)
      (by rw [nn dp q2, nn w q3]; show ¬ _ > ((arrV (gC g 8) (gln g a) (fun j => .int (σ.1 a j))).slots.size : Int); rw [arrV_size]; omega)
      (fun vm₁ _ i hi => by
        have e : (vp_cell (gC g 8) (gln g a0, .inl (σ.1 a0))).slots.getD (sp.toNatClampNeg + i) .null = .int (σ.1 a0 (sp.toNatClampNeg + i)) := by
          show (arrV (gC g 8) (gln g a0) (fun j => .int (σ.1 a0 j))).slots.getD _ _ = _
          rw [Array.getD_eq_getD_getElem?, arrV_read _ _ (by omega)]
          rfl
        refine ⟨?_, ?_⟩
        · rw [e]
          rfl
        · rw [e]
          exact trivial)
      (g := F0 m pc ls (.int w :: .int dp :: .ref a :: .int sp :: .ref a0 :: r.map jm_vo)) rfl (by rw [F.1.2.2.1]; exact hl0.1) (rest := r.map jm_vo) rfl (by rw [F.1.2.1]; exact hd) (by omega) (by show 2 * 0 + _ + (7 + 11) ≤ _; rw [hcs]; omega)
    have e1 : copied (vp_cell (gC g 8) (gln g a0, .inl (σ.1 a0))) (vp_cell (gC g 8) (gln g a, .inl (σ.1 a))) sp dp w = vp_cell (gC g 8) (gln g a, .inl (va_cpy (σ.1 a0) (σ.1 a) sp.toNatClampNeg dp.toNatClampNeg w.toNatClampNeg)) := va_copied (fun z => .int z) (gC g 8) (gC g 8) (σ.1 a0) (σ.1 a) q4
    rw [e1] at X' step
    have hlt : a < H.size := (Array.getElem?_eq_some_iff.mp hc1).1
    generalize hV : va_cpy (σ.1 a0) (σ.1 a) sp.toNatClampNeg dp.toNatClampNeg w.toNatClampNeg = V at X' step h9
    have hheap : ((T.setVm vm').setCell a (vp_cell (gC g 8) (gln g a, .inl V))).heap = H.setIfInBounds a (vp_cell (gC g 8) (gln g a, .inl V)) := by rw [← hT]; rfl
    have oq : ∀ q : Nat, q ≠ a → (H.setIfInBounds a (vp_cell (gC g 8) (gln g a, .inl V)))[q]? = H[q]? := fun q hq => by simp [Array.getElem?_setIfInBounds, Ne.symm hq]
    have hb1 : gb g ≤ a := (jm_nz (q := a) F.2.1 (by rw [ha.1]; decide) (by rw [ha.1]; decide)).1
    have he : jm_E g (gdm g a) (jm_wa σ a V) a = some (.inl (gC g 8, gln g a, .inl V)) := by
      rw [ha.1, jm_E_i (Or.inl rfl)]
      simp [jm_wa, jm_u_self]
    have hr1 : jm_rep g (jm_wa σ a V) (H.setIfInBounds a (vp_cell (gC g 8) (gln g a, .inl V))) :=
      hr.set1 (by simp) oq rfl jm_wa_off he (show (H.setIfInBounds a _)[a]? = some _ by simp [Array.getElem?_setIfInBounds, hlt]) (fun k t' hk hne => hr.2.2.1 a ha.2 k t' hk hne)
    obtain ⟨t, a1, b1⟩ := hk _ _ _ _ h9 p l e R s m args below meth c _ _ cells slots ls n0 hfl F hr1 hl0 hs.2.2.2.2.2 (⟨by simp; exact hS.1, fun q g1 g2 => by
        rw [oq q (fun e => g2 (by rw [e]; exact hb1))]
        exact hS.2.1 q g1 g2, fun q hq => by
        rcases List.mem_append.mp hq with h | h
        · exact hS.2.2 q h
        · obtain ⟨z, -, hz⟩ := List.mem_map.mp h
          rw [← hz]
          exact hb1⟩) h1 h2 _ hheap X'
    exact ⟨t, step t a1, b1⟩
end
