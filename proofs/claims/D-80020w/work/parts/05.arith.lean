/-! arithmetic, the stack, branches -/
section
variable {id pc : Nat}
def oAdd (n : Nat) : jm_Op := fun _ L stk σ k => match stk with
  | .inl y :: .inl x :: r => k n L (aI (x + y) :: r) σ
  | _ => False
theorem s_iadd (hd : decode (mC id) pc = .ok (.iadd, 1)) : jm_sn id pc (oAdd (pc + 1)) := by
  intro g d L stk σ K k h hk
  match stk, h with
  | .inl y :: .inl x :: r, h => exact jm_stk (hk _ _ _ _ h) (fun _ h => ⟨trivial, h.2.2⟩) (fun hx hb w => lv_iadd hx hb hd w)
def oSub (n : Nat) : jm_Op := fun _ L stk σ k => match stk with
  | .inl y :: .inl x :: r => k n L (aI (x - y) :: r) σ
  | _ => False
theorem s_isub (hd : decode (mC id) pc = .ok (.isub, 1)) : jm_sn id pc (oSub (pc + 1)) := by
  intro g d L stk σ K k h hk
  match stk, h with
  | .inl y :: .inl x :: r, h => exact jm_stk (hk _ _ _ _ h) (fun _ h => ⟨trivial, h.2.2⟩) (fun hx hb w => lv_isub hx hb hd w)
def oMul (n : Nat) : jm_Op := fun _ L stk σ k => match stk with
  | .inl y :: .inl x :: r => k n L (aI (x * y) :: r) σ
  | _ => False
theorem s_imul (hd : decode (mC id) pc = .ok (.imul, 1)) : jm_sn id pc (oMul (pc + 1)) := by
  intro g d L stk σ K k h hk
  match stk, h with
  | .inl y :: .inl x :: r, h => exact jm_stk (hk _ _ _ _ h) (fun _ h => ⟨trivial, h.2.2⟩) (fun hx hb w => lv_imul hx hb hd w)
def oAnd (n : Nat) : jm_Op := fun _ L stk σ k => match stk with
  | .inl y :: .inl x :: r => k n L (aI (x &&& y) :: r) σ
  | _ => False
theorem s_iand (hd : decode (mC id) pc = .ok (.iand, 1)) : jm_sn id pc (oAnd (pc + 1)) := by
  intro g d L stk σ K k h hk
  match stk, h with
  | .inl y :: .inl x :: r, h => exact jm_stk (hk _ _ _ _ h) (fun _ h => ⟨trivial, h.2.2⟩) (fun hx hb w => lv_iand hx hb hd w)
def oOr (n : Nat) : jm_Op := fun _ L stk σ k => match stk with
  | .inl y :: .inl x :: r => k n L (aI (x ||| y) :: r) σ
  | _ => False
theorem s_ior (hd : decode (mC id) pc = .ok (.ior, 1)) : jm_sn id pc (oOr (pc + 1)) := by
  intro g d L stk σ K k h hk
  match stk, h with
  | .inl y :: .inl x :: r, h => exact jm_stk (hk _ _ _ _ h) (fun _ h => ⟨trivial, h.2.2⟩) (fun hx hb w => lv_ior hx hb hd w)
def oXor (n : Nat) : jm_Op := fun _ L stk σ k => match stk with
  | .inl y :: .inl x :: r => k n L (aI (x ^^^ y) :: r) σ
  | _ => False
theorem s_ixor (hd : decode (mC id) pc = .ok (.ixor, 1)) : jm_sn id pc (oXor (pc + 1)) := by
  intro g d L stk σ K k h hk
  match stk, h with
  | .inl y :: .inl x :: r, h => exact jm_stk (hk _ _ _ _ h) (fun _ h => ⟨trivial, h.2.2⟩) (fun hx hb w => lv_ixor hx hb hd w)
def oShl (n : Nat) : jm_Op := fun _ L stk σ k => match stk with
  | .inl y :: .inl x :: r => k n L (aI (x <<< (y &&& 31)) :: r) σ
  | _ => False
theorem s_ishl (hd : decode (mC id) pc = .ok (.ishl, 1)) : jm_sn id pc (oShl (pc + 1)) := by
  intro g d L stk σ K k h hk
  match stk, h with
  | .inl y :: .inl x :: r, h => exact jm_stk (hk _ _ _ _ h) (fun _ h => ⟨trivial, h.2.2⟩) (fun hx hb w => lv_ishl hx hb hd w)
def oShr (n : Nat) : jm_Op := fun _ L stk σ k => match stk with
  | .inl y :: .inl x :: r => k n L (aI (x >>> (y &&& 31)) :: r) σ
  | _ => False
theorem s_ishr (hd : decode (mC id) pc = .ok (.ishr, 1)) : jm_sn id pc (oShr (pc + 1)) := by
  intro g d L stk σ K k h hk
  match stk, h with
  | .inl y :: .inl x :: r, h => exact jm_stk (hk _ _ _ _ h) (fun _ h => ⟨trivial, h.2.2⟩) (fun hx hb w => lv_ishr hx hb hd w)
def oDiv (n : Nat) : jm_Op := fun _ L stk σ k => match stk with
  | .inl y :: .inl x :: r => ¬ y = 0 ∧ k n L (aI (x / y) :: r) σ
  | _ => False
theorem s_idiv (hd : decode (mC id) pc = .ok (.idiv, 1)) : jm_sn id pc (oDiv (pc + 1)) := by
  intro g d L stk σ K k h hk
  match stk, h with
  | .inl y :: .inl x :: r, h => exact jm_stk (hk _ _ _ _ h.2) (fun _ h => ⟨trivial, h.2.2⟩) (fun hx hb w => lv_idiv hx hb hd h.1 w)
def oRem (n : Nat) : jm_Op := fun _ L stk σ k => match stk with
  | .inl y :: .inl x :: r => ¬ y = 0 ∧ k n L (aI (x - x / y * y) :: r) σ
  | _ => False
theorem s_irem (hd : decode (mC id) pc = .ok (.irem, 1)) : jm_sn id pc (oRem (pc + 1)) := by
  intro g d L stk σ K k h hk
  match stk, h with
  | .inl y :: .inl x :: r, h => exact jm_stk (hk _ _ _ _ h.2) (fun _ h => ⟨trivial, h.2.2⟩) (fun hx hb w => lv_irem hx hb hd h.1 w)
def oLAdd (n : Nat) : jm_Op := fun _ L stk σ k => match stk with
  | .inr (.inl y) :: .inr (.inl x) :: r => k n L (aL (x + y) :: r) σ
  | _ => False
theorem s_ladd (hd : decode (mC id) pc = .ok (.ladd, 1)) : jm_sn id pc (oLAdd (pc + 1)) := by
  intro g d L stk σ K k h hk
  match stk, h with
  | .inr (.inl y) :: .inr (.inl x) :: r, h => exact jm_stk (hk _ _ _ _ h) (fun _ h => ⟨trivial, h.2.2⟩) (fun hx hb w => lv_ladd hx hb hd w)
def oLMul (n : Nat) : jm_Op := fun _ L stk σ k => match stk with
  | .inr (.inl y) :: .inr (.inl x) :: r => k n L (aL (x * y) :: r) σ
  | _ => False
theorem s_lmul (hd : decode (mC id) pc = .ok (.lmul, 1)) : jm_sn id pc (oLMul (pc + 1)) := by
  intro g d L stk σ K k h hk
  match stk, h with
  | .inr (.inl y) :: .inr (.inl x) :: r, h => exact jm_stk (hk _ _ _ _ h) (fun _ h => ⟨trivial, h.2.2⟩) (fun hx hb w => lv_lmul hx hb hd w)
def oLDiv (n : Nat) : jm_Op := fun _ L stk σ k => match stk with
  | .inr (.inl y) :: .inr (.inl x) :: r => ¬ y = 0 ∧ k n L (aL (x / y) :: r) σ
  | _ => False
theorem s_ldiv (hd : decode (mC id) pc = .ok (.ldiv, 1)) : jm_sn id pc (oLDiv (pc + 1)) := by
  intro g d L stk σ K k h hk
  match stk, h with
  | .inr (.inl y) :: .inr (.inl x) :: r, h => exact jm_stk (hk _ _ _ _ h.2) (fun _ h => ⟨trivial, h.2.2⟩) (fun hx hb w => lv_ldiv hx hb hd h.1 w)
def oLRem (n : Nat) : jm_Op := fun _ L stk σ k => match stk with
  | .inr (.inl y) :: .inr (.inl x) :: r => ¬ y = 0 ∧ k n L (aL (x - x / y * y) :: r) σ
  | _ => False
theorem s_lrem (hd : decode (mC id) pc = .ok (.lrem, 1)) : jm_sn id pc (oLRem (pc + 1)) := by
  intro g d L stk σ K k h hk
  match stk, h with
  | .inr (.inl y) :: .inr (.inl x) :: r, h => exact jm_stk (hk _ _ _ _ h.2) (fun _ h => ⟨trivial, h.2.2⟩) (fun hx hb w => lv_lrem hx hb hd h.1 w)
def oNeg (n : Nat) : jm_Op := fun _ L stk σ k => match stk with
  | .inl x :: r => k n L (aI (-x) :: r) σ
  | _ => False
theorem s_ineg (hd : decode (mC id) pc = .ok (.ineg, 1)) : jm_sn id pc (oNeg (pc + 1)) := by
  intro g d L stk σ K k h hk
  match stk, h with
  | .inl x :: r, h => exact jm_stk (hk _ _ _ _ h) (fun _ h => ⟨trivial, h.2⟩) (fun hx hb w => lv_ineg hx hb hd w)
def oLNeg (n : Nat) : jm_Op := fun _ L stk σ k => match stk with
  | .inr (.inl x) :: r => k n L (aL (-x) :: r) σ
  | _ => False
theorem s_lneg (hd : decode (mC id) pc = .ok (.lneg, 1)) : jm_sn id pc (oLNeg (pc + 1)) := by
  intro g d L stk σ K k h hk
  match stk, h with
  | .inr (.inl x) :: r, h => exact jm_stk (hk _ _ _ _ h) (fun _ h => ⟨trivial, h.2⟩) (fun hx hb w => lv_lneg hx hb hd w)
def oI2L (n : Nat) : jm_Op := fun _ L stk σ k => match stk with
  | .inl x :: r => k n L (aL x.toInt64 :: r) σ
  | _ => False
theorem s_i2l (hd : decode (mC id) pc = .ok (.i2l, 1)) : jm_sn id pc (oI2L (pc + 1)) := by
  intro g d L stk σ K k h hk
  match stk, h with
  | .inl x :: r, h => exact jm_stk (hk _ _ _ _ h) (fun _ h => ⟨trivial, h.2⟩) (fun hx hb w => lv_i2l hx hb hd rfl w)
def oL2I (n : Nat) : jm_Op := fun _ L stk σ k => match stk with
  | .inr (.inl x) :: r => k n L (aI x.toInt32 :: r) σ
  | _ => False
theorem s_l2i (hd : decode (mC id) pc = .ok (.l2i, 1)) : jm_sn id pc (oL2I (pc + 1)) := by
  intro g d L stk σ K k h hk
  match stk, h with
  | .inr (.inl x) :: r, h => exact jm_stk (hk _ _ _ _ h) (fun _ h => ⟨trivial, h.2⟩) (fun hx hb w => lv_l2i hx hb hd rfl w)
def oUshr (n : Nat) : jm_Op := fun _ L stk σ k => match stk with
  | .inl y :: .inl x :: r => k n L (aI (x.toUInt32 >>> (y.toUInt32 &&& Int32.toUInt32 31)).toInt32 :: r) σ
  | _ => False
theorem s_iushr (hd : decode (mC id) pc = .ok (.iushr, 1)) : jm_sn id pc (oUshr (pc + 1)) := by
  intro g d L stk σ K k h hk
  match stk, h with
  | .inl y :: .inl x :: r, h => exact jm_stk (hk _ _ _ _ h) (fun _ h => ⟨trivial, h.2.2⟩) (fun hx hb w => lv_iushr hx hb hd rfl w)
def oLcmp (n : Nat) : jm_Op := fun _ L stk σ k => match stk with
  | .inr (.inl y) :: .inr (.inl x) :: r => k n L (aI (lg_cmp x y) :: r) σ
  | _ => False
theorem s_lcmp (hd : decode (mC id) pc = .ok (.lcmp, 1)) : jm_sn id pc (oLcmp (pc + 1)) := by
  intro g d L stk σ K k h hk
  match stk, h with
  | .inr (.inl y) :: .inr (.inl x) :: r, h => exact jm_stk (hk _ _ _ _ h) (fun _ h => ⟨trivial, h.2.2⟩) (fun hx hb w => W.lcmp hx hb hd w)
-- the stack: of one-word values
def jm_c1 : jm_V → Bool
  | .inr (.inl _) => false
  | _ => true
theorem jm_c1_cat {v : jm_V} (h : jm_c1 v = true) : (jm_vo v).category = 1 := by
  match v, h with
  | .inl x, _ => rfl
  | .inr (.inr x), _ => rfl
def oDup (n : Nat) : jm_Op := fun _ L stk σ k => match stk with
  | v :: r => cond (jm_c1 v) (k n L (v :: v :: r) σ) False
  | _ => False
theorem s_dup (hd : decode (mC id) pc = .ok (.dup, 1)) : jm_sn id pc (oDup (pc + 1)) := by
  intro g d L stk σ K k h hk
  match stk, h with
  | v :: r, h =>
    have h := jm_cnd h
    exact jm_stk (hk _ _ _ _ h.2) (fun _ h => ⟨h.1, h⟩) (fun hx hb w => lv_dup hx hb hd (jm_c1_cat h.1) w)
def oPop (n : Nat) : jm_Op := fun _ L stk σ k => match stk with
  | v :: r => cond (jm_c1 v) (k n L r σ) False
  | _ => False
theorem s_pop (hd : decode (mC id) pc = .ok (.pop, 1)) : jm_sn id pc (oPop (pc + 1)) := by
  intro g d L stk σ K k h hk
  match stk, h with
  | v :: r, h =>
    have h := jm_cnd h
    exact jm_stk (hk _ _ _ _ h.2) (fun _ h => h.2) (fun hx hb w => lv_pop hx hb hd (jm_c1_cat h.1) w)
def oDupX1 (n : Nat) : jm_Op := fun _ L stk σ k => match stk with
  | v :: w :: r => cond (jm_c1 v && jm_c1 w) (k n L (v :: w :: v :: r) σ) False
  | _ => False
theorem s_dup_x1 (hd : decode (mC id) pc = .ok (.dup_x1, 1)) : jm_sn id pc (oDupX1 (pc + 1)) := by
  intro g d L stk σ K k h hk
  match stk, h with
  | v :: w :: r, h =>
    obtain ⟨h1, h2⟩ := jm_cnd h
    have h := And.intro ((Bool.and_eq_true _ _).mp h1) h2
    exact jm_stk (hk _ _ _ _ h.2) (fun _ h => ⟨h.1, h.2.1, h.1, h.2.2⟩) (fun hx hb w => lv_dup_x1 hx hb hd (jm_c1_cat h.1.1) (jm_c1_cat h.1.2) w)
def oDup2 (n : Nat) : jm_Op := fun _ L stk σ k => match stk with
  | v :: w :: r => cond (jm_c1 v && jm_c1 w) (k n L (v :: w :: v :: w :: r) σ) False
  | _ => False
theorem s_dup2 (hd : decode (mC id) pc = .ok (.dup2, 1)) : jm_sn id pc (oDup2 (pc + 1)) := by
  intro g d L stk σ K k h hk
  match stk, h with
  | v :: w :: r, h =>
    obtain ⟨h1, h2⟩ := jm_cnd h
    have h := And.intro ((Bool.and_eq_true _ _).mp h1) h2
    exact jm_stk (hk _ _ _ _ h.2) (fun _ h => ⟨h.1, h.2.1, h.1, h.2.1, h.2.2⟩) (fun hx hb w => lv_dup2_11 hx hb hd (jm_c1_cat h.1.1) (jm_c1_cat h.1.2) w)
def oGo (t : Nat) : jm_Op := fun _ L stk σ k => k t L stk σ
theorem s_goto {off : Int} {t : Nat} (hd : decode (mC id) pc = .ok (.goto off, 3)) (ht : (pc : Int) + off = (t : Int)) : jm_sn id pc (oGo t) :=
  fun g d L stk σ K k h hk => jm_stk (hk _ _ _ _ h) (fun _ h => h) (fun hx hb w => lv_goto hx hb hd ht w)
theorem jm_br {P : Prop} {g : jm_G} {d t f : Nat} {L : List (Option jm_V)} {stk r : List jm_V} {σ : jm_S} {K : jm_O → Prop} (ht : P → J g d id t L r σ K) (hf : ¬ P → J g d id f L r σ K) (hs : ∀ hs, jm_st g hs stk → jm_st g hs r)
    (hw : ∀ {p : Program} {l : Launch} {e : Env} {R : Room} {s : State} {m : MethodId} {args : Array Value} {below : List Frame} {meth : Method} {c : Code} {H : Heap} {locs : List Loc} {cells slots : Nat} {ls : Array Slot} {Q : State → Prop},
      p.tables.exec = Jvm.exec → c.code = mC id → (P → W p l e R s m args below meth c H locs cells slots Q (F0 m t ls (r.map jm_vo))) → (¬ P → W p l e R s m args below meth c H locs cells slots Q (F0 m f ls (r.map jm_vo))) → W p l e R s m args below meth c H locs cells slots Q (F0 m pc ls (stk.map jm_vo))) : J g d id pc L stk σ K := by
  intro p l e R s m args below meth c H locs cells slots ls n0 hfl F hr hl h0 hS h1 h2
  exact hw F.1.1 F.1.2.1 (fun h => ht h p l e R s m args below meth c H locs cells slots ls n0 hfl F hr hl (hs _ h0) hS h1 h2) (fun h => hf h p l e R s m args below meth c H locs cells slots ls n0 hfl F hr hl (hs _ h0) hS h1 h2)
def oIfEq (t n : Nat) : jm_Op := fun _ L stk σ k => match stk with
  | .inl x :: r => (x = 0 → k t L r σ) ∧ (¬ (x = 0) → k n L r σ)
  | _ => False
theorem s_if_eq {off : Int} {t : Nat} (hd : decode (mC id) pc = .ok (.ifCond .eq off, 3)) (ht : (pc : Int) + off = (t : Int)) : jm_sn id pc (oIfEq t (pc + 3)) := by
  intro g d L stk σ K k h hk
  match stk, h with
  | .inl x :: r, h => exact jm_br (P := x = 0) (fun q => hk _ _ _ _ (h.1 q)) (fun q => hk _ _ _ _ (h.2 q)) (fun _ h => h.2) (fun hx hb w1 w2 => lv_if_eq hx hb hd ht w1 w2)
def oIcEq (t n : Nat) : jm_Op := fun _ L stk σ k => match stk with
  | .inl y :: .inl x :: r => (x = y → k t L r σ) ∧ (¬ (x = y) → k n L r σ)
  | _ => False
theorem s_icmp_eq {off : Int} {t : Nat} (hd : decode (mC id) pc = .ok (.if_icmp .eq off, 3)) (ht : (pc : Int) + off = (t : Int)) : jm_sn id pc (oIcEq t (pc + 3)) := by
  intro g d L stk σ K k h hk
  match stk, h with
  | .inl y :: .inl x :: r, h => exact jm_br (P := x = y) (fun q => hk _ _ _ _ (h.1 q)) (fun q => hk _ _ _ _ (h.2 q)) (fun _ h => h.2.2) (fun hx hb w1 w2 => lv_icmp_eq hx hb hd ht w1 w2)
def oIfNe (t n : Nat) : jm_Op := fun _ L stk σ k => match stk with
  | .inl x :: r => (¬ x = 0 → k t L r σ) ∧ (x = 0 → k n L r σ)
  | _ => False
theorem s_if_ne {off : Int} {t : Nat} (hd : decode (mC id) pc = .ok (.ifCond .ne off, 3)) (ht : (pc : Int) + off = (t : Int)) : jm_sn id pc (oIfNe t (pc + 3)) := by
  intro g d L stk σ K k h hk
  match stk, h with
  | .inl x :: r, h => exact jm_br (P := ¬ x = 0) (fun q => hk _ _ _ _ (h.1 q)) (fun q => hk _ _ _ _ (h.2 (Classical.byContradiction q))) (fun _ h => h.2) (fun hx hb w1 w2 => lv_if_ne hx hb hd ht w1 (fun q => w2 (fun z => z q)))
def oIcNe (t n : Nat) : jm_Op := fun _ L stk σ k => match stk with
  | .inl y :: .inl x :: r => (¬ x = y → k t L r σ) ∧ (x = y → k n L r σ)
  | _ => False
theorem s_icmp_ne {off : Int} {t : Nat} (hd : decode (mC id) pc = .ok (.if_icmp .ne off, 3)) (ht : (pc : Int) + off = (t : Int)) : jm_sn id pc (oIcNe t (pc + 3)) := by
  intro g d L stk σ K k h hk
  match stk, h with
  | .inl y :: .inl x :: r, h => exact jm_br (P := ¬ x = y) (fun q => hk _ _ _ _ (h.1 q)) (fun q => hk _ _ _ _ (h.2 (Classical.byContradiction q))) (fun _ h => h.2.2) (fun hx hb w1 w2 => lv_icmp_ne hx hb hd ht w1 (fun q => w2 (fun z => z q)))
def oIfLt (t n : Nat) : jm_Op := fun _ L stk σ k => match stk with
  | .inl x :: r => (x < 0 → k t L r σ) ∧ (¬ (x < 0) → k n L r σ)
  | _ => False
theorem s_if_lt {off : Int} {t : Nat} (hd : decode (mC id) pc = .ok (.ifCond .lt off, 3)) (ht : (pc : Int) + off = (t : Int)) : jm_sn id pc (oIfLt t (pc + 3)) := by
  intro g d L stk σ K k h hk
  match stk, h with
  | .inl x :: r, h => exact jm_br (P := x < 0) (fun q => hk _ _ _ _ (h.1 q)) (fun q => hk _ _ _ _ (h.2 q)) (fun _ h => h.2) (fun hx hb w1 w2 => lv_if_lt hx hb hd ht w1 w2)
def oIcLt (t n : Nat) : jm_Op := fun _ L stk σ k => match stk with
  | .inl y :: .inl x :: r => (x < y → k t L r σ) ∧ (¬ (x < y) → k n L r σ)
  | _ => False
theorem s_icmp_lt {off : Int} {t : Nat} (hd : decode (mC id) pc = .ok (.if_icmp .lt off, 3)) (ht : (pc : Int) + off = (t : Int)) : jm_sn id pc (oIcLt t (pc + 3)) := by
  intro g d L stk σ K k h hk
  match stk, h with
  | .inl y :: .inl x :: r, h => exact jm_br (P := x < y) (fun q => hk _ _ _ _ (h.1 q)) (fun q => hk _ _ _ _ (h.2 q)) (fun _ h => h.2.2) (fun hx hb w1 w2 => lv_icmp_lt hx hb hd ht w1 w2)
def oIfGe (t n : Nat) : jm_Op := fun _ L stk σ k => match stk with
  | .inl x :: r => (0 ≤ x → k t L r σ) ∧ (¬ (0 ≤ x) → k n L r σ)
  | _ => False
theorem s_if_ge {off : Int} {t : Nat} (hd : decode (mC id) pc = .ok (.ifCond .ge off, 3)) (ht : (pc : Int) + off = (t : Int)) : jm_sn id pc (oIfGe t (pc + 3)) := by
  intro g d L stk σ K k h hk
  match stk, h with
  | .inl x :: r, h => exact jm_br (P := 0 ≤ x) (fun q => hk _ _ _ _ (h.1 q)) (fun q => hk _ _ _ _ (h.2 q)) (fun _ h => h.2) (fun hx hb w1 w2 => lv_if_ge hx hb hd ht w1 w2)
def oIcGe (t n : Nat) : jm_Op := fun _ L stk σ k => match stk with
  | .inl y :: .inl x :: r => (y ≤ x → k t L r σ) ∧ (¬ (y ≤ x) → k n L r σ)
  | _ => False
theorem s_icmp_ge {off : Int} {t : Nat} (hd : decode (mC id) pc = .ok (.if_icmp .ge off, 3)) (ht : (pc : Int) + off = (t : Int)) : jm_sn id pc (oIcGe t (pc + 3)) := by
  intro g d L stk σ K k h hk
  match stk, h with
  | .inl y :: .inl x :: r, h => exact jm_br (P := y ≤ x) (fun q => hk _ _ _ _ (h.1 q)) (fun q => hk _ _ _ _ (h.2 q)) (fun _ h => h.2.2) (fun hx hb w1 w2 => lv_icmp_ge hx hb hd ht w1 w2)
def oIfGt (t n : Nat) : jm_Op := fun _ L stk σ k => match stk with
  | .inl x :: r => (0 < x → k t L r σ) ∧ (¬ (0 < x) → k n L r σ)
  | _ => False
theorem s_if_gt {off : Int} {t : Nat} (hd : decode (mC id) pc = .ok (.ifCond .gt off, 3)) (ht : (pc : Int) + off = (t : Int)) : jm_sn id pc (oIfGt t (pc + 3)) := by
  intro g d L stk σ K k h hk
  match stk, h with
  | .inl x :: r, h => exact jm_br (P := 0 < x) (fun q => hk _ _ _ _ (h.1 q)) (fun q => hk _ _ _ _ (h.2 q)) (fun _ h => h.2) (fun hx hb w1 w2 => lv_if_gt hx hb hd ht w1 w2)
def oIcGt (t n : Nat) : jm_Op := fun _ L stk σ k => match stk with
  | .inl y :: .inl x :: r => (y < x → k t L r σ) ∧ (¬ (y < x) → k n L r σ)
  | _ => False
theorem s_icmp_gt {off : Int} {t : Nat} (hd : decode (mC id) pc = .ok (.if_icmp .gt off, 3)) (ht : (pc : Int) + off = (t : Int)) : jm_sn id pc (oIcGt t (pc + 3)) := by
  intro g d L stk σ K k h hk
  match stk, h with
  | .inl y :: .inl x :: r, h => exact jm_br (P := y < x) (fun q => hk _ _ _ _ (h.1 q)) (fun q => hk _ _ _ _ (h.2 q)) (fun _ h => h.2.2) (fun hx hb w1 w2 => lv_icmp_gt hx hb hd ht w1 w2)
def oIfLe (t n : Nat) : jm_Op := fun _ L stk σ k => match stk with
  | .inl x :: r => (x ≤ 0 → k t L r σ) ∧ (¬ (x ≤ 0) → k n L r σ)
  | _ => False
theorem s_if_le {off : Int} {t : Nat} (hd : decode (mC id) pc = .ok (.ifCond .le off, 3)) (ht : (pc : Int) + off = (t : Int)) : jm_sn id pc (oIfLe t (pc + 3)) := by
  intro g d L stk σ K k h hk
  match stk, h with
  | .inl x :: r, h => exact jm_br (P := x ≤ 0) (fun q => hk _ _ _ _ (h.1 q)) (fun q => hk _ _ _ _ (h.2 q)) (fun _ h => h.2) (fun hx hb w1 w2 => lv_if_le hx hb hd ht w1 w2)
def oIcLe (t n : Nat) : jm_Op := fun _ L stk σ k => match stk with
  | .inl y :: .inl x :: r => (x ≤ y → k t L r σ) ∧ (¬ (x ≤ y) → k n L r σ)
  | _ => False
theorem s_icmp_le {off : Int} {t : Nat} (hd : decode (mC id) pc = .ok (.if_icmp .le off, 3)) (ht : (pc : Int) + off = (t : Int)) : jm_sn id pc (oIcLe t (pc + 3)) := by
  intro g d L stk σ K k h hk
  match stk, h with
  | .inl y :: .inl x :: r, h => exact jm_br (P := x ≤ y) (fun q => hk _ _ _ _ (h.1 q)) (fun q => hk _ _ _ _ (h.2 q)) (fun _ h => h.2.2) (fun hx hb w1 w2 => lv_icmp_le hx hb hd ht w1 w2)
/-- tableswitch from lo 0: the places in order, else the default -/
def oTsw (ts : List Nat) (df : Nat) : jm_Op := fun _ L stk σ k => match stk with
  | .inl x :: r => (∀ (j t : Nat), ts[j]? = some t → x = nI j → k t L r σ) ∧ ((∀ j : Nat, j < ts.length → ¬ x = nI j) → k df L r σ)
  | _ => False
theorem s_tsw {dflt hi : Int} {offs : Array Int} {len : Nat} {ts : List Nat} {df : Nat} (hd : decode (mC id) pc = .ok (.tableswitch dflt 0 hi offs, len)) (hdf : (pc : Int) + dflt = (df : Int)) (hhi : hi + 1 = (ts.length : Int)) (hlen : ts.length < 1000)
    (ho : offs.toList.map (fun o => (pc : Int) + o) = ts.map (fun (t : Nat) => (t : Int))) : jm_sn id pc (oTsw ts df) := by
  intro g d L stk σ K k h hk
  match stk, h with
  | .inl x :: r, h =>
    intro p l e R s m args below meth c H locs cells slots ls n0 hfl F hr hl hs hS h1 h2
    have hn : ∀ j : Nat, j < ts.length → (x.toInt = (j : Int) ↔ x = nI j) := fun j hj => by
      rw [← nI_toInt (n := j) (by omega), Int32.toInt_inj]
    by_cases hx : 0 ≤ x.toInt ∧ x.toInt ≤ hi
    · have hj : x.toInt.toNat < ts.length := by omega
      obtain ⟨t, ht⟩ : ∃ t, ts[x.toInt.toNat]? = some t := ⟨_, List.getElem?_eq_getElem hj⟩
      have hxe : x = nI x.toInt.toNat := (hn _ hj).mp (by omega)
      have h5 := congrArg (fun (z : List Int) => z[x.toInt.toNat]?) ho
      simp only [List.getElem?_map, ht, Option.map_some, Array.getElem?_toList] at h5
      cases h6 : offs[x.toInt.toNat]? with
      | none => rw [h6] at h5; cases h5
      | some o =>
        rw [h6] at h5
        have h7 : (pc : Int) + o = (t : Int) := by simpa using h5
        exact lv_tableIn (off := o) F.1.1 F.1.2.1 hd (by omega) (by omega) (by simpa using h6) h7 (hk _ _ _ _ (h.1 _ t ht hxe) p l e R s m args below meth c H locs cells slots ls n0 hfl F hr hl hs.2 hS h1 h2)
    · refine lv_tableOut F.1.1 F.1.2.1 hd (by omega) hdf (hk _ _ _ _ (h.2 (fun j hj q => ?_)) p l e R s m args below meth c H locs cells slots ls n0 hfl F hr hl hs.2 hS h1 h2)
      have := (hn j hj).mpr q
      omega
end
