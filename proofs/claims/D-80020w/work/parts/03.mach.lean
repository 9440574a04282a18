/-! An abstract machine over the kit's W: typed memory, references that carry a tag, one judgement J. -/
abbrev jm_V : Type := Int32 ⊕ (Int64 ⊕ (Nat × Nat))
abbrev aI (x : Int32) : jm_V := Sum.inl x
abbrev aL (x : Int64) : jm_V := Sum.inr (Sum.inl x)
abbrev aR (t q : Nat) : jm_V := Sum.inr (Sum.inr (t, q))
/-- a reference in a field or an array: 0 is null, else the address and one -/
def jm_rv (q : Nat) : Value := if q = 0 then .null else .ref (q - 1)
def jm_on (q : Nat) : Option Nat := if q = 0 then none else some (q - 1)
def jm_vo : jm_V → Value
  | .inl x => .int x
  | .inr (.inl x) => .long x
  | .inr (.inr x) => .ref x.2
/-- memory: numbers by address and place, references by address and place, the heap's size, the slots used -/
abbrev jm_S : Type := (Nat → Nat → Int32) × ((Nat → Nat → Nat) × (Nat × Nat))
abbrev jm_mi (σ : jm_S) : Nat → Nat → Int32 := σ.1
abbrev jm_mr (σ : jm_S) : Nat → Nat → Nat := σ.2.1
abbrev jm_hs (σ : jm_S) : Nat := σ.2.2.1
abbrev jm_ns (σ : jm_S) : Nat := σ.2.2.2
def jm_u {α : Type} (f : Nat → α) (k : Nat) (v : α) : Nat → α := fun j => if j = k then v else f j
def jm_wi (σ : jm_S) (q k : Nat) (x : Int32) : jm_S := (jm_u σ.1 q (jm_u (σ.1 q) k x), σ.2)
def jm_wr (σ : jm_S) (q k a : Nat) : jm_S := (σ.1, (jm_u σ.2.1 q (jm_u (σ.2.1 q) k a), σ.2.2))
def jm_wa (σ : jm_S) (q : Nat) (f : Nat → Int32) : jm_S := (jm_u σ.1 q f, σ.2)
/-- the constants of a run: class numbers and slots, array classes, the tag of each address, lengths of arrays, where our cells begin, the order constants, the script -/
abbrev jm_G : Type := va_G × ((Nat → ClassId) × ((Nat → Nat) × ((Nat → Nat) × (Nat × ((Nat → Nat) × (Nat × (Nat × (Nat → Int32))))))))
abbrev gD (g : jm_G) : va_G := g.1
abbrev gC (g : jm_G) : Nat → ClassId := g.2.1
abbrev gdm (g : jm_G) : Nat → Nat := g.2.2.1
abbrev gln (g : jm_G) : Nat → Nat := g.2.2.2.1
abbrev gb (g : jm_G) : Nat := g.2.2.2.2.1
abbrev goa (g : jm_G) : Nat → Nat := g.2.2.2.2.2.1
abbrev gsb (g : jm_G) : Nat := g.2.2.2.2.2.2.1
abbrev gsL (g : jm_G) : Nat := g.2.2.2.2.2.2.2.1
abbrev gsx (g : jm_G) : Nat → Int32 := g.2.2.2.2.2.2.2.2
def jm_vr (g : jm_G) (hs : Nat) (v : jm_V) : Prop := match v with
  | .inr (.inr x) => gdm g x.2 = x.1 ∧ x.2 < hs
  | _ => True
def jm_st (g : jm_G) (hs : Nat) : List jm_V → Prop
  | [] => True
  | v :: r => jm_vr g hs v ∧ jm_st g hs r
def jm_lr (g : jm_G) (hs : Nat) (ls : Array Slot) (nL : Nat) (L : List (Option jm_V)) : Prop :=
  ls.size = nL ∧ lv_wf ls ∧ ∀ (i : Nat) (v : jm_V), L[i]? = some (some v) → ls[i]? = some (.val (jm_vo v)) ∧ jm_vr g hs v
/-- the value of a field -/
def jm_fv (σ : jm_S) (q k : Nat) (o : Option Nat) : Value := match o with
  | none => .int (σ.1 q k)
  | some _ => jm_rv (σ.2.1 q k)
/-- what the cell at q is, if its tag is t -/
def jm_E (g : jm_G) (t : Nat) (σ : jm_S) (q : Nat) : Option va_E :=
  if 1 ≤ t ∧ t ≤ 7 then some (.inr (t - 1, (jm_fk t).mapIdx (fun k o => jm_fv σ q k o)))
  else if t = 8 ∨ t = 9 then some (.inl (gC g t, gln g q, .inl (σ.1 q)))
  else if 10 ≤ t ∧ t ≤ 12 then some (.inl (gC g t, gln g q, .inr (.inr (.inr (.inr (fun i => jm_on (σ.2.1 q i)))))))
  else none
/-- the tag of what a reference place holds -/
def jm_rt (t k : Nat) : Option Nat :=
  if t = 10 then some 5 else if t = 11 then some 3 else if t = 12 then some 13 else ((jm_fk t)[k]?).getD none
def jm_rep (g : jm_G) (σ : jm_S) (H : Heap) : Prop :=
  H.size = jm_hs σ ∧ (∀ q : Nat, q < jm_hs σ → ∀ e, jm_E g (gdm g q) σ q = some e → va_at (gD g) classes (q, e) H) ∧
  (∀ q : Nat, q < jm_hs σ → ∀ k t', jm_rt (gdm g q) k = some t' → jm_mr σ q k ≠ 0 → (gdm g (jm_mr σ q k - 1) = t' ∧ jm_mr σ q k - 1 < jm_hs σ)) ∧ jm_hs σ ≤ gb g + 601024 ∧ jm_ns σ ≤ 7293000
abbrev jm_ty (g : jm_G) : List (ClassId × FieldType) := [(gC g 8, .int), (gC g 9, .boolean), (gC g 10, .object "IdealProver$Poly"), (gC g 11, .object "IdealProver$Element"), (gC g 12, .object "IdealProver$Order")]
/-- words that a warmer state keeps -/
def jm_ok : Cond → Bool
  | .fieldLinkNest .. => true
  | .methodLinkNest .. => true
  | .declares .. => true
  | .castable .. => true
  | .arrayOver (.object _) => true
  | w => goodWord w
def jm_tb : List Cond := lw_tbl.filter jm_ok
theorem jm_in {w : Cond} (i : Nat) (h : lw_tbl[i]? = some w) (hk : jm_ok w = true) : w ∈ jm_tb := List.mem_filter.mpr ⟨List.mem_of_getElem? h, hk⟩
def jm_oc (j : Nat) : String := match j with
  | 0 => "IdealProver$Order$1"
  | 1 => "IdealProver$Order$2"
  | _ => "IdealProver$Order$3"
/-- what the typing of the addresses must say -/
def jm_gk (g : jm_G) : Prop := 0 < gb g ∧ (∀ q, 1 ≤ gdm g q → gdm g q ≤ 12 → gb g ≤ q) ∧ (∀ q, gdm g q = 13 → ∃ j, j < 3 ∧ q = goa g j) ∧ (∀ q, gdm g q = 14 → q = gsb g)
/-- what holds of the tables and below our cells at the start of each invocation -/
def jm_w (g : jm_G) (s : State) : Prop :=
  (∀ w ∈ jm_tb, ∀ a : Array Value, w.before a s = true) ∧ va_K (gD g) classes (jm_ty g) s ∧ gb g ≤ s.heap.size ∧ jm_gk g ∧
  (∀ j, j < 3 → ∃ cell : Cell, goa g j < gb g ∧ s.heap[goa g j]? = some cell ∧ cell.vm.isStatics = false ∧ s.vm.findClass (jm_oc j) = some cell.cls) ∧
  (gsb g < gb g ∧ va_X (gsb g) (gsL g) (gsx g) s s.heap) ∧
  (va_Zq "java/lang/Throwable" "UNASSIGNED_STACK" "[Ljava/lang/StackTraceElement;" (fun q => gb g ≤ q) s s.heap ∧ va_Zq "java/lang/Throwable" "SUPPRESSED_SENTINEL" "Ljava/util/List;" (fun q => gb g ≤ q) s s.heap ∧
    (∀ a : Array Value, (Cond.laysStatic "java/lang/Throwable" "UNASSIGNED_STACK" "[Ljava/lang/StackTraceElement;").before a s = true) ∧ ∀ a : Array Value, (Cond.laysStatic "java/lang/Throwable" "SUPPRESSED_SENTINEL" "Ljava/util/List;").before a s = true) ∧
  ∃ (v : Nat) (cell : Cell), va_Z "IdealProver$Order" "$VALUES" "[LIdealProver$Order;" (.ref v) (fun q => gb g ≤ q) s s.heap ∧ v < gb g ∧ s.heap[v]? = some cell ∧ cell.vm.isStatics = false ∧ cell.vm ≠ .unknown ∧ s.vm.findClass "[LIdealProver$Order;" = some cell.cls ∧ cell.slots = #[.ref (goa g 0), .ref (goa g 1), .ref (goa g 2)]
/-- what holds of an invocation of the method id -/
def jm_F (g : jm_G) (d id n0 : Nat) (p : Program) (R : Room) (s : State) (m : MethodId) (meth : Method) (c : Code) : Prop :=
  (p.tables.exec = Jvm.exec ∧ c.code = mC id ∧ c.maxLocals = mL id ∧ meth.sig.returnType = mT id ∧ meth.locks = false ∧ s.methodNamed? (mY id) = some m ∧ s.vm.method? m = some meth ∧ meth.code = some c ∧
    c.exceptionTable.toList.map (fun x => (x.startPc, x.endPc, x.handlerPc, x.catchType)) = mH id) ∧
  jm_w g s ∧ R.frames = d + 1 ∧ R.locals = 42 * (d + 1) ∧ s.heap.size + R.cells = gb g + 601024 ∧ n0 + R.slots = 7293000
/-- how an invocation ends: the memory behind it, and a value, nothing, or an exception -/
abbrev jm_O : Type := jm_S × (Option jm_V ⊕ Nat)
def jm_or (g : jm_G) (u : jm_O) (o : Outcome) (t : State) : Prop :=
  jm_rep g u.1 t.heap ∧ match u.2 with
    | .inl none => o = .returned none
    | .inl (some v) => o = .returned (some (jm_vo v)) ∧ jm_vr g (jm_hs u.1) v
    | .inr q => o = .threw q ∧ gdm g q = 7 ∧ q < jm_hs u.1
def jm_Q (g : jm_G) (s : State) (n0 : Nat) (below : List Frame) (K : jm_O → Prop) : State → Prop := fun t =>
  ∃ (o : Outcome) (u : jm_O), t.status = .running ∧ Ended t below o ∧ K u ∧ jm_or g u o t ∧ s.WarmedH t.vm ∧
    ∃ (Lc : List Loc) (k n : Nat), s.sameButNew ({ t with vm := s.vm } : State) Lc k n ∧ (∀ q ∈ Lc, gb g ≤ q.base) ∧ s.heap.size + k = jm_hs u.1 ∧ n0 + n = jm_ns u.1 ∧ ∀ q : Nat, q < gb g → t.heap[q]? = s.heap[q]?
/-- THE JUDGEMENT: the method id, at pc, with these locals, stack and memory, comes to an end with K -/
def J (g : jm_G) (d id pc : Nat) (L : List (Option jm_V)) (stk : List jm_V) (σ : jm_S) (K : jm_O → Prop) : Prop :=
  ∀ (p : Program) (l : Launch) (e : Env) (R : Room) (s : State) (m : MethodId) (args : Array Value) (below : List Frame) (meth : Method) (c : Code) (H : Heap) (locs : List Loc) (cells slots : Nat) (ls : Array Slot) (n0 : Nat),
    l.flags = flags0 → jm_F g d id n0 p R s m meth c → jm_rep g σ H → jm_lr g (jm_hs σ) ls (mL id) L → jm_st g (jm_hs σ) stk →
    va_S (fun q => gb g ≤ q) s.heap H locs → s.heap.size + cells = jm_hs σ → n0 + slots = jm_ns σ →
    W p l e R s m args below meth c H locs cells slots (jm_Q g s n0 below K) (F0 m pc ls (stk.map jm_vo))
abbrev jm_Op : Type := jm_G → List (Option jm_V) → List jm_V → jm_S → (Nat → List (Option jm_V) → List jm_V → jm_S → Prop) → Prop
/-- an operation is right at a place of a method -/
def jm_sn (id pc : Nat) (op : jm_Op) : Prop := ∀ (g : jm_G) (d : Nat) (L : List (Option jm_V)) (stk : List jm_V) (σ : jm_S) (K : jm_O → Prop) (k : Nat → List (Option jm_V) → List jm_V → jm_S → Prop),
  op g L stk σ k → (∀ pc' L' stk' σ', k pc' L' stk' σ' → J g d id pc' L' stk' σ' K) → J g d id pc L stk σ K
/-- only the stack changes -/
theorem jm_stk {g : jm_G} {d id pc pc' : Nat} {L : List (Option jm_V)} {stk stk' : List jm_V} {σ : jm_S} {K : jm_O → Prop} (hj : J g d id pc' L stk' σ K) (ht : ∀ hs, jm_st g hs stk → jm_st g hs stk')
    (hw : ∀ {p : Program} {l : Launch} {e : Env} {R : Room} {s : State} {m : MethodId} {args : Array Value} {below : List Frame} {meth : Method} {c : Code} {H : Heap} {locs : List Loc} {cells slots : Nat} {ls : Array Slot} {Q : State → Prop},
      p.tables.exec = Jvm.exec → c.code = mC id → W p l e R s m args below meth c H locs cells slots Q (F0 m pc' ls (stk'.map jm_vo)) → W p l e R s m args below meth c H locs cells slots Q (F0 m pc ls (stk.map jm_vo))) : J g d id pc L stk σ K := by
  intro p l e R s m args below meth c H locs cells slots ls n0 hfl F hr hl hs hS h1 h2
  exact hw F.1.1 F.1.2.1 (hj p l e R s m args below meth c H locs cells slots ls n0 hfl F hr hl (ht _ hs) hS h1 h2)
