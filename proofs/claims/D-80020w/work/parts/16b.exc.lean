/-! Exception() under a Stop under construction: the launch makes no stack traces -/
theorem jm_thrA : ∀ x ∈ Bundle.throwableAtoms, x ∈ jm_tb ∨ x = .laysStatic "java/lang/Throwable" "UNASSIGNED_STACK" "[Ljava/lang/StackTraceElement;" ∨ x = .laysStatic "java/lang/Throwable" "SUPPRESSED_SENTINEL" "Ljava/util/List;" := by decide +kernel
theorem jm_pasA : ∀ x ∈ Bundle.passAtoms "java/lang/Exception" Bundle.tN 1 Bundle.five, x ∈ jm_tb := by decide +kernel
theorem jm_wX1 : Cond.methodLink "IdealProver$Stop" 1 ⟨"java/lang/Exception", "<init>", "()V"⟩ ∈ jm_tb := jm_in 395 (by decide +kernel) rfl
theorem jm_wX2 : Cond.selects "IdealProver$Stop" Bundle.tFill0 Bundle.tFill0 ∈ jm_tb := jm_in 362 (by decide +kernel) rfl
theorem jm_wX3 : Cond.selects "IdealProver$Stop" Bundle.tFill Bundle.tFill ∈ jm_tb := jm_in 363 (by decide +kernel) rfl
theorem jm_wX4 : Cond.lays "IdealProver$Stop" Bundle.tN "cause" "Ljava/lang/Throwable;" ∈ jm_tb := jm_in 364 (by decide +kernel) rfl
theorem jm_wX5 : Cond.lays "IdealProver$Stop" Bundle.tN "stackTrace" Bundle.steD ∈ jm_tb := jm_in 366 (by decide +kernel) rfl
theorem jm_wX6 : Cond.lays "IdealProver$Stop" Bundle.tN "suppressedExceptions" Bundle.listD ∈ jm_tb := jm_in 368 (by decide +kernel) rfl
theorem jm_wX7 : Cond.lays "IdealProver$Stop" Bundle.tN "backtrace" "Ljava/lang/Object;" ∈ jm_tb := jm_in 372 (by decide +kernel) rfl
theorem jm_wX8 : Cond.lays Bundle.tN Bundle.tN "backtrace" "Ljava/lang/Object;" ∈ jm_tb := jm_in 373 (by decide +kernel) rfl
theorem jm_wX9 : Cond.fieldLink Bundle.tN 198 Bundle.tN "backtrace" "Ljava/lang/Object;" ∈ jm_tb := jm_in 374 (by decide +kernel) rfl
theorem jm_wX10 : Cond.laysFinal "IdealProver$Stop" "IdealProver$Stop" "answer" "I" ∈ jm_tb := jm_in 405 (by decide +kernel) rfl
theorem jm_Zv {C n d : String} {A : Nat → Prop} {U : State} {H : Heap} (h : va_Zq C n d A U H) : ∃ u : RefV, va_Z C n d u.v A U H := by
  rcases h with h | ⟨t, h⟩
  · exact ⟨⟨.null, rfl⟩, h⟩
  · exact ⟨⟨.ref t, rfl⟩, h⟩
/-- Exception(), called on a cell that was just made -/
theorem jm_exc {p : Program} {l : Launch} {e : Env} {R : Room} {s : State} {m : MethodId} {args : Array Value} {below : List Frame} {meth : Method} {c : Code} {H : Heap} {locs : List Loc} {cells slots : Nat} {Q : State → Prop} {g : jm_G} {pc : Nat} {ls : Array Slot} {rest : List Value} {cc : ByteArray}
    (hexec : p.tables.exec = Jvm.exec) (hb : c.code = cc) (hml : c.maxLocals = ls.size) (hw : jm_w g s) (hfl : l.flags = flags0) (hown : s.vm.findClass "IdealProver$Stop" = some m.cls) {a : Nat} {cX : ClassId} {kX : Class} (hfound : s.vm.findClass "IdealProver$Stop" = some cX) (hk : s.vm.classes[cX]? = some kX) (hord : kX.kind = .ordinary)
    (hcell : H[a]? = some (blank cX kX)) (hlow : ∀ q : Nat, q < gb g → H[q]? = s.heap[q]?) (hframes : 3 < R.frames) (hlocals : (rest.map fun v => v.category).sum + 54 ≤ R.locals) (hdg : decode cc pc = .ok (.invokespecial 1, 3))
    (kk : ∀ (cell' : Cell) (H' : Heap) (L' : List Loc), H'[a]? = some cell' → cell'.cls = cX → cell'.vm = .none → cell'.slots.size = kX.instanceTypes.size → H'.size = H.size → (∀ q : Nat, q ≠ a → H'[q]? = H[q]?) → (∀ x ∈ L', x.base = a) → W p l e R s m args below meth c H' (locs ++ L') cells slots Q (F0 m (pc + 3) ls rest)) :
    W p l e R s m args below meth c H locs cells slots Q (F0 m pc ls (.ref a :: rest)) := by
  intro W0 hW0 X
  have htr : e.platform.stackTraces = false := by
    have h5 := X.admits.2.2.2.2.1
    rw [h5]
    show l.stackTraces = false
    unfold Launch.stackTraces
    rw [hfl]
    decide +kernel
  have howns : e.platform.frameOwnsMonitors = true := by rw [X.admits.platform]
  have hfin : e.platform.finalization = false := by rw [X.admits.platform]
  have hpl : e.platform.magicAccessors = ({} : Platform).magicAccessors := by rw [X.admits.platform]
  have hts : ∀ {w : Cond}, w ∈ jm_tb → w.before args s = true := fun h => hw.1 _ h args
  obtain ⟨T, Z, L, LZ, Y⟩ := ThrowableC.of_atoms (args := args) howns hfin hpl (fun x hx => by
    rcases jm_thrA x hx with h | h | h
    · exact hts h
    · rw [h]; exact hw.2.2.2.2.2.2.1.2.2.1 args
    · rw [h]; exact hw.2.2.2.2.2.2.1.2.2.2 args)
  obtain ⟨P, LP, hPm, hPs⟩ := PassC.of_atoms (args := args) (s := s) hpl (X := "java/lang/Exception") (Y := Bundle.tN) (by decide) (by decide) Bundle.five_0 Bundle.five_1 Bundle.five_4 (fun x hx => hts (jm_pasA x hx))
  have hsel0 : selectMethod e.platform s.vm cX T.fill0 = .method T.fill0 := by
    obtain ⟨c2, r2, m2, q1, q2, q3, q4, -⟩ := Cond.selects_spec (hts jm_wX2)
    cases Option.some.inj (q1.symm.trans hfound)
    cases Option.some.inj (q2.symm.trans (State.methodFound?_of_named Y.fill0 (by decide)))
    cases Option.some.inj (q3.symm.trans Y.fill0)
    rw [Launch.admits_selectMethod X.admits]; exact q4
  have hselF : selectMethod e.platform s.vm cX T.fill = .method T.fill := by
    obtain ⟨c2, r2, m2, q1, q2, q3, q4, -⟩ := Cond.selects_spec (hts jm_wX3)
    cases Option.some.inj (q1.symm.trans hfound)
    cases Option.some.inj (q2.symm.trans (State.methodFound?_of_named Y.fill (by decide)))
    cases Option.some.inj (q3.symm.trans Y.fill)
    rw [Launch.admits_selectMethod X.admits]; exact q4
  obtain ⟨-, -, -, -, -, -, ⟨hz1, hz2, -⟩, -⟩ := hw
  obtain ⟨u0, cf1, kf1, fi1, f1, aS1, cellS, z1, z2, z3, z4, z5, z6, z7, z8⟩ := jm_Zv hz1
  obtain ⟨sen, cf2, kf2, fi2, f2, aS2, cellS2, y1, y2, y3, y4, y5, y6, y7, y8⟩ := jm_Zv hz2
  cases Option.some.inj (z1.symm.trans Y.unassigned)
  cases Option.some.inj (y1.symm.trans Y.sentinel)
  cases Option.some.inj (z4.symm.trans L.statics)
  cases Option.some.inj (y4.symm.trans L.statics)
  cases Option.some.inj (y5.symm.trans z5)
  have hcellS : W0.heap[T.aS]? = some cellS := by rw [hW0, hlow _ (Nat.not_le.mp z8)]; exact z5
  have hknownS : cellS.vm ≠ .unknown := fun h => by rw [h] at z6; cases z6
  have hcellW : W0.heap[a]? = some (freshCell cX kX) := by rw [hW0]; exact hcell
  have hneS : T.aS ≠ a := fun h => by
    rw [h, hcellW] at hcellS
    cases hcellS
    cases z6
  obtain ⟨ci198, i198, fB, hk198, hg198, ha198, hsB, -, hnB, htB, hffB⟩ := Cond.ownField (t := .object "java/lang/Object") Y.found L.cls (by decide +kernel) (hts jm_wX9) (hts jm_wX8) e.platform hpl
  obtain ⟨tyC, dC, hdC, hdnC⟩ := Cond.laysAt hfound hk Y.cause (hts jm_wX4)
  obtain ⟨tyS, dS, hdS, hdnS⟩ := Cond.laysAt hfound hk Y.stack (hts jm_wX5)
  obtain ⟨tyP, dP, hdP, hdnP⟩ := Cond.laysAt hfound hk Y.supp (hts jm_wX6)
  obtain ⟨tyB, dB, hdB, hdnB⟩ := Cond.laysAt hfound hk hffB (hts jm_wX7)
  have bC := Cond.laysApart hdB hdC hdnB hdnC (by rw [hnB, Y.causeName]; decide)
  have bS := Cond.laysApart hdB hdS hdnB hdnS (by rw [hnB, Y.stackName]; decide)
  have bP := Cond.laysApart hdB hdP hdnB hdnP (by rw [hnB, Y.suppName]; decide)
  have hskip : SkipFacts T e.platform s (fun u => u) u0 ((preparedCellV T.toThrowableT (freshCell cX kX) a u0 sen).withEntry W0.cur) :=
    ⟨{ ci198 := ci198, i198 := i198, fBack := fB }, ⟨hk198, hg198, ha198, hsB⟩, by
      have := fresh_default (c := cX) tyB
      rw [htB] at this
      simpa [preparedCellV, Cell.setSlot, Cell.withEntry, Array.getElem?_setIfInBounds, bC, bS, bP, bC.symm, bS.symm, bP.symm, defaultValue] using this, fun _ _ => rfl⟩
  obtain ⟨tm, methC, cdC, kC, vm₁, hnC, -, -, -, -, -, -, -, hW₁, st1⟩ := Steps.initColdArgs (e := e) (below := below) (s := s) (U := W0) X.here hexec X.warmed hpl hown (t := Bundle.init0 "java/lang/Exception") rfl (by decide)
    (args := args) (bytes := Bundle.five) (maxL := 1) (hts jm_wX1) (hts (jm_pasA _ (by simp [Bundle.passAtoms]))) (hts (jm_pasA (.code (Bundle.init0 "java/lang/Exception") Bundle.five 1 none) (by simp [Bundle.passAtoms]))) (f := F0 m pc ls (.ref a :: rest)) rfl (a := a) (argsL := []) (rest := rest) (fun sig hs => by
      have : (parseMethodDescriptor "()V").map (fun d => d.parameters.length) = some 0 := by decide +kernel
      rw [show parseMethodDescriptor "()V" = some sig from hs] at this
      exact (Option.some.inj this).symm) rfl (by rw [hb]; exact hdg)
  cases Option.some.inj (hnC.symm.trans hPm)
  have X₁ := X.noted hW₁
  obtain ⟨vm₂, X₂, st2⟩ := X₁.ctorPlainOffV hexec (g := F0 m pc ls rest) rfl (by rw [hml]) T L Z LZ [P] (fun P' hP => by rw [List.mem_singleton.mp hP]; exact LP) ⟨Option.some.inj (hPs.symm.trans Y.init0), trivial⟩ (u0 := u0) (sen := sen) (self := a) (cell := freshCell cX kX) (cellS := cellS)
    hcellW (fun _ => by simp) (by simp) rfl rfl hsel0 hselF hcellS hneS hknownS z7 y7
    (Takes.of_laid hk hord tyC (by rw [Y.causeType]; rfl)) (Takes.of_laid hk hord tyS (by rw [Y.stackType]; exact fits_refV_array _ u0)) (Takes.of_laid hk hord tyP (by rw [Y.suppType]; exact fits_refV_object _ sen)) Y.objLocals hskip htr [] (by rw [hb]; exact hdg)
    hframes (by show 2 * 0 + _ + _ ≤ _; simp only [List.length_cons, List.length_nil]; omega)
  have hlt : a < W0.heap.size := (Array.getElem?_eq_some_iff.mp hcellW).1
  generalize hcl : (preparedCellV T.toThrowableT (freshCell cX kX) a u0 sen).setSlot T.fStack.slot u0.v = cl at X₂ st2
  obtain ⟨t, a1, b1⟩ := kk cl (((W0.setVm vm₁).setVm vm₂).setCell a cl).heap [⟨a, T.fCause.slot⟩, ⟨a, T.fStack.slot⟩, ⟨a, T.fSupp.slot⟩, ⟨a, T.fStack.slot⟩] (by show (W0.heap.setIfInBounds a cl)[a]? = _; simp [Array.getElem?_setIfInBounds, hlt]) (by rw [← hcl]; rfl) (by rw [← hcl]; rfl) (by rw [← hcl]; simp [preparedCellV, Cell.setSlot]) (by show (W0.heap.setIfInBounds a cl).size = _; rw [hW0]; simp) (fun q hq => by show (W0.heap.setIfInBounds a cl)[q]? = _; rw [hW0]; simp [Array.getElem?_setIfInBounds, Ne.symm hq]) (fun x hx => by
      simp only [List.mem_cons, List.not_mem_nil, or_false] at hx
      rcases hx with rfl | rfl | rfl | rfl <;> rfl) _ rfl X₂
  exact ⟨t, st1 t (fun acts => by rw [doInvoke_state]; exact st2 t a1), b1⟩
