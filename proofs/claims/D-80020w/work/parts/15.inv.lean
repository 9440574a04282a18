/-! the kinds of calls -/
section
variable {g : jm_G} {id pc id' index : Nat} {vs' : List jm_V}
theorem jm_nmap {T : List jm_V} : (T.map jm_vo).reverse = T.reverse.map jm_vo := List.map_reverse.symm
theorem inv_V {t q N : Nat} {C : String} {T : u_T} {ty : Nat → FieldType} (hd : decode (mC id) pc = .ok (.invokevirtual index, 3)) (hc : jm_ci t C T N ty) (hl : Cond.methodLink (mY id).cls index (mY id') ∈ jm_tb) (hin : Cond.instanceMethod (mY id') ∈ jm_tb) (hse : Cond.selects C (mY id') (mY id') ∈ jm_tb) (hcw : jm_cw id' ∈ jm_tb)
    (hy : (mY id').cls ≠ "java/lang/invoke/MethodHandle" ∧ (mY id').cls ≠ "java/lang/invoke/VarHandle") (hn : (parseMethodDescriptor (mY id').desc).map (fun d => d.parameters.length) = some vs'.length) : jm_inv g id pc id' (aR t q :: vs') := by
  intro d n0 p l e R s m args below meth c U locs cells slots ls r σ F hr hvs hS X
  obtain ⟨mk, methM, hnamed, hmethM, hstM, habM⟩ := Cond.instanceMethod_spec (F.2.1.1 _ hin args)
  obtain ⟨m', methM', cM, hn', hmethM', -, -, -, -, -, -, hsigM⟩ := jm_cw_spec (F.2.1.1 _ hcw args)
  cases hnamed.symm.trans hn'
  cases hmethM.symm.trans hmethM'
  obtain ⟨c2, r2, m2, q1, q2, q3, q4, kP, hkP, hkPi⟩ := Cond.selects_spec (F.2.1.1 _ hse args)
  obtain ⟨cellB, hcell, hobj, hcls⟩ := jm_recv F.2.1 hr hvs.1 hc
  cases hcls.symm.trans q1
  cases (State.methodFound?_of_named hnamed hy).symm.trans q2
  cases hnamed.symm.trans q3
  have hselP : selectMethod e.platform s.vm cellB.cls mk = .method mk := by rw [Launch.admits_selectMethod X.admits]; exact q4
  rw [hsigM] at hn
  have hd' : decode c.code pc = .ok (.invokevirtual index, 3) := by rw [F.1.2.1]; exact hd
  obtain ⟨vm₁, X₁, hstep₁⟩ := X.invokevirtual F.1.1 (jm_own F) (F.2.1.1 _ hl args) hnamed hmethM hstM hkP hkPi hy (a := q) (cell := cellB) hcell
    (fun z h => by rw [h] at hobj; cases hobj) hselP hmethM habM hkP hkPi (g := F0 m pc ls (((aR t q :: vs').reverse ++ r).map jm_vo)) rfl (argsL := vs'.map jm_vo) (rest := r.map jm_vo) (by rw [List.length_map]; exact (Option.some.inj hn).symm) (by simp [jm_vo]) hd'
  exact ⟨vm₁, mk, _, X₁, X₁.named hnamed, hd', fun target h => hstep₁ _ fun acts => by rw [doInvoke_state]; exact h⟩
theorem inv_VN {t q N : Nat} {C host : String} {T : u_T} {ty : Nat → FieldType} (hd : decode (mC id) pc = .ok (.invokevirtual index, 3)) (hc : jm_ci t C T N ty) (hl : Cond.methodLinkNest (mY id).cls index (mY id') host ∈ jm_tb) (hin : Cond.instanceMethod (mY id') ∈ jm_tb) (hse : Cond.selects C (mY id') (mY id') ∈ jm_tb) (hcw : jm_cw id' ∈ jm_tb)
    (hy : (mY id').cls ≠ "java/lang/invoke/MethodHandle" ∧ (mY id').cls ≠ "java/lang/invoke/VarHandle") (hn : (parseMethodDescriptor (mY id').desc).map (fun d => d.parameters.length) = some vs'.length) : jm_inv g id pc id' (aR t q :: vs') := by
  intro d n0 p l e R s m args below meth c U locs cells slots ls r σ F hr hvs hS X
  obtain ⟨mk, methM, hnamed, hmethM, hstM, habM⟩ := Cond.instanceMethod_spec (F.2.1.1 _ hin args)
  obtain ⟨m', methM', cM, hn', hmethM', -, -, -, -, -, -, hsigM⟩ := jm_cw_spec (F.2.1.1 _ hcw args)
  cases hnamed.symm.trans hn'
  cases hmethM.symm.trans hmethM'
  obtain ⟨c2, r2, m2, q1, q2, q3, q4, kP, hkP, hkPi⟩ := Cond.selects_spec (F.2.1.1 _ hse args)
  obtain ⟨cellB, hcell, hobj, hcls⟩ := jm_recv F.2.1 hr hvs.1 hc
  cases hcls.symm.trans q1
  cases (State.methodFound?_of_named hnamed hy).symm.trans q2
  cases hnamed.symm.trans q3
  have hselP : selectMethod e.platform s.vm cellB.cls mk = .method mk := by rw [Launch.admits_selectMethod X.admits]; exact q4
  rw [hsigM] at hn
  have hd' : decode c.code pc = .ok (.invokevirtual index, 3) := by rw [F.1.2.1]; exact hd
  obtain ⟨vm₁, X₁, hstep₁⟩ := X.invokevirtualNest F.1.1 (jm_own F) (F.2.1.1 _ hl args) hnamed hmethM hstM hkP hkPi hy (a := q) (cell := cellB) hcell
    (fun z h => by rw [h] at hobj; cases hobj) hselP hmethM habM hkP hkPi (g := F0 m pc ls (((aR t q :: vs').reverse ++ r).map jm_vo)) rfl (argsL := vs'.map jm_vo) (rest := r.map jm_vo) (by rw [List.length_map]; exact (Option.some.inj hn).symm) (by simp [jm_vo]) hd'
  exact ⟨vm₁, mk, _, X₁, X₁.named hnamed, hd', fun target h => hstep₁ _ fun acts => by rw [doInvoke_state]; exact h⟩
theorem inv_S (hd : decode (mC id) pc = .ok (.invokestatic index, 3)) (hl : Cond.methodLink (mY id).cls index (mY id') ∈ jm_tb) (hst : Cond.static (mY id') ∈ jm_tb) (hini : Cond.initialized (mY id').cls ∈ jm_tb) (hcw : jm_cw id' ∈ jm_tb)
    (hy : (mY id').cls ≠ "java/lang/invoke/MethodHandle" ∧ (mY id').cls ≠ "java/lang/invoke/VarHandle") (hn : (parseMethodDescriptor (mY id').desc).map (fun d => d.parameters.length) = some vs'.length) : jm_inv g id pc id' vs' := by
  intro d n0 p l e R s m args below meth c U locs cells slots ls r σ F hr hvs hS X
  obtain ⟨mk, methM, cM, hnamed, hmethM, -, -, -, -, -, -, hsigM⟩ := jm_cw_spec (F.2.1.1 _ hcw args)
  have hstatic : methM.isStatic = true := Cond.static_spec hnamed hmethM (F.2.1.1 _ hst args)
  obtain ⟨kP, hkP, -⟩ := className_of_methodNamed hnamed
  have hinitP : kP.init = .initialized := Cond.initialized_spec (findClass_of_methodNamed hnamed) hkP (F.2.1.1 _ hini args)
  rw [hsigM] at hn
  have hd' : decode c.code pc = .ok (.invokestatic index, 3) := by rw [F.1.2.1]; exact hd
  obtain ⟨vm₁, X₁, hstep₁⟩ := X.invokestatic F.1.1 (jm_own F) (F.2.1.1 _ hl args) hnamed hmethM hstatic hkP hinitP hy (g := F0 m pc ls ((vs'.reverse ++ r).map jm_vo)) rfl (argsL := vs'.map jm_vo) (rest := r.map jm_vo) (by rw [List.length_map]; exact (Option.some.inj hn).symm) (by simp) hd'
  exact ⟨vm₁, mk, _, X₁, X₁.named hnamed, hd', fun target h => hstep₁ _ fun acts => by rw [doInvoke_state]; exact h⟩
theorem inv_SN {host : String} (hd : decode (mC id) pc = .ok (.invokestatic index, 3)) (hl : Cond.methodLinkNest (mY id).cls index (mY id') host ∈ jm_tb) (hst : Cond.static (mY id') ∈ jm_tb) (hini : Cond.initialized (mY id').cls ∈ jm_tb) (hcw : jm_cw id' ∈ jm_tb)
    (hy : (mY id').cls ≠ "java/lang/invoke/MethodHandle" ∧ (mY id').cls ≠ "java/lang/invoke/VarHandle") (hn : (parseMethodDescriptor (mY id').desc).map (fun d => d.parameters.length) = some vs'.length) : jm_inv g id pc id' vs' := by
  intro d n0 p l e R s m args below meth c U locs cells slots ls r σ F hr hvs hS X
  obtain ⟨mk, methM, cM, hnamed, hmethM, -, -, -, -, -, -, hsigM⟩ := jm_cw_spec (F.2.1.1 _ hcw args)
  have hstatic : methM.isStatic = true := Cond.static_spec hnamed hmethM (F.2.1.1 _ hst args)
  obtain ⟨kP, hkP, -⟩ := className_of_methodNamed hnamed
  have hinitP : kP.init = .initialized := Cond.initialized_spec (findClass_of_methodNamed hnamed) hkP (F.2.1.1 _ hini args)
  rw [hsigM] at hn
  have hd' : decode c.code pc = .ok (.invokestatic index, 3) := by rw [F.1.2.1]; exact hd
  obtain ⟨vm₁, X₁, hstep₁⟩ := X.invokestaticNest F.1.1 (jm_own F) (F.2.1.1 _ hl args) hnamed hmethM hstatic hkP hinitP hy (g := F0 m pc ls ((vs'.reverse ++ r).map jm_vo)) rfl (argsL := vs'.map jm_vo) (rest := r.map jm_vo) (by rw [List.length_map]; exact (Option.some.inj hn).symm) (by simp) hd'
  exact ⟨vm₁, mk, _, X₁, X₁.named hnamed, hd', fun target h => hstep₁ _ fun acts => by rw [doInvoke_state]; exact h⟩
theorem inv_I {t q : Nat} {bytes : ByteArray} {maxL : Nat} (hd : decode (mC id) pc = .ok (.invokespecial index, 3)) (hl : Cond.methodLink (mY id).cls index (mY id') ∈ jm_tb) (hin : Cond.instanceMethod (mY id') ∈ jm_tb) (hy1 : (mY id').name = "<init>") (hcode : Cond.code (mY id') bytes maxL none ∈ jm_tb)
    (hy : (mY id').cls ≠ "java/lang/invoke/MethodHandle" ∧ (mY id').cls ≠ "java/lang/invoke/VarHandle") (hn : (parseMethodDescriptor (mY id').desc).map (fun d => d.parameters.length) = some vs'.length) : jm_inv g id pc id' (aR t q :: vs') := by
  intro d n0 p l e R s m args below meth c U locs cells slots ls r σ F hr hvs hS X
  have hd' : decode c.code pc = .ok (.invokespecial index, 3) := by rw [F.1.2.1]; exact hd
  have hpl : e.platform.magicAccessors = ({} : Platform).magicAccessors := by rw [X.admits.platform]
  obtain ⟨mk, methM, cM, kP, vm₁, hnamed, hmethM, hcodeM, -, hlocalsM, -, hkP, -, hW₁, hstep₁⟩ := Steps.initColdArgs (e := e) X.here F.1.1 X.warmed hpl (jm_own F) hy1 hy (F.2.1.1 _ hl args) (F.2.1.1 _ hin args) (F.2.1.1 _ hcode args) (f := F0 m pc ls (((aR t q :: vs').reverse ++ r).map jm_vo)) rfl (argsL := vs'.map jm_vo) (rest := r.map jm_vo) (a := q) (fun sig hsig => by rw [hsig] at hn; rw [List.length_map]; exact (Option.some.inj hn).symm) (by simp [jm_vo]) hd'
  have X₁ := X.noted hW₁
  exact ⟨vm₁, mk, _, X₁, X₁.named hnamed, hd', fun target h => hstep₁ _ fun acts => by rw [doInvoke_state]; exact h⟩
theorem inv_IN {t q : Nat} {bytes : ByteArray} {maxL : Nat} {host : String} (hd : decode (mC id) pc = .ok (.invokespecial index, 3)) (hl : Cond.methodLinkNest (mY id).cls index (mY id') host ∈ jm_tb) (hin : Cond.instanceMethod (mY id') ∈ jm_tb) (hy1 : (mY id').name = "<init>") (hcode : Cond.code (mY id') bytes maxL none ∈ jm_tb)
    (hy : (mY id').cls ≠ "java/lang/invoke/MethodHandle" ∧ (mY id').cls ≠ "java/lang/invoke/VarHandle") (hn : (parseMethodDescriptor (mY id').desc).map (fun d => d.parameters.length) = some vs'.length) : jm_inv g id pc id' (aR t q :: vs') := by
  intro d n0 p l e R s m args below meth c U locs cells slots ls r σ F hr hvs hS X
  have hd' : decode c.code pc = .ok (.invokespecial index, 3) := by rw [F.1.2.1]; exact hd
  have hpl : e.platform.magicAccessors = ({} : Platform).magicAccessors := by rw [X.admits.platform]
  obtain ⟨mk, methM, cM, kP, vm₁, hnamed, hmethM, hcodeM, -, hlocalsM, -, hkP, -, hW₁, hstep₁⟩ := Steps.initColdArgsNest (e := e) X.here F.1.1 X.warmed hpl (jm_own F) hy1 hy (F.2.1.1 _ hl args) (F.2.1.1 _ hin args) (F.2.1.1 _ hcode args) (f := F0 m pc ls (((aR t q :: vs').reverse ++ r).map jm_vo)) rfl (argsL := vs'.map jm_vo) (rest := r.map jm_vo) (a := q) (fun sig hsig => by rw [hsig] at hn; rw [List.length_map]; exact (Option.some.inj hn).symm) (by simp [jm_vo]) hd'
  have X₁ := X.noted hW₁
  exact ⟨vm₁, mk, _, X₁, X₁.named hnamed, hd', fun target h => hstep₁ _ fun acts => by rw [doInvoke_state]; exact h⟩
/-- compare of an order constant: by its class -/
theorem inv_O {j q : Nat} {y : MethodName} (hj : j < 3) (hq : q = goa g j) (hd : decode (mC id) pc = .ok (.invokevirtual index, 3)) (hl : Cond.methodLink (mY id).cls index y ∈ jm_tb) (hdc : Cond.declares y ∈ jm_tb) (hsm : Cond.sameMethod y.cls y.cls y.name y.desc ∈ jm_tb) (hin : Cond.instanceMethod (mY id') ∈ jm_tb) (hse : Cond.selects (jm_oc j) y (mY id') ∈ jm_tb)
    (hy : y.cls ≠ "java/lang/invoke/MethodHandle" ∧ y.cls ≠ "java/lang/invoke/VarHandle") (hn : (parseMethodDescriptor y.desc).map (fun d => d.parameters.length) = some vs'.length) : jm_inv g id pc id' (aR 13 q :: vs') := by
  intro d n0 p l e R s m args below meth c U locs cells slots ls r σ F hr hvs hS X
  subst hq
  obtain ⟨cellB, k1, k2, hobj, hcls⟩ := F.2.1.2.2.2.2.1 j hj
  have hcell : U.heap[goa g j]? = some cellB := by
    rw [hS.2.1 _ (Nat.lt_of_lt_of_le k1 F.2.1.2.2.1) (Nat.not_le.mpr k1)]; exact k2
  obtain ⟨r0, rm, hn0, hrm, hstR, hsigR⟩ := Cond.declares_spec (F.2.1.1 _ hdc args)
  obtain ⟨cn, ck, r1, hcn, hck, hni, hf, hn1⟩ := Cond.sameMethod_found (F.2.1.1 _ hsm args)
  cases hn0.symm.trans hn1
  obtain ⟨mk, methM, hnamed, hmethM, -, habM⟩ := Cond.instanceMethod_spec (F.2.1.1 _ hin args)
  obtain ⟨c2, r2, m2, q1, q2, q3, q4, kP, hkP, hkPi⟩ := Cond.selects_spec (F.2.1.1 _ hse args)
  cases hcls.symm.trans q1
  cases hf.symm.trans q2
  cases hnamed.symm.trans q3
  have hselP : selectMethod e.platform s.vm cellB.cls r0 = .method mk := by rw [Launch.admits_selectMethod X.admits]; exact q4
  rw [hsigR] at hn
  have hd' : decode c.code pc = .ok (.invokevirtual index, 3) := by rw [F.1.2.1]; exact hd
  obtain ⟨vm₁, X₁, hstep₁⟩ := X.invokevirtualUp F.1.1 (jm_own F) (F.2.1.1 _ hl args) (F.2.1.1 _ hsm args) hy hn0 hrm hstR (a := goa g j) (cell := cellB) hcell
    (fun z h => by rw [h] at hobj; cases hobj) hselP hmethM habM hkP hkPi (g := F0 m pc ls (((aR 13 (goa g j) :: vs').reverse ++ r).map jm_vo)) rfl (argsL := vs'.map jm_vo) (rest := r.map jm_vo) (by rw [List.length_map]; exact (Option.some.inj hn).symm) (by simp [jm_vo]) hd'
  exact ⟨vm₁, mk, _, X₁, X₁.named hnamed, hd', fun target h => hstep₁ _ fun acts => by rw [doInvoke_state]; exact h⟩
end
