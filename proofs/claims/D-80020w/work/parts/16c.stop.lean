/-! new Stop(v), as one step -/
theorem d_S_0 : decode prog_10_method_1_code 0 = .ok (.aload_n 0, 1) := by decide +kernel
theorem d_S_1 : decode prog_10_method_1_code 1 = .ok (.invokespecial 1, 3) := by decide +kernel
theorem d_S_4 : decode prog_10_method_1_code 4 = .ok (.aload_n 0, 1) := by decide +kernel
theorem d_S_5 : decode prog_10_method_1_code 5 = .ok (.iload_n 1, 1) := by decide +kernel
theorem d_S_6 : decode prog_10_method_1_code 6 = .ok (.putfield 7, 3) := by decide +kernel
theorem d_S_9 : decode prog_10_method_1_code 9 = .ok (.return_, 1) := by decide +kernel
theorem jm_cS : jm_ci 7 R_S F_S 1 t_S := ⟨by decide, rfl, by decide +kernel, t_S_ok, n_S, rfl, by decide⟩
theorem jm_wS1 : Cond.instantiable "IdealProver$Stop" 7 ∈ jm_tb := jm_in 356 (by decide +kernel) rfl
theorem jm_wS2 : Cond.initialized "IdealProver$Stop" ∈ jm_tb := jm_in 66 (by decide +kernel) rfl
theorem jm_wS3 : Cond.instanceMethod (mY 22) ∈ jm_tb := jm_in 393 (by decide +kernel) rfl
theorem jm_wS4 : jm_cw 22 ∈ jm_tb := jm_in 394 (by decide +kernel) rfl
theorem jm_wS5 : Cond.fieldLink "IdealProver$Stop" 7 "IdealProver$Stop" "answer" "I" ∈ jm_tb := jm_in 399 (by decide +kernel) rfl
theorem J_stop {g : jm_G} {d id pc index index2 : Nat} {L : List (Option jm_V)} {r : List jm_V} {σ : jm_S} {K : jm_O → Prop} {v : Int32} {n : Int} (hd1 : decode (mC id) pc = .ok (.new index, 3)) (hd2 : decode (mC id) (pc + 3) = .ok (.dup, 1)) (hd3 : decode (mC id) (pc + 4) = .ok (.bipush n, 2)) (hv : (Int8.ofInt n).toInt32 = v) (hd4 : decode (mC id) (pc + 6) = .ok (.invokespecial index2, 3))
    (hl : Cond.classLink (mY id).cls index "IdealProver$Stop" ∈ jm_tb) (hl2 : Cond.methodLink (mY id).cls index2 (mY 22) ∈ jm_tb) (hdep : 4 ≤ d) (hcs : Nat.ble (jm_cs r) 6 = true) (ht : gdm g (jm_hs σ) = 7) (hlim : jm_hs σ + 1 ≤ gb g + 601024 ∧ jm_ns σ + 7 ≤ 7293000)
    (hj : J g d id (pc + 9) L (aR 7 (jm_hs σ) :: r) (jm_wi (jm_nw σ 7) (jm_hs σ) 0 v) K) : J g d id pc L r σ K := by
  intro p l e R s m args below meth c H locs cells slots ls n0 hfl F hr hl0 hst hS h1 h2
  have hw := F.2.1
  have f1 := F.2.2.1
  have f2 := F.2.2.2.1
  have hRc := F.2.2.2.2.1
  have hRs := F.2.2.2.2.2
  have hKn := hw.2.1.1 6 (R_S, F_S, 1) rfl
  have hszh : H.size = jm_hs σ := hr.1
  have hcsr := Nat.le_of_ble_eq_true hcs
  have hceq := jm_cs_eq r
  refine W.newcK F.1.1 F.1.2.1 (jm_own F) (hw.1 _ hl args) (hw.1 _ jm_wS1 args) (hw.1 _ jm_wS2 args) rfl hd1 (by omega) (by omega) hKn.2.1 hszh (fun H1 kC hkC e1 z1 o1 => ?_)
  have hr1 : jm_rep g (jm_nw σ 7) H1 := by
    refine hr.new hlim (by omega) (fun x hx => o1 x (by omega)) (fun e he => ?_)
    rw [ht, jm_E_o (by decide)] at he
    cases he
    exact ⟨_, rfl, (u_born t_S (fun w hw' => hw.1 w hw' args) jm_cS.2.2.1 hKn hkC e1 t_S_ok).to (fun j hj => by
      have : j = 0 := by omega
      subst this
      simp [t_S, defaultValue, vp_V, jm_fk, jm_fv, jm_nw, jm_u])⟩
  refine lv_dup (va := .ref (jm_hs σ)) F.1.1 F.1.2.1 hd2 rfl ?_
  refine lv_bipush F.1.1 F.1.2.1 hd3 hv ?_
  intro T hT X
  have hpl : e.platform.magicAccessors = ({} : Platform).magicAccessors := by rw [X.admits.platform]
  have hd4' : decode c.code (pc + 6) = .ok (.invokespecial index2, 3) := by rw [F.1.2.1]; exact hd4
  obtain ⟨mk, methM, cM, kP, vm₁, hnamed, hmethM, hcodeM, -, hlocalsM, -, hkP, -, hW₁, hstep₁⟩ := Steps.initColdArgs (e := e) (below := below) X.here F.1.1 X.warmed hpl (jm_own F) (t := mY 22) rfl (by decide) (args := args) (bytes := prog_10_method_1_code) (maxL := 2) (F.2.1.1 _ hl2 args) (F.2.1.1 _ jm_wS3 args) (F.2.1.1 _ jm_wS4 args)
    (f := F0 m (pc + 6) ls (.int v :: .ref (jm_hs σ) :: .ref (jm_hs σ) :: r.map jm_vo)) rfl (a := jm_hs σ) (argsL := [.int v]) (rest := .ref (jm_hs σ) :: r.map jm_vo) (fun sig hs => by
      have : (parseMethodDescriptor (mY 22).desc).map (fun d => d.parameters.length) = some 1 := by decide +kernel
      rw [hs] at this
      exact (Option.some.inj this).symm) rfl hd4'
  have X₁ := X.noted hW₁
  have hnU := X₁.named hnamed
  have hcwU : (jm_cw 22).before #[.ref (jm_hs σ), .int v] (T.setVm vm₁) = true := jm_word (U := T.setVm vm₁) (List.mem_filter.mp jm_wS4).2 hW₁ (F.2.1.1 _ jm_wS4) _
  obtain ⟨m', methY, cY, hn', hmY, hcY, hbY, hlY, hhY, hrY, hkY, -⟩ := jm_cw_spec hcwU
  cases hnU.symm.trans hn'
  have hplain : (T.setVm vm₁).plainMethod mk := by
    refine State.plainMethod.of_name (fun k hk => ?_)
    obtain ⟨k', hk', hnm⟩ := className_of_methodNamed hnU
    cases hk.symm.trans hk'
    rw [hnm]; decide
  have hml2 : cY.maxLocals = 2 := hlY
  obtain ⟨Y, hin⟩ := X₁.into (g := F0 m (pc + 6) ls (.ref (jm_hs σ) :: r.map jm_vo)) rfl (by rw [F.1.2.2.1]; exact hl0.1) hd4' #[.ref (jm_hs σ), .int v] (R' := { frames := d, cells := 0, slots := 0, locals := 42 * d }) hmY hcY hkY hplain (by show d + 1 ≤ _; omega)
    (by rw [hml2]; show 2 * 0 + (1 + ((r.map jm_vo).map fun v => v.category).sum) + (2 + 11) + 42 * d ≤ _; rw [hceq]; omega) (by show cells + 1 + 0 ≤ _; omega) (by show slots + 7 + 0 ≤ _; omega)
  generalize hs' : (T.setVm vm₁).calling (F0 m (pc + 6) ls (.ref (jm_hs σ) :: r.map jm_vo)) mk #[.ref (jm_hs σ), .int v] = s' at Y
  have hs'h : s'.heap = H1 := by rw [← hs']; exact hT
  have hs'v : s'.vm = vm₁ := by rw [← hs']; rfl
  have hlowH : ∀ q : Nat, q < gb g → H1[q]? = s.heap[q]? := fun q hq => by
    have hb := F.2.1.2.2.1
    have hb2 := hS.1
    rw [o1 q (by omega)]
    exact hS.2.1 q (by omega) (Nat.not_le.mpr hq)
  have hwc : jm_w g s' := F.2.1.moved (by rw [hs'v]; exact hW₁) (by rw [hs'h]; have := F.2.1.2.2.1; have := hS.1; omega) (fun q hq => by rw [hs'h]; exact hlowH q hq)
  have hns' : s'.methodNamed? (mY 22) = some mk := by rw [← hs']; exact hnU
  have hms' : s'.vm.method? mk = some methY := by rw [← hs']; exact hmY
  have hown' : s'.vm.findClass "IdealProver$Stop" = some mk.cls := findClass_of_methodNamed hns'
  have hKn' := hwc.2.1.1 6 (R_S, F_S, 1) rfl
  obtain ⟨hSl', hfc', kC', hkC', hord'⟩ := hKn'
  have hkC2 : ∃ k2, s'.vm.classes[(gD g).1 6]? = some k2 ∧ k2.instanceTypes = kC.instanceTypes := by
    have hal : s.vm.Alike s'.vm := by rw [hs'v]; exact hW₁.alike
    obtain ⟨k2, h3, h4⟩ := hal.2.2 _ _ hkC
    exact ⟨k2, h3, by rw [h4]⟩
  obtain ⟨k2, hk2, hk2t⟩ := hkC2
  cases hkC'.symm.trans hk2
  have hcellB : H1[jm_hs σ]? = some (blank ((gD g).1 6) kC') := by
    rw [e1]
    unfold blank
    rw [hk2t]
  have hent := lv_entry ([.ref (jm_hs σ), .int v]) (n := 2) (Nat.le_of_ble_eq_true rfl)
  have hinner : W p l e { frames := d, cells := 0, slots := 0, locals := 42 * d } s' mk #[.ref (jm_hs σ), .int v] (.java (F0 m (pc + 6) ls (.ref (jm_hs σ) :: r.map jm_vo)) :: below) methY cY H1 [] 0 0
      (MQ (.java (F0 m (pc + 6) ls (.ref (jm_hs σ) :: r.map jm_vo)) :: below) (fun _ _ o t => o = .returned none ∧ va_at (gD g) classes (jm_hs σ, .inr (6, [.int v])) t.heap ∧ t.heap.size = H1.size ∧ ∀ q : Nat, q ≠ jm_hs σ → t.heap[q]? = H1[q]?) #[.ref (jm_hs σ), .int v] s' 0 0 (fun q => q = jm_hs σ)) (entryFrame mk #[.ref (jm_hs σ), .int v] 2) := by
    rw [show (#[.ref (jm_hs σ), .int v] : Array Value) = ([.ref (jm_hs σ), .int v] : List Value).toArray from rfl, lg_entry_eq]
    generalize (lg_sl ([.ref (jm_hs σ), .int v]) ++ List.replicate (2 - (lg_sl ([.ref (jm_hs σ), .int v])).length) Slot.unset).toArray = ls2 at hent ⊢
    refine lv_aload_n F.1.1 hbY d_S_0 rfl (lv_at hent 0 rfl) ?_
    refine jm_exc F.1.1 hbY (by rw [hml2]; exact hent.1.symm) hwc hfl hown' hfc' hkC' hord' hcellB (fun q hq => by rw [hs'h]) (by show 3 < d; omega) (by show 0 + 54 ≤ 42 * d; omega) d_S_1 (fun cell' H' L' c1 c2 c3 c4 c5 c6 c7 => ?_)
    refine lv_aload_n F.1.1 hbY d_S_4 rfl (lv_at hent 0 rfl) ?_
    refine lv_iload_n F.1.1 hbY d_S_5 rfl (lv_at hent 1 rfl) ?_
    obtain ⟨cf, kf, fi, f, hi2, hsl⟩ := hSl' 0 (by decide)
    have hlay : kC'.instanceTypes[f.slot]? = some f.type := (u_facts hfc' hkC' (u_lays (fun w hw' => hwc.1 w hw' #[.ref (jm_hs σ), .int v]) jm_cS.2.2.1 (show (0 : Nat) < 1 by decide)) hi2).2.2
    have hlt : (gD g).2 6 0 < cell'.slots.size := by rw [← hsl, c4]; exact (Array.getElem?_eq_some_iff.mp hlay).1
    have hva : va_at (gD g) classes (jm_hs σ, .inr (7 - 1, [cell'.slots[(gD g).2 6 0]])) H' := ⟨_, rfl, cell', c1, c2, c3, fun k hk => by
      have hk0 : k = 0 := by
        have hk' : k < 1 := hk
        omega
      subst hk0
      show cell'.slots[(gD g).2 6 0]? = some (vp_V [cell'.slots[(gD g).2 6 0]] 0)
      rw [Array.getElem?_eq_getElem hlt]
      rfl⟩
    refine jm_putF (g := g) (t := 7) (i := 0) (v := .int v) (fs := [cell'.slots[(gD g).2 6 0]]) F.1.1 hbY (fun w hw' => hwc.1 w hw' _) jm_cS hown' hwc.2.1 hva (by decide) rfl jm_wS5 rfl (name_of_methodNamed hns' hms').1 rfl rfl rfl d_S_6 (fun H'' i1 w1 w2 w3 => ?_)
    refine W.vret F.1.1 hbY (by rw [hrY]; rfl) (fun t ht _ => ⟨rfl, by rw [ht]; exact w1, by rw [ht, w2, c5], fun q hq => by rw [ht, w3 q hq, c6 q hq]⟩) (fun x hx => ?_) d_S_9 hkY
    simp only [List.nil_append] at hx
    rcases List.mem_append.mp hx with h | h
    · exact c7 x h
    · rw [List.mem_singleton.mp h]
  obtain ⟨s₂, hst2, o, hrun, hend, ⟨rfl, hv1, hv2, hv3⟩, Lc, ⟨-, hWt, hsame⟩, hLc⟩ := hinner (((T.setVm vm₁).setTop (F0 m (pc + 6) ls (.ref (jm_hs σ) :: r.map jm_vo))).pushFrame (.java (entryFrame mk #[.ref (jm_hs σ), .int v] cY.maxLocals))) (by show T.heap = _; exact hT) Y
  have hsteps : Steps p.tables e below (doInvoke e ((T.setVm vm₁).setTop (F0 m (pc + 6) ls (.ref (jm_hs σ) :: r.map jm_vo))) [] mk #[.ref (jm_hs σ), .int v]).1 s₂ := by
    rw [hin]
    rw [hml2] at hst2 ⊢
    exact jm_weak hst2
  rw [← hs'] at hWt hsame
  obtain ⟨T', X', -, -, ht2⟩ := X₁.outOf (g := F0 m (pc + 6) ls (.ref (jm_hs σ) :: r.map jm_vo)) rfl hd4' hend hWt hsame
  have hT' : T'.heap = s₂.heap := by rw [ht2]; rfl
  have hgb : gb g ≤ jm_hs σ := by have := F.2.1.2.2.1; have := hS.1; omega
  have hr2 : jm_rep g (jm_wi (jm_nw σ 7) (jm_hs σ) 0 v) T'.heap := by
    refine hr1.set1 (q := jm_hs σ) (e := .inr (6, [.int v])) (by rw [hT', hv2]) (fun q hq => by rw [hT', hv3 q hq]) rfl jm_wi_off ?_ (by rw [hT']; exact hv1) (fun k t' hk hne => ?_)
    · rw [ht, jm_E_o (by decide)]
      simp [jm_fk, jm_fv, jm_wi, jm_u]
    · exact hr1.2.2.1 (jm_hs σ) (Nat.lt_succ_self _) k t' hk hne
  have hS2 : va_S (fun q => gb g ≤ q) s.heap T'.heap (locs ++ Lc) := by
    have hS1 := jm_S.new hS (H1 := H1) (by omega) (fun x hx => o1 x (by omega))
    refine ⟨by rw [hT', hv2]; exact hS1.1, fun q g1 g2 => ?_, fun x hx => ?_⟩
    · have g3 : ¬ gb g ≤ q := g2
      rw [hT', hv3 q (by omega)]; exact hS1.2.1 q g1 g2
    · rcases List.mem_append.mp hx with h | h
      · exact hS.2.2 x h
      · have h5 : x.base = jm_hs σ := hLc x h
        show gb g ≤ x.base
        rw [h5]; exact hgb
  have hh : jm_hs σ ≤ jm_hs (jm_nw σ 7) := Nat.le_succ _
  obtain ⟨t3, a1, b1⟩ := hj p l e R s m args below meth c T'.heap (locs ++ Lc) (cells + 1 + 0) (slots + 7 + 0) ls n0 hfl F hr2 (hl0.mono hh) ⟨⟨ht, Nat.lt_succ_self _⟩, hst.mono hh⟩ hS2 (by show _ = jm_hs σ + 1; omega) (by show _ = jm_ns σ + 7; omega) T' rfl X'
  refine ⟨t3, hstep₁ _ (fun acts => ?_), b1⟩
  rw [doInvoke_state]
  refine hsteps.trans ?_
  rw [ht2]
  exact a1
