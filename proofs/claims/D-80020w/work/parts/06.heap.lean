/-! operations on the heap: fields, arrays -/
theorem jm_E_congr {g : jm_G} {t x : Nat} {σ σ' : jm_S} (h1 : σ'.1 x = σ.1 x) (h2 : σ'.2.1 x = σ.2.1 x) : jm_E g t σ' x = jm_E g t σ x := by
  unfold jm_E jm_fv
  rw [h1, h2]
theorem jm_rep.set1 {g : jm_G} {σ σ' : jm_S} {H H1 : Heap} {q : Nat} {e : va_E} (hr : jm_rep g σ H) (hz : H1.size = H.size) (oq : ∀ x, x ≠ q → H1[x]? = H[x]?) (h0 : σ'.2.2 = σ.2.2) (h1 : ∀ x, x ≠ q → σ'.1 x = σ.1 x ∧ σ'.2.1 x = σ.2.1 x)
    (he : jm_E g (gdm g q) σ' q = some e) (hq : va_at (gD g) classes (q, e) H1) (ht : ∀ k t', jm_rt (gdm g q) k = some t' → jm_mr σ' q k ≠ 0 → gdm g (jm_mr σ' q k - 1) = t' ∧ jm_mr σ' q k - 1 < jm_hs σ) : jm_rep g σ' H1 := by
  have hh : jm_hs σ' = jm_hs σ := by unfold jm_hs; rw [h0]
  refine ⟨by rw [hh, hz]; exact hr.1, fun x hx e' he' => ?_, fun x hx k t' hk hne => ?_, by rw [hh]; unfold jm_ns; rw [h0]; exact hr.2.2.2⟩
  · by_cases hxq : x = q
    · subst hxq
      rw [he] at he'
      cases he'
      exact hq
    · rw [jm_E_congr (h1 x hxq).1 (h1 x hxq).2] at he'
      exact (hr.2.1 x (hh ▸ hx) e' he').kept (oq x hxq)
  · rw [hh]
    by_cases hxq : x = q
    · subst hxq
      exact ht k t' hk hne
    · unfold jm_mr at hne ⊢
      rw [(h1 x hxq).2] at hne ⊢
      exact hr.2.2.1 x (hh ▸ hx) k t' hk hne
theorem jm_P1 {g : jm_G} {σ : jm_S} {H : Heap} {q t : Nat} {e : va_E} (hr : jm_rep g σ H) (hq : gdm g q = t ∧ q < jm_hs σ) (he : jm_E g t σ q = some e) : va_at (gD g) classes (q, e) H :=
  hr.2.1 q hq.2 e (by rw [hq.1]; exact he)
theorem jm_P0 {g : jm_G} {H : Heap} {q : Nat} {e : va_E} (h : va_at (gD g) classes (q, e) H) : va_P (gD g) classes [(q, e)] H := by
  intro k x hx
  match k, hx with
  | 0, hx => cases hx; exact h
theorem jm_E_o {g : jm_G} {t q : Nat} {σ : jm_S} (ht : 1 ≤ t ∧ t ≤ 7) : jm_E g t σ q = some (.inr (t - 1, (jm_fk t).mapIdx (fun k o => jm_fv σ q k o))) := by
  unfold jm_E
  rw [if_pos ht]
theorem jm_E_i {g : jm_G} {t q : Nat} {σ : jm_S} (ht : t = 8 ∨ t = 9) : jm_E g t σ q = some (.inl (gC g t, gln g q, .inl (σ.1 q))) := by
  unfold jm_E
  rw [if_neg (by omega), if_pos ht]
theorem jm_E_r {g : jm_G} {t q : Nat} {σ : jm_S} (ht : 10 ≤ t ∧ t ≤ 12) : jm_E g t σ q = some (.inl (gC g t, gln g q, .inr (.inr (.inr (.inr (fun i => jm_on (σ.2.1 q i))))))) := by
  unfold jm_E
  rw [if_neg (by omega), if_neg (by omega), if_pos ht]
theorem jm_on_rf (q : Nat) : va_rf (jm_on q) = jm_rv q := by
  unfold jm_on jm_rv
  by_cases h : q = 0
  · rw [if_pos h, if_pos h]; rfl
  · rw [if_neg h, if_neg h]; rfl
/-- what of a class the rows ask -/
def jm_ci (t : Nat) (C : String) (T : u_T) (N : Nat) (ty : Nat → FieldType) : Prop := (1 ≤ t ∧ t ≤ 7) ∧ classes[t - 1]? = some (C, T, N) ∧ (∀ w ∈ u_ws C T N, w ∈ jm_tb) ∧ (∀ k, k < N → parseFieldDescriptor (T k).2.2.1 = some (ty k)) ∧ (∀ a, a < N → ∀ b, b < N → a ≠ b → (T a).2.1 ≠ (T b).2.1) ∧ (jm_fk t).length = N ∧ plainName C = true
section
variable {id pc : Nat}
def oGi (t i n : Nat) : jm_Op := fun _ L stk σ k => match stk with
  | .inr (.inr (t', q)) :: r => cond (Nat.beq t' t) (k n L (aI (σ.1 q i) :: r) σ) False
  | _ => False
def oGr (t i t2 n : Nat) : jm_Op := fun _ L stk σ k => match stk with
  | .inr (.inr (t', q)) :: r => cond (Nat.beq t' t) (σ.2.1 q i ≠ 0 ∧ k n L (aR t2 (σ.2.1 q i - 1) :: r) σ) False
  | _ => False
theorem s_geti {t i index N : Nat} {C : String} {T : u_T} {ty : Nat → FieldType} (hd : decode (mC id) pc = .ok (.getfield index, 3)) (hc : jm_ci t C T N ty) (hf : (jm_fk t)[i]? = some none)
    (hl : Cond.fieldLink (mY id).cls index (T i).1 (T i).2.1 (T i).2.2.1 ∈ jm_tb) : jm_sn id pc (oGi t i (pc + 3)) := by
  intro g d L stk σ K k h hk
  match stk, h with
  | .inr (.inr (t', q)) :: r, h =>
    obtain ⟨hb, h9⟩ := jm_cnd h
    have ht := Nat.eq_of_beq_eq_true hb
    subst ht
    obtain ⟨c1, c2, c3, c4, c5, c6, -⟩ := hc
    intro p l e R s m args below meth c H locs cells slots ls n0 hfl F hr hl0 hs hS h1 h2
    have hi : i < N := by rw [← c6]; exact (List.getElem?_eq_some_iff.mp hf).1
    refine va_get (ci := t' - 1) (v := .int (σ.1 q i)) F.1.1 F.1.2.1 (fun w hw => F.2.1.1 w hw args) c3 (jm_own F) F.2.1.2.1 (jm_P0 (jm_P1 hr hs.1 (jm_E_o c1))) 0 rfl c2 i hi (F.2.1.1 _ hl args) (fun _ h => h) ?_ hd
      (hk _ _ _ _ h9 p l e R s m args below meth c H locs cells slots ls n0 hfl F hr hl0 ⟨trivial, hs.2⟩ hS h1 h2)
    rw [List.getElem?_mapIdx, hf]
    rfl
theorem s_getiN {t i index N : Nat} {C host : String} {T : u_T} {ty : Nat → FieldType} (hd : decode (mC id) pc = .ok (.getfield index, 3)) (hc : jm_ci t C T N ty) (hf : (jm_fk t)[i]? = some none)
    (hl : Cond.fieldLinkNest (mY id).cls index (T i).1 (T i).2.1 (T i).2.2.1 host ∈ jm_tb) : jm_sn id pc (oGi t i (pc + 3)) := by
  intro g d L stk σ K k h hk
  match stk, h with
  | .inr (.inr (t', q)) :: r, h =>
    obtain ⟨hb, h9⟩ := jm_cnd h
    have ht := Nat.eq_of_beq_eq_true hb
    subst ht
    obtain ⟨c1, c2, c3, c4, c5, c6, -⟩ := hc
    intro p l e R s m args below meth c H locs cells slots ls n0 hfl F hr hl0 hs hS h1 h2
    have hi : i < N := by rw [← c6]; exact (List.getElem?_eq_some_iff.mp hf).1
    refine va_getN (ci := t' - 1) (v := .int (σ.1 q i)) F.1.1 F.1.2.1 (fun w hw => F.2.1.1 w hw args) c3 (jm_own F) F.2.1.2.1 (jm_P0 (jm_P1 hr hs.1 (jm_E_o c1))) 0 rfl c2 i hi (F.2.1.1 _ hl args) (fun _ h => h) ?_ hd
      (hk _ _ _ _ h9 p l e R s m args below meth c H locs cells slots ls n0 hfl F hr hl0 ⟨trivial, hs.2⟩ hS h1 h2)
    rw [List.getElem?_mapIdx, hf]
    rfl
theorem jm_rt_o {t i : Nat} {o : Option Nat} (ht : 1 ≤ t ∧ t ≤ 7) (h : (jm_fk t)[i]? = some o) : jm_rt t i = o := by
  unfold jm_rt
  rw [if_neg (by omega), if_neg (by omega), if_neg (by omega), h]
  rfl
theorem s_getr {t i t2 index N : Nat} {C : String} {T : u_T} {ty : Nat → FieldType} (hd : decode (mC id) pc = .ok (.getfield index, 3)) (hc : jm_ci t C T N ty) (hf : (jm_fk t)[i]? = some (some t2))
    (hl : Cond.fieldLink (mY id).cls index (T i).1 (T i).2.1 (T i).2.2.1 ∈ jm_tb) : jm_sn id pc (oGr t i t2 (pc + 3)) := by
  intro g d L stk σ K k h hk
  match stk, h with
  | .inr (.inr (t', q)) :: r, h =>
    obtain ⟨hb, hne, h9⟩ := jm_cnd h
    have ht := Nat.eq_of_beq_eq_true hb
    subst ht
    obtain ⟨c1, c2, c3, c4, c5, c6, -⟩ := hc
    intro p l e R s m args below meth c H locs cells slots ls n0 hfl F hr hl0 hs hS h1 h2
    have hi : i < N := by rw [← c6]; exact (List.getElem?_eq_some_iff.mp hf).1
    have hy := hr.2.2.1 q hs.1.2 i t2 (by rw [hs.1.1]; exact jm_rt_o c1 hf) hne
    refine va_get (ci := t' - 1) (v := .ref (σ.2.1 q i - 1)) F.1.1 F.1.2.1 (fun w hw => F.2.1.1 w hw args) c3 (jm_own F) F.2.1.2.1 (jm_P0 (jm_P1 hr hs.1 (jm_E_o c1))) 0 rfl c2 i hi (F.2.1.1 _ hl args) (fun _ h => h) ?_ hd
      (hk _ _ _ _ h9 p l e R s m args below meth c H locs cells slots ls n0 hfl F hr hl0 ⟨hy, hs.2⟩ hS h1 h2)
    rw [List.getElem?_mapIdx, hf]
    show some (jm_rv _) = _
    unfold jm_rv
    rw [if_neg hne]
theorem s_getrN {t i t2 index N : Nat} {C host : String} {T : u_T} {ty : Nat → FieldType} (hd : decode (mC id) pc = .ok (.getfield index, 3)) (hc : jm_ci t C T N ty) (hf : (jm_fk t)[i]? = some (some t2))
    (hl : Cond.fieldLinkNest (mY id).cls index (T i).1 (T i).2.1 (T i).2.2.1 host ∈ jm_tb) : jm_sn id pc (oGr t i t2 (pc + 3)) := by
  intro g d L stk σ K k h hk
  match stk, h with
  | .inr (.inr (t', q)) :: r, h =>
    obtain ⟨hb, hne, h9⟩ := jm_cnd h
    have ht := Nat.eq_of_beq_eq_true hb
    subst ht
    obtain ⟨c1, c2, c3, c4, c5, c6, -⟩ := hc
    intro p l e R s m args below meth c H locs cells slots ls n0 hfl F hr hl0 hs hS h1 h2
    have hi : i < N := by rw [← c6]; exact (List.getElem?_eq_some_iff.mp hf).1
    have hy := hr.2.2.1 q hs.1.2 i t2 (by rw [hs.1.1]; exact jm_rt_o c1 hf) hne
    refine va_getN (ci := t' - 1) (v := .ref (σ.2.1 q i - 1)) F.1.1 F.1.2.1 (fun w hw => F.2.1.1 w hw args) c3 (jm_own F) F.2.1.2.1 (jm_P0 (jm_P1 hr hs.1 (jm_E_o c1))) 0 rfl c2 i hi (F.2.1.1 _ hl args) (fun _ h => h) ?_ hd
      (hk _ _ _ _ h9 p l e R s m args below meth c H locs cells slots ls n0 hfl F hr hl0 ⟨hy, hs.2⟩ hS h1 h2)
    rw [List.getElem?_mapIdx, hf]
    show some (jm_rv _) = _
    unfold jm_rv
    rw [if_neg hne]
end
-- puts, at the machine's level: the cell holds the new value, all else is as it was
section
variable {p : Program} {l : Launch} {e : Env} {R : Room} {s : State} {m : MethodId} {args : Array Value} {below : List Frame} {meth : Method} {c : Code} {H : Heap} {locs : List Loc} {cells slots : Nat} {Q : State → Prop}
variable {cc : ByteArray} {pc : Nat} {ls : Array Slot} {rest : List Value} {g : jm_G} {a : Nat}
theorem jm_put {own C : String} {T : u_T} {N t i index : Nat} {ty : Nat → FieldType} {v : Value} {fs : List Value} (hexec : p.tables.exec = Jvm.exec) (hb : c.code = cc) (hts : ∀ w ∈ jm_tb, w.before args s = true) (hc : jm_ci t C T N ty) (hown : s.vm.findClass own = some m.cls) (hK : va_K (gD g) classes (jm_ty g) s)
    (hP : va_at (gD g) classes (a, .inr (t - 1, fs)) H) (hi : i < N) (hlen : fs.length = N) (hlink : Cond.fieldLink own index (T i).1 (T i).2.1 (T i).2.2.1 ∈ jm_tb) (hfin : (T i).2.2.2 = false) (hn : narrow (ty i) v = v) (hfit : fits (ty i) v = true)
    (hdg : decode cc pc = .ok (.putfield index, 3)) (kk : ∀ (H1 : Heap) (i1 : Nat), va_at (gD g) classes (a, .inr (t - 1, fs.set i v)) H1 → H1.size = H.size → (∀ q : Nat, q ≠ a → H1[q]? = H[q]?) → W p l e R s m args below meth c H1 (locs ++ [⟨a, i1⟩]) cells slots Q (F0 m (pc + 3) ls rest)) :
    W p l e R s m args below meth c H locs cells slots Q (F0 m pc ls (v :: .ref a :: rest)) := by
  obtain ⟨c1, hc2, hin, hty, hnm, c6, -⟩ := hc
  have hap := va_apart (own := own) hts hin ty hty hnm hK hc2
  obtain ⟨r, h1, cell, q1, q2, q3, q4⟩ := hP
  have hr : r = (C, T, N) := Option.some.inj (h1.symm.trans hc2)
  subst hr
  obtain ⟨hS, hfc, kC, hkC, hkind⟩ := hK.1 _ _ hc2
  obtain ⟨cf, kf, fi, f, hi2, hsl⟩ := hS i hi
  have hlay := hts _ (hin _ (u_in_lay hi))
  unfold u_lay at hlay
  rw [if_neg (by rw [hfin]; decide)] at hlay
  have hst := (u_facts hfc hkC (u_lays hts hin hi) hi2).1
  have h6 := u_store hfc hkC hkind hlay hi2 (hty i hi) hn hfit
  refine W.putK hexec hb (f := f) ⟨hown, hts _ hlink, ⟨_, _, _, hi2⟩, hst⟩ (by rw [q2]; exact h6) q1 q3 (by rw [hsl]; exact k2_hasslot (q4 i hi)) rfl rfl hdg fun H' e1 e2 e3 => ?_
  rw [hsl] at e1
  exact kk H' _ ⟨_, hc2, t_OB.to (V := updV (vp_V fs) i v) ⟨_, e1, q2, q3, t_set q4 hap hi v⟩ (fun j _ => vp_updV_set (by rw [hlen]; exact hi) v j)⟩ e2 e3
theorem jm_putN {own C host : String} {T : u_T} {N t i index : Nat} {ty : Nat → FieldType} {v : Value} {fs : List Value} (hexec : p.tables.exec = Jvm.exec) (hb : c.code = cc) (hts : ∀ w ∈ jm_tb, w.before args s = true) (hc : jm_ci t C T N ty) (hown : s.vm.findClass own = some m.cls) (hK : va_K (gD g) classes (jm_ty g) s)
    (hP : va_at (gD g) classes (a, .inr (t - 1, fs)) H) (hi : i < N) (hlen : fs.length = N) (hlink : Cond.fieldLinkNest own index (T i).1 (T i).2.1 (T i).2.2.1 host ∈ jm_tb) (hfin : (T i).2.2.2 = false) (hn : narrow (ty i) v = v) (hfit : fits (ty i) v = true)
    (hdg : decode cc pc = .ok (.putfield index, 3)) (kk : ∀ (H1 : Heap) (i1 : Nat), va_at (gD g) classes (a, .inr (t - 1, fs.set i v)) H1 → H1.size = H.size → (∀ q : Nat, q ≠ a → H1[q]? = H[q]?) → W p l e R s m args below meth c H1 (locs ++ [⟨a, i1⟩]) cells slots Q (F0 m (pc + 3) ls rest)) :
    W p l e R s m args below meth c H locs cells slots Q (F0 m pc ls (v :: .ref a :: rest)) := by
  obtain ⟨c1, hc2, hin, hty, hnm, c6, -⟩ := hc
  have hap := va_apart (own := own) hts hin ty hty hnm hK hc2
  obtain ⟨r, h1, cell, q1, q2, q3, q4⟩ := hP
  have hr : r = (C, T, N) := Option.some.inj (h1.symm.trans hc2)
  subst hr
  obtain ⟨hS, hfc, kC, hkC, hkind⟩ := hK.1 _ _ hc2
  obtain ⟨cf, kf, fi, f, hi2, hsl⟩ := hS i hi
  have hlay := hts _ (hin _ (u_in_lay hi))
  unfold u_lay at hlay
  rw [if_neg (by rw [hfin]; decide)] at hlay
  have hst := (u_facts hfc hkC (u_lays hts hin hi) hi2).1
  have h6 := u_store hfc hkC hkind hlay hi2 (hty i hi) hn hfit
  refine va_WputK hexec hb (f := f) hown (hts _ hlink) hi2 hst (by rw [q2]; exact h6) q1 q3 (by rw [hsl]; exact k2_hasslot (q4 i hi)) rfl rfl hdg fun H' e1 e2 e3 => ?_
  rw [hsl] at e1
  exact kk H' _ ⟨_, hc2, t_OB.to (V := updV (vp_V fs) i v) ⟨_, e1, q2, q3, t_set q4 hap hi v⟩ (fun j _ => vp_updV_set (by rw [hlen]; exact hi) v j)⟩ e2 e3
theorem jm_putF {own C : String} {T : u_T} {N t i index : Nat} {ty : Nat → FieldType} {v : Value} {fs : List Value} (hexec : p.tables.exec = Jvm.exec) (hb : c.code = cc) (hts : ∀ w ∈ jm_tb, w.before args s = true) (hc : jm_ci t C T N ty) (hown : s.vm.findClass own = some m.cls) (hK : va_K (gD g) classes (jm_ty g) s)
    (hP : va_at (gD g) classes (a, .inr (t - 1, fs)) H) (hi : i < N) (hlen : fs.length = N) (hlink : Cond.fieldLink own index (T i).1 (T i).2.1 (T i).2.2.1 ∈ jm_tb) (hfin : (T i).2.2.2 = true) (hin2 : meth.name = "<init>") (hdecl : (T i).1 = own) (hn : narrow (ty i) v = v) (hfit : fits (ty i) v = true)
    (hdg : decode cc pc = .ok (.putfield index, 3)) (kk : ∀ (H1 : Heap) (i1 : Nat), va_at (gD g) classes (a, .inr (t - 1, fs.set i v)) H1 → H1.size = H.size → (∀ q : Nat, q ≠ a → H1[q]? = H[q]?) → W p l e R s m args below meth c H1 (locs ++ [⟨a, i1⟩]) cells slots Q (F0 m (pc + 3) ls rest)) :
    W p l e R s m args below meth c H locs cells slots Q (F0 m pc ls (v :: .ref a :: rest)) := by
  obtain ⟨c1, hc2, hin, hty, hnm, c6, -⟩ := hc
  have hap := va_apart (own := own) hts hin ty hty hnm hK hc2
  obtain ⟨r, h1, cell, q1, q2, q3, q4⟩ := hP
  have hr : r = (C, T, N) := Option.some.inj (h1.symm.trans hc2)
  subst hr
  obtain ⟨hS, hfc, kC, hkC, hkind⟩ := hK.1 _ _ hc2
  obtain ⟨cf, kf, fi, f, hi2, hsl⟩ := hS i hi
  have hlay := hts _ (hin _ (u_in_lay hi))
  unfold u_lay at hlay
  rw [if_pos hfin] at hlay
  have hst := (u_facts hfc hkC (u_lays hts hin hi) hi2).1
  have hcf : m.cls = cf := by
    obtain ⟨_, _, c', _, _, _, -, -, hf', -, -, -, hown2, -⟩ := Cond.laysFinal_spec hlay
    have e1 : c' = cf := by have := hi2.symm.trans hf'; simp at this; exact this.1.symm
    rw [hdecl] at hown2
    rw [← e1]; exact Option.some.inj (hown.symm.trans hown2)
  have h6 := u_fits hfc hkC hkind (Or.inr hlay) hi2 (hty i hi) hn hfit
  refine W.putFinK hexec hb hown (hts _ hlink) hi2 hst hcf hin2 (by rw [q2]; exact h6) q1 q3 (by rw [hsl]; exact k2_hasslot (q4 i hi)) rfl rfl hdg fun H' e1 e2 e3 => ?_
  rw [hsl] at e1
  exact kk H' _ ⟨_, hc2, t_OB.to (V := updV (vp_V fs) i v) ⟨_, e1, q2, q3, t_set q4 hap hi v⟩ (fun j _ => vp_updV_set (by rw [hlen]; exact hi) v j)⟩ e2 e3
end
