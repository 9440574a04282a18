/-! arrays -/
section
variable {p : Program} {l : Launch} {e : Env} {R : Room} {s : State} {m : MethodId} {args : Array Value} {below : List Frame} {meth : Method} {c : Code} {H : Heap} {locs : List Loc} {cells slots : Nat} {Q : State → Prop}
variable {cc : ByteArray} {pc : Nat} {ls : Array Slot} {rest : List Value} {g : jm_G} {a : Nat}
theorem jm_iast (hexec : p.tables.exec = Jvm.exec) (hb : c.code = cc) (hK : va_K (gD g) classes (jm_ty g) s) {n : Nat} {f : Nat → Int32} (ha : va_at (gD g) classes (a, .inl (gC g 8, n, .inl f)) H) {i x : Int32} (hin : vp_in i n) (hdg : decode cc pc = .ok (.iastore, 1))
    (kk : ∀ (H1 : Heap) (i1 : Nat), va_at (gD g) classes (a, .inl (gC g 8, n, .inl (jm_u f i.toNatClampNeg x))) H1 → H1.size = H.size → (∀ q : Nat, q ≠ a → H1[q]? = H[q]?) → W p l e R s m args below meth c H1 (locs ++ [⟨a, i1⟩]) cells slots Q (F0 m (pc + 1) ls rest)) :
    W p l e R s m args below meth c H locs cells slots Q (F0 m pc ls (.int x :: .int i :: .ref a :: rest)) := by
  refine W.iast hexec hb (jm_P0 ha 0 _ rfl) ((hK.2 0 _ rfl).1 n (fun j => .int (f j))) (fun q => by cases q) (by show ¬ (i < 0 ∨ (arrV _ _ _).slots.size ≤ _); rw [arrV_size]; exact hin) rfl rfl hdg fun H1 e z oq => ?_
  refine kk H1 _ ?_ z oq
  show H1[a]? = some (vp_cell _ _)
  rw [e]
  rw [vp_cell_i, vp_cell_i, arrV_store]
  congr 2
  funext q
  by_cases hq : q = i.toNatClampNeg
  · subst hq
    simp [updV, jm_u]
  · simp [updV, jm_u, hq]
theorem jm_zast (hexec : p.tables.exec = Jvm.exec) (hb : c.code = cc) (hK : va_K (gD g) classes (jm_ty g) s) {n : Nat} {f : Nat → Int32} (ha : va_at (gD g) classes (a, .inl (gC g 9, n, .inl f)) H) {i x : Int32} (hx01 : x = 0 ∨ x = 1) (hin : vp_in i n) (hdg : decode cc pc = .ok (.bastore, 1))
    (kk : ∀ (H1 : Heap) (i1 : Nat), va_at (gD g) classes (a, .inl (gC g 9, n, .inl (jm_u f i.toNatClampNeg x))) H1 → H1.size = H.size → (∀ q : Nat, q ≠ a → H1[q]? = H[q]?) → W p l e R s m args below meth c H1 (locs ++ [⟨a, i1⟩]) cells slots Q (F0 m (pc + 1) ls rest)) :
    W p l e R s m args below meth c H locs cells slots Q (F0 m pc ls (.int x :: .int i :: .ref a :: rest)) := by
  refine W.zast hexec hb (jm_P0 ha 0 _ rfl) ((hK.2 1 _ rfl).1 n (fun j => .int (f j))) (fun q => by cases q) (by show ¬ (i < 0 ∨ (arrV _ _ _).slots.size ≤ _); rw [arrV_size]; exact hin) rfl rfl hdg fun H1 e z oq => ?_
  refine kk H1 _ ?_ z oq
  show H1[a]? = some (vp_cell _ _)
  rw [e, (jm_zb hx01).1]
  rw [vp_cell_i, vp_cell_i, arrV_store]
  congr 2
  funext q
  by_cases hq : q = i.toNatClampNeg
  · subst hq
    simp [updV, jm_u]
  · simp [updV, jm_u, hq]
theorem jm_rast (hexec : p.tables.exec = Jvm.exec) (hb : c.code = cc) (hK : va_K (gD g) classes (jm_ty g) s) (t t0 ci : Nat) {r : vw_C} {n v : Nat} {vs : List Value} {f : Nat → Option Nat} (ha : va_at (gD g) classes (a, .inl (gC g t, n, .inr (.inr (.inr (.inr f))))) H) (ht : (jm_ty g)[t0]? = some (gC g t, .object r.1)) (hv : va_at (gD g) classes (v, .inr (ci, vs)) H) (hc : classes[ci]? = some r) {i : Int32} (hin : vp_in i n) (hdg : decode cc pc = .ok (.aastore, 1))
    (kk : ∀ (H1 : Heap) (i1 : Nat), va_at (gD g) classes (a, .inl (gC g t, n, .inr (.inr (.inr (.inr (jm_u f i.toNatClampNeg (some v))))))) H1 → H1.size = H.size → (∀ q : Nat, q ≠ a → H1[q]? = H[q]?) → W p l e R s m args below meth c H1 (locs ++ [⟨a, i1⟩]) cells slots Q (F0 m (pc + 1) ls rest)) :
    W p l e R s m args below meth c H locs cells slots Q (F0 m pc ls (.ref v :: .int i :: .ref a :: rest)) := by
  have hlt : i.toNatClampNeg < n := Nat.not_le.mp fun q => hin (Or.inr q)
  have h0 : ¬ i < 0 := fun q => hin (Or.inl q)
  obtain ⟨r', hr', cellV, g1, g2, g3, -⟩ := hv
  have hcls := (hK.1 ci r hc).2
  obtain ⟨kA, comp, k1, k2, k3, -⟩ := (hK.2 t0 _ ht).2
  have hcomp : comp = (gD g).1 ci := Option.some.inj (k3.symm.trans hcls.1)
  subst hcomp
  obtain ⟨kC, hkC, -⟩ := hcls.2
  refine W.aast hexec hb (jm_P0 ha 0 _ rfl) (fun q h => by cases h) (fun h => by cases h) k1 k2 rfl hkC ⟨h0, by show _ < (arrV _ _ _).slots.size; rw [arrV_size]; exact hlt⟩ g1 (fun q h => by rw [g3] at h; cases h) (by rw [g2]; exact hkC) (by rw [g2]; exact va_assign hcls) rfl rfl hdg fun H1 e z oq => ?_
  refine kk H1 _ ?_ z oq
  show H1[a]? = some (vp_cell _ _)
  rw [e]
  rw [vp_cell_q, vp_cell_q, arrV_store]
  congr 2
  funext q
  by_cases hq : q = i.toNatClampNeg
  · subst hq
    simp [updV, jm_u, va_rf]
  · simp [updV, jm_u, hq]
end
section
variable {id pc : Nat}
def oIa (n : Nat) : jm_Op := fun g L stk σ k => match stk with
  | .inl i :: .inr (.inr (t, q)) :: r => cond (Nat.beq t 8) (vp_in i (gln g q) ∧ k n L (aI (σ.1 q i.toNatClampNeg) :: r) σ) (cond (Nat.beq t 14) (vp_in i (gsL g) ∧ k n L (aI (gsx g i.toNatClampNeg) :: r) σ) False)
  | _ => False
theorem s_iaload (hd : decode (mC id) pc = .ok (.iaload, 1)) : jm_sn id pc (oIa (pc + 1)) := by
  intro g d L stk σ K k h hk
  match stk, h with
  | .inl i :: .inr (.inr (t, q)) :: r, h =>
    intro p l e R s m args below meth c H locs cells slots ls n0 hfl F hr hl0 hs hS h1 h2
    have hq : gdm g q = t ∧ q < jm_hs σ := hs.2.1
    by_cases h8 : Nat.beq t 8 = true
    · have h9 : vp_in i (gln g q) ∧ k (pc + 1) L (aI (σ.1 q i.toNatClampNeg) :: r) σ := by
        simp only [oIa, h8, cond_true] at h; exact h
      have ht := Nat.eq_of_beq_eq_true h8
      subst ht
      exact va_iald F.1.1 F.1.2.1 F.2.1.2.1 (jm_P0 (jm_P1 hr hq (jm_E_i (Or.inl rfl)))) 0 0 rfl rfl h9.1 hd (hk _ _ _ _ h9.2 p l e R s m args below meth c H locs cells slots ls n0 hfl F hr hl0 ⟨trivial, hs.2.2⟩ hS h1 h2)
    · simp only [oIa, Bool.not_eq_true] at h h8
      rw [h8, cond_false] at h
      obtain ⟨h14, h9⟩ := jm_cnd h
      have ht := Nat.eq_of_beq_eq_true h14
      subst ht
      obtain ⟨-, -, hbs, ⟨-, -, -, hgs⟩, -, ⟨hsb, hX⟩, -⟩ := F.2.1
      have hqe := hgs q hq.1
      subst hqe
      exact va_sld F.1.1 F.1.2.1 hX (by omega) (by omega) hS h9.1 hd (hk _ _ _ _ h9.2 p l e R s m args below meth c H locs cells slots ls n0 hfl F hr hl0 ⟨trivial, hs.2.2⟩ hS h1 h2)
def oZa (n : Nat) : jm_Op := fun g L stk σ k => match stk with
  | .inl i :: .inr (.inr (t, q)) :: r => cond (Nat.beq t 9) (vp_in i (gln g q) ∧ k n L (aI (σ.1 q i.toNatClampNeg) :: r) σ) False
  | _ => False
theorem s_baload (hd : decode (mC id) pc = .ok (.baload, 1)) : jm_sn id pc (oZa (pc + 1)) := by
  intro g d L stk σ K k h hk
  match stk, h with
  | .inl i :: .inr (.inr (t, q)) :: r, h =>
    obtain ⟨hb, h9⟩ := jm_cnd h
    have ht := Nat.eq_of_beq_eq_true hb
    subst ht
    intro p l e R s m args below meth c H locs cells slots ls n0 hfl F hr hl0 hs hS h1 h2
    exact va_zald F.1.1 F.1.2.1 F.2.1.2.1 (jm_P0 (jm_P1 hr hs.2.1 (jm_E_i (Or.inr rfl)))) 0 1 rfl rfl h9.1 hd (hk _ _ _ _ h9.2 p l e R s m args below meth c H locs cells slots ls n0 hfl F hr hl0 ⟨trivial, hs.2.2⟩ hS h1 h2)
/-- an array of references: 10 of 5, 11 of 3, 12 of 13 -/
def oRaT (t2 n : Nat) : jm_Op := fun g L stk σ k => match stk with
  | .inl i :: .inr (.inr (t, q)) :: r => (10 ≤ t ∧ t ≤ 12 ∧ jm_rt t 0 = some t2) ∧ vp_in i (gln g q) ∧ σ.2.1 q i.toNatClampNeg ≠ 0 ∧ k n L (aR t2 (σ.2.1 q i.toNatClampNeg - 1) :: r) σ
  | _ => False
theorem jm_rt_a {t i : Nat} (ht : 10 ≤ t ∧ t ≤ 12) : jm_rt t i = jm_rt t 0 := by
  have h : t = 10 ∨ t = 11 ∨ t = 12 := by omega
  rcases h with rfl | rfl | rfl <;> rfl
theorem s_aaloadT {t2 : Nat} (hd : decode (mC id) pc = .ok (.aaload, 1)) : jm_sn id pc (oRaT t2 (pc + 1)) := by
  intro g d L stk σ K k h hk
  match stk, h with
  | .inl i :: .inr (.inr (t, q)) :: r, h =>
    obtain ⟨⟨t1, t3, t4⟩, hin, hne, h9⟩ := h
    intro p l e R s m args below meth c H locs cells slots ls n0 hfl F hr hl0 hs hS h1 h2
    have hq : gdm g q = t ∧ q < jm_hs σ := hs.2.1
    have hy := hr.2.2.1 q hq.2 i.toNatClampNeg t2 (by rw [hq.1, jm_rt_a ⟨t1, t3⟩]; exact t4) hne
    have hP := jm_P0 (jm_P1 hr hq (jm_E_r ⟨t1, t3⟩))
    have hv : va_rf (jm_on (σ.2.1 q i.toNatClampNeg)) = .ref (σ.2.1 q i.toNatClampNeg - 1) := by
      rw [jm_on_rf]; unfold jm_rv; rw [if_neg hne]
    have key : ∀ (t0 : Nat) (C : String), (jm_ty g)[t0]? = some (gC g t, .object C) → W p l e R s m args below meth c H locs cells slots (jm_Q g s n0 below K) (F0 m pc ls (.int i :: .ref q :: r.map jm_vo)) := fun t0 C h0 => by
      refine va_aldq F.1.1 F.1.2.1 F.2.1.2.1 hP 0 t0 rfl h0 hin hd ?_
      rw [hv]
      exact hk _ _ _ _ h9 p l e R s m args below meth c H locs cells slots ls n0 hfl F hr hl0 ⟨hy, hs.2.2⟩ hS h1 h2
    have h5 : t = 10 ∨ t = 11 ∨ t = 12 := by omega
    rcases h5 with rfl | rfl | rfl
    · exact key 2 _ rfl
    · exact key 3 _ rfl
    · exact key 4 _ rfl
def oRa (n : Nat) : jm_Op := fun g L stk σ k => match stk with
  | .inl i :: .inr (.inr (t, q)) :: r => cond (Nat.beq t 10) (vp_in i (gln g q) ∧ σ.2.1 q i.toNatClampNeg ≠ 0 ∧ k n L (aR 5 (σ.2.1 q i.toNatClampNeg - 1) :: r) σ) (cond (Nat.beq t 11) (vp_in i (gln g q) ∧ σ.2.1 q i.toNatClampNeg ≠ 0 ∧ k n L (aR 3 (σ.2.1 q i.toNatClampNeg - 1) :: r) σ)
      (cond (Nat.beq t 12) (vp_in i (gln g q) ∧ σ.2.1 q i.toNatClampNeg ≠ 0 ∧ k n L (aR 13 (σ.2.1 q i.toNatClampNeg - 1) :: r) σ) False))
  | _ => False
theorem s_aaload (hd : decode (mC id) pc = .ok (.aaload, 1)) : jm_sn id pc (oRa (pc + 1)) := by
  intro g d L stk σ K k h hk
  match stk, h with
  | .inl i :: .inr (.inr (t, q)) :: r, h =>
    simp only [oRa] at h
    cases h1 : Nat.beq t 10 with
    | true =>
      rw [h1, cond_true] at h
      have ht := Nat.eq_of_beq_eq_true h1
      subst ht
      exact s_aaloadT (t2 := 5) hd g d L _ σ K k ⟨by decide, h⟩ hk
    | false =>
      rw [h1, cond_false] at h
      cases h2 : Nat.beq t 11 with
      | true =>
        rw [h2, cond_true] at h
        have ht := Nat.eq_of_beq_eq_true h2
        subst ht
        exact s_aaloadT (t2 := 3) hd g d L _ σ K k ⟨by decide, h⟩ hk
      | false =>
        rw [h2, cond_false] at h
        obtain ⟨h3, h⟩ := jm_cnd h
        have ht := Nat.eq_of_beq_eq_true h3
        subst ht
        exact s_aaloadT (t2 := 13) hd g d L _ σ K k ⟨by decide, h⟩ hk
def oIw (n : Nat) : jm_Op := fun g L stk σ k => match stk with
  | .inl x :: .inl i :: .inr (.inr (t, q)) :: r => cond (Nat.beq t 8) (vp_in i (gln g q) ∧ k n L r (jm_wi σ q i.toNatClampNeg x)) False
  | _ => False
theorem jm_rt_i {t i : Nat} (ht : t = 8 ∨ t = 9) : jm_rt t i = none := by
  rcases ht with rfl | rfl <;> rfl
theorem s_iastore (hd : decode (mC id) pc = .ok (.iastore, 1)) : jm_sn id pc (oIw (pc + 1)) := by
  intro g d L stk σ K k h hk
  match stk, h with
  | .inl x :: .inl i :: .inr (.inr (t, q)) :: r, h =>
    obtain ⟨hb, h9⟩ := jm_cnd h
    have ht := Nat.eq_of_beq_eq_true hb
    subst ht
    intro p l e R s m args below meth c H locs cells slots ls n0 hfl F hr hl0 hs hS h1 h2
    have hq : gdm g q = 8 ∧ q < jm_hs σ := hs.2.2.1
    refine jm_iast F.1.1 F.1.2.1 F.2.1.2.1 (jm_P1 hr hq (jm_E_i (Or.inl rfl))) h9.1 hd (fun H1 i1 e1 z1 o1 => ?_)
    have he : jm_E g (gdm g q) (jm_wi σ q i.toNatClampNeg x) q = some (.inl (gC g 8, gln g q, .inl (jm_u (σ.1 q) i.toNatClampNeg x))) := by
      rw [hq.1, jm_E_i (Or.inl rfl)]
      simp [jm_wi, jm_u_self]
    obtain ⟨hr1, hS1⟩ := jm_af (i1 := i1) (σ' := jm_wi σ q i.toNatClampNeg x) hr hS z1 o1 rfl jm_wi_off he e1 (fun k t' hk hne => hr.2.2.1 q hq.2 k t' hk hne) (jm_nz (q := q) F.2.1 (by rw [hq.1]; decide) (by rw [hq.1]; decide)).1
    exact hk _ _ _ _ h9.2 p l e R s m args below meth c H1 _ cells slots ls n0 hfl F hr1 hl0 hs.2.2.2 hS1 h1 h2
def oZw (n : Nat) : jm_Op := fun g L stk σ k => match stk with
  | .inl x :: .inl i :: .inr (.inr (t, q)) :: r => cond (Nat.beq t 9) ((x = 0 ∨ x = 1) ∧ vp_in i (gln g q) ∧ k n L r (jm_wi σ q i.toNatClampNeg x)) False
  | _ => False
theorem s_bastore (hd : decode (mC id) pc = .ok (.bastore, 1)) : jm_sn id pc (oZw (pc + 1)) := by
  intro g d L stk σ K k h hk
  match stk, h with
  | .inl x :: .inl i :: .inr (.inr (t, q)) :: r, h =>
    obtain ⟨hb, h9⟩ := jm_cnd h
    have ht := Nat.eq_of_beq_eq_true hb
    subst ht
    intro p l e R s m args below meth c H locs cells slots ls n0 hfl F hr hl0 hs hS h1 h2
    have hq : gdm g q = 9 ∧ q < jm_hs σ := hs.2.2.1
    refine jm_zast F.1.1 F.1.2.1 F.2.1.2.1 (jm_P1 hr hq (jm_E_i (Or.inr rfl))) h9.1 h9.2.1 hd (fun H1 i1 e1 z1 o1 => ?_)
    have he : jm_E g (gdm g q) (jm_wi σ q i.toNatClampNeg x) q = some (.inl (gC g 9, gln g q, .inl (jm_u (σ.1 q) i.toNatClampNeg x))) := by
      rw [hq.1, jm_E_i (Or.inr rfl)]
      simp [jm_wi, jm_u_self]
    obtain ⟨hr1, hS1⟩ := jm_af (i1 := i1) (σ' := jm_wi σ q i.toNatClampNeg x) hr hS z1 o1 rfl jm_wi_off he e1 (fun k t' hk hne => hr.2.2.1 q hq.2 k t' hk hne) (jm_nz (q := q) F.2.1 (by rw [hq.1]; decide) (by rw [hq.1]; decide)).1
    exact hk _ _ _ _ h9.2.2 p l e R s m args below meth c H1 _ cells slots ls n0 hfl F hr1 hl0 hs.2.2.2 hS1 h1 h2
/-- aastore: 10 of 5, 11 of 3 -/
def oRw (n : Nat) : jm_Op := fun g L stk σ k => match stk with
  | .inr (.inr (t2, a)) :: .inl i :: .inr (.inr (t, q)) :: r => cond (Nat.beq t 10 && Nat.beq t2 5 || Nat.beq t 11 && Nat.beq t2 3) (vp_in i (gln g q) ∧ k n L r (jm_wr σ q i.toNatClampNeg (a + 1))) False
  | _ => False
theorem s_aastore (hd : decode (mC id) pc = .ok (.aastore, 1)) : jm_sn id pc (oRw (pc + 1)) := by
  intro g d L stk σ K k h hk
  match stk, h with
  | .inr (.inr (t2, a)) :: .inl i :: .inr (.inr (t, q)) :: r, h =>
    obtain ⟨hb, h9⟩ := jm_cnd h
    intro p l e R s m args below meth c H locs cells slots ls n0 hfl F hr hl0 hs hS h1 h2
    have hq : gdm g q = t ∧ q < jm_hs σ := hs.2.2.1
    have ha : gdm g a = t2 ∧ a < jm_hs σ := hs.1
    have ht : (t = 10 ∧ t2 = 5) ∨ (t = 11 ∧ t2 = 3) := by
      simp only [Bool.or_eq_true, Bool.and_eq_true] at hb
      rcases hb with ⟨b1, b2⟩ | ⟨b1, b2⟩
      · exact Or.inl ⟨Nat.eq_of_beq_eq_true b1, Nat.eq_of_beq_eq_true b2⟩
      · exact Or.inr ⟨Nat.eq_of_beq_eq_true b1, Nat.eq_of_beq_eq_true b2⟩
    have ht1 : 10 ≤ t ∧ t ≤ 12 := by omega
    have fin : ∀ (H1 : Heap) (i1 : Nat), va_at (gD g) classes (q, .inl (gC g t, gln g q, .inr (.inr (.inr (.inr (jm_u (fun i => jm_on (σ.2.1 q i)) i.toNatClampNeg (some a))))))) H1 → H1.size = H.size → (∀ x : Nat, x ≠ q → H1[x]? = H[x]?) → W p l e R s m args below meth c H1 (locs ++ [⟨q, i1⟩]) cells slots (jm_Q g s n0 below K) (F0 m (pc + 1) ls (r.map jm_vo)) := by
      intro H1 i1 e1 z1 o1
      have he : jm_E g (gdm g q) (jm_wr σ q i.toNatClampNeg (a + 1)) q = some (.inl (gC g t, gln g q, .inr (.inr (.inr (.inr (jm_u (fun i => jm_on (σ.2.1 q i)) i.toNatClampNeg (some a))))))) := by
        rw [hq.1, jm_E_r ht1]
        congr 8
        funext j
        by_cases hj : j = i.toNatClampNeg
        · simp [jm_wr, jm_u, hj, jm_on]
        · simp [jm_wr, jm_u, hj]
      have h8 : ∀ k2 t9, jm_rt (gdm g q) k2 = some t9 → jm_mr (jm_wr σ q i.toNatClampNeg (a + 1)) q k2 ≠ 0 → gdm g (jm_mr (jm_wr σ q i.toNatClampNeg (a + 1)) q k2 - 1) = t9 ∧ jm_mr (jm_wr σ q i.toNatClampNeg (a + 1)) q k2 - 1 < jm_hs σ := by
        intro k2 t9 hk2 hne
        by_cases hk3 : k2 = i.toNatClampNeg
        · subst hk3
          have e5 : jm_mr (jm_wr σ q i.toNatClampNeg (a + 1)) q i.toNatClampNeg = a + 1 := by simp [jm_mr, jm_wr, jm_u]
          rw [e5, Nat.add_sub_cancel]
          refine ⟨?_, ha.2⟩
          rw [ha.1]
          rw [hq.1] at hk2
          rcases ht with ⟨rfl, rfl⟩ | ⟨rfl, rfl⟩ <;> exact Option.some.inj hk2
        · have e5 : jm_mr (jm_wr σ q i.toNatClampNeg (a + 1)) q k2 = jm_mr σ q k2 := by simp [jm_mr, jm_wr, jm_u, hk3]
          rw [e5] at hne ⊢
          exact hr.2.2.1 q hq.2 k2 t9 hk2 hne
      obtain ⟨hr1, hS1⟩ := jm_af (i1 := i1) (σ' := jm_wr σ q i.toNatClampNeg (a + 1)) hr hS z1 o1 rfl jm_wr_off he e1 h8 (jm_nz (q := q) F.2.1 (by rw [hq.1]; omega) (by rw [hq.1]; omega)).1
      exact hk _ _ _ _ h9.2 p l e R s m args below meth c H1 _ cells slots ls n0 hfl F hr1 hl0 hs.2.2.2 hS1 h1 h2
    rcases ht with ⟨rfl, rfl⟩ | ⟨rfl, rfl⟩
    · exact jm_rast (r := (R_P, F_P, 4)) F.1.1 F.1.2.1 F.2.1.2.1 10 2 4 (jm_P1 hr hq (jm_E_r ht1)) rfl (jm_P1 hr ha (jm_E_o (by decide))) rfl h9.1 hd fin
    · exact jm_rast (r := (R_E, F_E, 2)) F.1.1 F.1.2.1 F.2.1.2.1 11 3 2 (jm_P1 hr hq (jm_E_r ht1)) rfl (jm_P1 hr ha (jm_E_o (by decide))) rfl h9.1 hd fin
def oLen (n : Nat) : jm_Op := fun g L stk σ k => match stk with
  | .inr (.inr (t, q)) :: r => cond (Nat.beq t 14) (k n L (aI (nI (gsL g)) :: r) σ) ((8 ≤ t ∧ t ≤ 12) ∧ k n L (aI (nI (gln g q)) :: r) σ)
  | _ => False
theorem s_arraylength (hd : decode (mC id) pc = .ok (.arraylength, 1)) : jm_sn id pc (oLen (pc + 1)) := by
  intro g d L stk σ K k h hk
  match stk, h with
  | .inr (.inr (t, q)) :: r, h =>
    intro p l e R s m args below meth c H locs cells slots ls n0 hfl F hr hl0 hs hS h1 h2
    have hq : gdm g q = t ∧ q < jm_hs σ := hs.1
    by_cases h8 : Nat.beq t 14 = true
    · have h9 : k (pc + 1) L (aI (nI (gsL g)) :: r) σ := by
        simp only [oLen, h8, cond_true] at h; exact h
      have ht := Nat.eq_of_beq_eq_true h8
      subst ht
      obtain ⟨-, -, hbs, ⟨-, -, -, hgs⟩, -, ⟨hsb, hX⟩, -⟩ := F.2.1
      have hqe := hgs q hq.1
      subst hqe
      exact va_slen F.1.1 F.1.2.1 hX (by omega) (by omega) hS hd (hk _ _ _ _ h9 p l e R s m args below meth c H locs cells slots ls n0 hfl F hr hl0 ⟨trivial, hs.2⟩ hS h1 h2)
    · simp only [oLen, Bool.not_eq_true] at h h8
      rw [h8, cond_false] at h
      obtain ⟨ht, h9⟩ := h
      have hJ := hk _ _ _ _ h9 p l e R s m args below meth c H locs cells slots ls n0 hfl F hr hl0 ⟨trivial, hs.2⟩ hS h1 h2
      have h5 : t = 8 ∨ t = 9 ∨ t = 10 ∨ t = 11 ∨ t = 12 := by omega
      rcases h5 with rfl | rfl | rfl | rfl | rfl
      · exact va_alen (x := (gln g q, .inl (σ.1 q))) F.1.1 F.1.2.1 F.2.1.2.1 (jm_P0 (jm_P1 hr hq (jm_E_i (Or.inl rfl)))) 0 0 rfl rfl rfl hd hJ
      · exact va_alen (x := (gln g q, .inl (σ.1 q))) F.1.1 F.1.2.1 F.2.1.2.1 (jm_P0 (jm_P1 hr hq (jm_E_i (Or.inr rfl)))) 0 1 rfl rfl rfl hd hJ
      · exact va_alen (x := (gln g q, .inr (.inr (.inr (.inr (fun i => jm_on (σ.2.1 q i))))))) F.1.1 F.1.2.1 F.2.1.2.1 (jm_P0 (jm_P1 hr hq (jm_E_r (by decide)))) 0 2 rfl rfl rfl hd hJ
      · exact va_alen (x := (gln g q, .inr (.inr (.inr (.inr (fun i => jm_on (σ.2.1 q i))))))) F.1.1 F.1.2.1 F.2.1.2.1 (jm_P0 (jm_P1 hr hq (jm_E_r (by decide)))) 0 3 rfl rfl rfl hd hJ
      · exact va_alen (x := (gln g q, .inr (.inr (.inr (.inr (fun i => jm_on (σ.2.1 q i))))))) F.1.1 F.1.2.1 F.2.1.2.1 (jm_P0 (jm_P1 hr hq (jm_E_r (by decide)))) 0 4 rfl rfl rfl hd hJ
end
