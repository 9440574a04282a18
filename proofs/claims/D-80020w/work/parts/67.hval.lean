/-! the House: vanishes -/
/-- a fraction times a number, so many times -/
def sp_tms (y : Int) : Nat → Int × Int → Option (Int × Int)
  | 0, r => some r
  | e + 1, r => (sp_fr (r.1 * y) (r.2 * 1)).bind (sp_tms y e)
def sp_tvl (bs : Nat → Int) (m : sp_M) : Nat → Nat → Int × Int → Option (Int × Int)
  | 0, _, r => some r
  | k + 1, v, r => (sp_tms (bs v) (sp_ex m v) r).bind (sp_tvl bs m k (v + 1))
/-- the value of a polynomial -/
def sp_vl (bs : Nat → Int) (n : Nat) : sp_P → Int × Int → Option (Int × Int)
  | [], s => some s
  | t :: r, s => (sp_tvl bs t.2.2 n 0 (t.1, t.2.1)).bind (fun x => (sp_fr (s.1 * x.2 + x.1 * s.2) (s.2 * x.2)).bind (sp_vl bs n r))
/-- a fraction within the bounds -/
def rbd (r : Int × Int) : Prop := r.1.natAbs ≤ 1000000000 ∧ 1 ≤ r.2 ∧ r.2 ≤ 1000000000
theorem rbd_fr {a b : Int} {r : Int × Int} (hb : b ≠ 0) (h : sp_fr a b = some r) : rbd r := ⟨(sp_fr_b hb h).1, (sp_fr_b hb h).2.1, (sp_fr_b hb h).2.2.1⟩
def s4 (a b c d : Int32) (v : Nat) : Int := match v with
  | 0 => a.toInt
  | 1 => b.toInt
  | 2 => c.toInt
  | _ => d.toInt
/-- how a value ends -/
def jZ (σ : jm_S) (x : Nat) (o : Option (Int × Int)) : jm_O → Prop := fun u => ∃ f : Nat → Nat → Int32, (∀ q, q ≠ x → f q = σ.1 q) ∧ ((∃ s, o = some s ∧ u = ((f, σ.2), .inl (some (aI (sp_bi (decide (s.1 = 0))))))) ∨ (o = none ∧ u = jT σ f (-7)))
section
variable {g : jm_G} {d : Nat} {σ : jm_S} {h : Nat} {S : sp_H}
theorem c_value {pa n : Nat} {p : sp_P} {a b c dd : Int32} (hH : HL g σ h) (h0 : σ.1 h 0 = nI n) (hn : n ≤ 4) (hpl : pl g σ pa) (hP : PA σ.1 pa p) (hpw : sp_pw p) (hpa : pa + 3 < h + 1524) (hb : ∀ v, v < n → (s4 a b c dd v).natAbs ≤ 1000) (hr : sp_rm g σ) :
    J g (d + 6) 39 0 [some (aR 1 h), some (aR 5 pa), some (aI a), some (aI b), some (aI c), some (aI dd), none, none, none, none, none, none, none, none] [] σ (jZ σ (h + 1524) (sp_vl (s4 a b c dd) n p (0, 1))) := by
  have hl := hpw.1
  have fin : ∀ (f : Nat → Nat → Int32) (s : Int × Int) (z7 z8 z9 z10 z11 z12 z13 : Option jm_V), rbd s → (∀ q, q ≠ h + 1524 → f q = σ.1 q) → sp_vl (s4 a b c dd) n p (0, 1) = some s → J g (d + 6) 39 184 [some (aR 1 h), some (aR 5 pa), some (aI a), some (aI b), some (aI c), some (aI dd), some (aI (sp_i s.1)), z7, z8, z9, z10, z11, z12, z13] [] (f, σ.2) (jZ σ (h + 1524) (sp_vl (s4 a b c dd) n p (0, 1))) := by
    intro f s z7 z8 z9 z10 z11 z12 z13 hs hf he
    refine jm_run ok_H_valueIsZero [] 90 (fun kk hk => ?_)
    conv => whnf
    rw [sp_i0]
    refine bi_ne rfl rfl (fun q => ?_) (fun q => ?_) (by have := hs.1; omega) (by decide)
    · conv => whnf
      exact hk _ _ _ _ (r_H_valueIsZero_194 ⟨f, hf, Or.inl ⟨s, he, by rw [decide_eq_false q]; rfl⟩⟩)
    · conv => whnf
      exact hk _ _ _ _ (r_H_valueIsZero_194 ⟨f, hf, Or.inl ⟨s, he, by rw [decide_eq_true q]; rfl⟩⟩)
  have inner : ∀ (e : Nat) (r s : Int × Int) (y : Int) (f : Nat → Nat → Int32) (k v : Nat), e ≤ 30 → y.natAbs ≤ 1000 → rbd r → (∀ q, q ≠ h + 1524 → f q = σ.1 q) →
      (∀ (r' : Int × Int) (f' : Nat → Nat → Int32) (z12 z13 : Option jm_V), sp_tms y e r = some r' → rbd r' → (∀ q, q ≠ h + 1524 → f' q = σ.1 q) → J g (d + 6) 39 139 [some (aR 1 h), some (aR 5 pa), some (aI a), some (aI b), some (aI c), some (aI dd), some (aI (sp_i s.1)), some (aI (sp_i s.2)), some (aI (nI k)), some (aI (sp_i r'.1)), some (aI (sp_i r'.2)), some (aI (nI v)), z12, z13] [] (f', σ.2) (jZ σ (h + 1524) (sp_vl (s4 a b c dd) n p (0, 1)))) →
      (sp_tms y e r = none → sp_vl (s4 a b c dd) n p (0, 1) = none) →
      J g (d + 6) 39 96 [some (aR 1 h), some (aR 5 pa), some (aI a), some (aI b), some (aI c), some (aI dd), some (aI (sp_i s.1)), some (aI (sp_i s.2)), some (aI (nI k)), some (aI (sp_i r.1)), some (aI (sp_i r.2)), some (aI (nI v)), some (aI (sp_i y)), some (aI (nI e))] [] (f, σ.2) (jZ σ (h + 1524) (sp_vl (s4 a b c dd) n p (0, 1))) := by
    intro e
    induction e with
    | zero =>
      intro r s y f k v he hy hrb hf hnx hno
      refine jm_run ok_H_valueIsZero [96, 139] 90 (fun kk hk => ?_)
      conv => whnf
      refine b_le (a := 0) (b := 0) rfl rfl (fun _ => ?_) (fun h => by omega)
      conv => whnf
      exact hk _ _ _ _ (hnx r f _ _ rfl hrb hf)
    | succ e ih =>
      intro r s y f k v he hy hrb hf hnx hno
      obtain ⟨rb1, rb2, rb3⟩ := id hrb
      refine jm_run ok_H_valueIsZero [96, 139] 90 (fun kk hk => ?_)
      conv => whnf
      refine b_le (a := e + 1) (b := 0) rfl rfl (fun h => by omega) (fun _ => ?_)
      conv => whnf
      refine jg hH.fx ?_
      conv => whnf
      refine hk _ _ _ _ (k_H_valueIsZero_112 rfl (c_ftimes (σ := (f, σ.2)) (D := 1) rb1 (by omega) (by omega) (by decide) (by omega) (by decide) hr) (fun u hu => ?_))
      have hne : r.2 * 1 ≠ 0 := by omega
      refine sp_set_el2 hu (fun h0 hu => ?_) (fun r1 f1 hfr hu hf1 hx0 hx1 => ?_)
      · subst hu
        exact ⟨f, hf, Or.inr ⟨hno (by rw [sp_tms, h0]; rfl), rfl⟩⟩
      · subst hu
        have e1 : sp_tms y (e + 1) r = sp_tms y e r1 := by rw [sp_tms, hfr]; rfl
        show J g (d + 6) 39 115 _ _ (f1, σ.2) _
        refine jm_run ok_H_valueIsZero [96, 139] 90 (fun kk hk => ?_)
        conv => whnf
        refine jg hH.fx ?_
        conv => whnf
        rw [show (f1, σ.2).1 (h + 1524) 0 = sp_i r1.1 from hx0]
        refine jg hH.fx ?_
        conv => whnf
        rw [show (f1, σ.2).1 (h + 1524) 1 = sp_i r1.2 from hx1, pk_m1]
        exact hk _ _ _ _ (ih r1 s y f1 k v (by omega) hy (rbd_fr hne hfr) (fun q hq => (hf1 q hq).trans (hf q hq)) (fun r' f' z12 z13 h1 h2 h3 => hnx r' f' z12 z13 (e1.trans h1) h2 h3) (fun h1 => hno (e1.trans h1)))
  have outer : ∀ (r : sp_P) (k : Nat), p.drop k = r → k ≤ p.length → ∀ (f : Nat → Nat → Int32) (s : Int × Int) (z9 z10 z11 z12 z13 : Option jm_V), rbd s → (∀ q, q ≠ h + 1524 → f q = σ.1 q) → sp_vl (s4 a b c dd) n p (0, 1) = sp_vl (s4 a b c dd) n r s →
      J g (d + 6) 39 9 [some (aR 1 h), some (aR 5 pa), some (aI a), some (aI b), some (aI c), some (aI dd), some (aI (sp_i s.1)), some (aI (sp_i s.2)), some (aI (nI k)), z9, z10, z11, z12, z13] [] (f, σ.2) (jZ σ (h + 1524) (sp_vl (s4 a b c dd) n p (0, 1))) := by
    intro r
    induction r with
    | nil =>
      intro k hk0 hkl f s z9 z10 z11 z12 z13 hs hf he
      have hi2 : p.length ≤ k := List.drop_eq_nil_iff.mp hk0
      have fp : f pa 0 = nI p.length := by rw [hf pa (by omega)]; exact hP.1
      refine jm_run ok_H_valueIsZero [9, 184] 90 (fun kk hk => ?_)
      conv => whnf
      refine b_le fp rfl (fun _ => ?_) (fun h => by omega)
      conv => whnf
      exact hk _ _ _ _ (fin f s _ _ _ _ _ _ _ hs hf he)
    | cons t r ih =>
      intro k hk0 hkl f s z9 z10 z11 z12 z13 hs hf he
      have hti : p[k]? = some t := by rw [← Nat.add_zero k, ← List.getElem?_drop, hk0]; rfl
      have hi2 : k < p.length := (List.getElem?_eq_some_iff.mp hti).1
      have hdr : p.drop (k + 1) = r := by rw [← List.drop_drop, hk0]; rfl
      have tw := sp_pw_at hpw hti
      rw [sp_vl] at he
      obtain ⟨sb1, sb2, sb3⟩ := id hs
      have hrow : ∀ f' : Nat → Nat → Int32, (∀ q, q ≠ h + 1524 → f' q = σ.1 q) → PA f' pa p := fun f' hf' => PA_frame hP (hf' _ (by omega)) (hf' _ (by omega)) (hf' _ (by omega)) (hf' _ (by omega))
      have endv : ∀ (x : Int × Int) (f' : Nat → Nat → Int32) (z11 z12 z13 : Option jm_V), sp_tvl (s4 a b c dd) t.2.2 n 0 (t.1, t.2.1) = some x → rbd x → (∀ q, q ≠ h + 1524 → f' q = σ.1 q) →
          J g (d + 6) 39 145 [some (aR 1 h), some (aR 5 pa), some (aI a), some (aI b), some (aI c), some (aI dd), some (aI (sp_i s.1)), some (aI (sp_i s.2)), some (aI (nI k)), some (aI (sp_i x.1)), some (aI (sp_i x.2)), z11, z12, z13] [] (f', σ.2) (jZ σ (h + 1524) (sp_vl (s4 a b c dd) n p (0, 1))) := by
        intro x f' z11 z12 z13 hx hxb hf'
        obtain ⟨xb1, xb2, xb3⟩ := id hxb
        rw [hx] at he
        have he : sp_vl (s4 a b c dd) n p (0, 1) = (sp_fr (s.1 * x.2 + x.1 * s.2) (s.2 * x.2)).bind (sp_vl (s4 a b c dd) n r) := he
        have hne : s.2 * x.2 ≠ 0 := Int.mul_ne_zero (by omega) (by omega)
        refine jm_run ok_H_valueIsZero [9] 90 (fun kk hk => ?_)
        conv => whnf
        refine jg hH.fx ?_
        conv => whnf
        refine hk _ _ _ _ (k_H_valueIsZero_157 rfl (c_fplus (σ := (f', σ.2)) sb1 (by omega) xb1 (by omega) (by omega) (by omega) hr) (fun u hu => ?_))
        refine sp_set_el2 hu (fun h0 hu => ?_) (fun r1 f1 hfr hu hf1 hx0 hx1 => ?_)
        · subst hu
          exact ⟨f', hf', Or.inr ⟨by rw [he, h0]; rfl, rfl⟩⟩
        · subst hu
          show J g (d + 6) 39 160 _ _ (f1, σ.2) _
          refine jm_run ok_H_valueIsZero [9] 90 (fun kk hk => ?_)
          conv => whnf
          refine jg hH.fx ?_
          conv => whnf
          rw [show (f1, σ.2).1 (h + 1524) 0 = sp_i r1.1 from hx0]
          refine jg hH.fx ?_
          conv => whnf
          rw [show (f1, σ.2).1 (h + 1524) 1 = sp_i r1.2 from hx1, nI_1]
          exact hk _ _ _ _ (ih (k + 1) hdr (by omega) f1 r1 _ _ _ _ _ (rbd_fr hne hfr) (fun q hq => (hf1 q hq).trans (hf' q hq)) (by rw [he, hfr]; rfl))
      have mid : ∀ (m v : Nat), v + m = n → ∀ (x : Int × Int) (f' : Nat → Nat → Int32) (z12 z13 : Option jm_V), rbd x → (∀ q, q ≠ h + 1524 → f' q = σ.1 q) → sp_tvl (s4 a b c dd) t.2.2 n 0 (t.1, t.2.1) = sp_tvl (s4 a b c dd) t.2.2 m v x →
          J g (d + 6) 39 39 [some (aR 1 h), some (aR 5 pa), some (aI a), some (aI b), some (aI c), some (aI dd), some (aI (sp_i s.1)), some (aI (sp_i s.2)), some (aI (nI k)), some (aI (sp_i x.1)), some (aI (sp_i x.2)), some (aI (nI v)), z12, z13] [] (f', σ.2) (jZ σ (h + 1524) (sp_vl (s4 a b c dd) n p (0, 1))) := by
        intro m
        induction m with
        | zero =>
          intro v hvm x f' z12 z13 hx hf' hxe
          have f0 : f' h 0 = nI n := by rw [hf' h (by omega)]; exact h0
          refine jm_run ok_H_valueIsZero [39, 145] 90 (fun kk hk => ?_)
          conv => whnf
          refine b_le f0 rfl (fun _ => ?_) (fun h => by omega)
          conv => whnf
          exact hk _ _ _ _ (endv x f' _ _ _ hxe hx hf')
        | succ m ih2 =>
          intro v hvm x f' z12 z13 hx hf' hxe
          have f0 : f' h 0 = nI n := by rw [hf' h (by omega)]; exact h0
          have hbv := hb v (by omega)
          have row := (hrow f' hf').2 _ _ hti
          have hex := sp_ok_ex tw.2.2.2.2 v
          rw [sp_tvl] at hxe
          have nx : ∀ y : Int32, y = sp_i (s4 a b c dd v) → J g (d + 6) 39 80 [some (aR 1 h), some (aR 5 pa), some (aI a), some (aI b), some (aI c), some (aI dd), some (aI (sp_i s.1)), some (aI (sp_i s.2)), some (aI (nI k)), some (aI (sp_i x.1)), some (aI (sp_i x.2)), some (aI (nI v)), z12, z13] [aI y] (f', σ.2) (jZ σ (h + 1524) (sp_vl (s4 a b c dd) n p (0, 1))) := by
            intro y hy
            subst hy
            refine jm_run ok_H_valueIsZero [39, 96] 90 (fun kk hk => ?_)
            conv => whnf
            refine jg hpl.2.2.1 ?_
            conv => whnf
            refine ja rfl hpl.2.2.2.2.2 row.2.2 ?_
            conv => whnf
            refine hk _ _ _ _ (k_H_valueIsZero_91 rfl (c_exponent tw.2.2.2.2 (by omega)) (fun u hu => ?_))
            subst hu
            show J g (d + 6) 39 94 _ _ (f', σ.2) _
            refine jm_run ok_H_valueIsZero [39, 96] 90 (fun kk hk => ?_)
            conv => whnf
            refine hk _ _ _ _ (inner (sp_ex t.2.2 v) x s (s4 a b c dd v) f' k v hex hbv hx hf' (fun r' f2 z12 z13 h1 h2 h3 => ?_) (fun h1 => ?_))
            · refine jm_run ok_H_valueIsZero [39] 90 (fun kk hk => ?_)
              conv => whnf
              rw [nI_1]
              exact hk _ _ _ _ (ih2 (v + 1) (by omega) r' f2 _ _ h2 h3 (by rw [hxe, h1]; rfl))
            · rw [he, hxe, h1]; rfl
          have hv4 : v = 0 ∨ v = 1 ∨ v = 2 ∨ v = 3 := by omega
          refine jm_run ok_H_valueIsZero [39, 80] 90 (fun kk hk => ?_)
          conv => whnf
          refine b_le f0 rfl (fun h => by omega) (fun _ => ?_)
          conv => whnf
          rcases hv4 with e | e | e | e <;> subst e
          · refine b_ne (a := 0) (b := 0) rfl rfl (fun q => absurd rfl q) (fun _ => ?_)
            conv => whnf
            exact hk _ _ _ _ (nx a (i32_i a).symm)
          · refine b_ne (a := 1) (b := 0) rfl rfl (fun _ => ?_) (fun q => by omega)
            conv => whnf
            refine b_ne (a := 1) (b := 1) rfl rfl (fun q => absurd rfl q) (fun _ => ?_)
            conv => whnf
            exact hk _ _ _ _ (nx b (i32_i b).symm)
          · refine b_ne (a := 2) (b := 0) rfl rfl (fun _ => ?_) (fun q => by omega)
            conv => whnf
            refine b_ne (a := 2) (b := 1) rfl rfl (fun _ => ?_) (fun q => by omega)
            conv => whnf
            refine b_ne (a := 2) (b := 2) rfl rfl (fun q => absurd rfl q) (fun _ => ?_)
            conv => whnf
            exact hk _ _ _ _ (nx c (i32_i c).symm)
          · refine b_ne (a := 3) (b := 0) rfl rfl (fun _ => ?_) (fun q => by omega)
            conv => whnf
            refine b_ne (a := 3) (b := 1) rfl rfl (fun _ => ?_) (fun q => by omega)
            conv => whnf
            refine b_ne (a := 3) (b := 2) rfl rfl (fun _ => ?_) (fun q => by omega)
            conv => whnf
            exact hk _ _ _ _ (nx dd (i32_i dd).symm)
      have row := (hrow f hf).2 _ _ hti
      refine jm_run ok_H_valueIsZero [9, 39] 90 (fun kk hk => ?_)
      conv => whnf
      refine b_le (hrow f hf).1 rfl (fun h => by omega) (fun _ => ?_)
      conv => whnf
      refine jg hpl.1 ?_
      conv => whnf
      refine ja rfl hpl.2.2.2.1 row.1 ?_
      conv => whnf
      refine jg hpl.2.1 ?_
      conv => whnf
      refine ja rfl hpl.2.2.2.2.1 row.2.1 ?_
      conv => whnf
      exact hk _ _ _ _ (mid n 0 (by omega) (t.1, t.2.1) f _ _ ⟨tw.2.1, tw.2.2.1, tw.2.2.2.1⟩ hf rfl)
  refine jm_run ok_H_valueIsZero [9] 90 (fun kk hk => ?_)
  conv => whnf
  exact hk _ _ _ _ (outer p 0 rfl (Nat.zero_le _) σ.1 (0, 1) _ _ _ _ _ ⟨by decide, by decide, by decide⟩ (fun _ _ => rfl) rfl)
/-- whether the numbers of a place in space fit -/
def vg (bs : Nat → Int) (k : Nat) : Bool := (List.range k).all (fun v => decide ((bs v).natAbs ≤ 1000))
theorem vg_s (bs : Nat → Int) (k : Nat) : vg bs (k + 1) = (vg bs k && decide ((bs k).natAbs ≤ 1000)) := by
  unfold vg
  rw [List.range_succ, List.all_append, List.all_cons, List.all_nil, Bool.and_true]
theorem vg_le {bs : Nat → Int} {k v : Nat} (h : vg bs k = true) (hvk : v < k) : (bs v).natAbs ≤ 1000 := of_decide_eq_true (List.all_eq_true.mp h v (List.mem_range.mpr hvk))
def op_vanishes (S : sp_H) (x a b c dd : Int32) : Int32 × sp_H := (if sp_ip x = true then (if vg (s4 a b c dd) (hv S) = true then (match sp_vl (s4 a b c dd) (hv S) (pg S x.toNatClampNeg) (0, 1) with | none => -7 | some s => sp_bi (decide (s.1 = 0))) else -2) else -1, S)
theorem c_vanishes {x a b c dd : Int32} (hR : HR g σ h S) (hG : GS S) (hr : sp_rm g σ) (hh : h + 1631 ≤ σ.2.2.1) : J g (d + 7) 38 0 [some (aR 1 h), some (aI x), some (aI a), some (aI b), some (aI c), some (aI dd), none, none] [] σ (jH g σ h (op_vanishes S x a b c dd).1 (op_vanishes S x a b c dd).2) := by
  have hv4 := hG.1.2
  have hH := hR.1
  refine jm_run ok_H_vanishes [] 90 (fun kk hk => ?_)
  conv => whnf
  refine hk _ _ _ _ (k_H_vanishes_1 rfl c_isPlace (fun u hu => ?_))
  subst hu
  show J g (d + 7) 38 4 _ _ σ _
  unfold op_vanishes
  cases hx : sp_ip x with
  | false =>
    rw [if_neg (by decide)]
    refine jm_run ok_H_vanishes [] 90 (fun kk hk => ?_)
    conv => whnf
    refine b_nz (b := false) rfl (fun h => by cases h) (fun _ => ?_)
    conv => whnf
    exact hk _ _ _ _ (r_H_vanishes_8 (jH_same hR))
  | true =>
    rw [if_pos rfl]
    obtain ⟨k, hk40, rfl⟩ := sp_ip_t hx
    rw [nI_clamp (by omega)]
    have hP := hR.pl hG hk40
    have hpr := hH.ple hk40
    have w1 := (pg_ok hG hk40).1
    have loop : ∀ n v, v + n = hv S → J g (d + 7) 38 15 [some (aR 1 h), some (aI (nI k)), some (aI a), some (aI b), some (aI c), some (aI dd), some (aI (sp_bi (vg (s4 a b c dd) v))), some (aI (nI v))] [] σ (jH g σ h (if vg (s4 a b c dd) (hv S) = true then (match sp_vl (s4 a b c dd) (hv S) (pg S k) (0, 1) with | none => -7 | some s => sp_bi (decide (s.1 = 0))) else -2) S) := by
      intro n
      induction n with
      | zero =>
        intro v hvn
        obtain rfl : v = hv S := by omega
        cases hb : vg (s4 a b c dd) (hv S) with
        | false =>
          rw [if_neg (by decide)]
          refine jm_run ok_H_vanishes [15] 90 (fun kk hk => ?_)
          conv => whnf
          refine b_le hR.2.1.1 rfl (fun _ => ?_) (fun h => by omega)
          conv => whnf
          refine b_nz (b := false) rfl (fun h => by cases h) (fun _ => ?_)
          conv => whnf
          exact hk _ _ _ _ (r_H_vanishes_90 (jH_same hR))
        | true =>
          rw [if_pos rfl]
          refine jm_run ok_H_vanishes [15] 90 (fun kk hk => ?_)
          conv => whnf
          refine b_le hR.2.1.1 rfl (fun _ => ?_) (fun h => by omega)
          conv => whnf
          refine b_nz (b := true) rfl (fun _ => ?_) (fun h => by cases h)
          conv => whnf
          refine jg hH.fpl ?_
          conv => whnf
          refine jr rfl hH.npl hpr.1 ?_
          conv => whnf
          refine hk _ _ _ _ (k_H_vanishes_104 rfl (c_value hH hR.2.1.1 hv4 hpr.2 hP w1 (by omega) (fun v hvl => vg_le hb hvl) hr) (fun u hu => ?_))
          obtain ⟨f, hf, h3⟩ := hu
          rcases h3 with ⟨s, hs, hu⟩ | ⟨hn, hu⟩
          · subst hu
            rw [hs]
            exact r_H_vanishes_107 (jH_ret (HR_fr hR hG (fun _ _ _ => rfl) (fun q _ _ _ h3 => hf q (by omega))) (fun q hq => hf q (by omega)) (fun _ _ => rfl) rfl)
          · subst hu
            rw [hn]
            show J g (d + 7) 38 108 _ [aR 7 _] (jm_wi (jm_nw (f, σ.2) 7) σ.2.2.1 0 (-7)) _
            refine jm_run ok_H_vanishes [] 90 (fun kk hk => ?_)
            conv => whnf
            exact hk _ _ _ _ (r_H_vanishes_115 (jH_thr (HR_fr hR hG (fun _ _ _ => rfl) (fun q _ _ _ h3 => hf q (by omega))) hG hh (fun q hq => hf q (by omega)) (fun _ _ => rfl) rfl))
      | succ n ih =>
        intro v hvn
        have nx : ∀ y : Int32, y.toInt = s4 a b c dd v → J g (d + 7) 38 58 [some (aR 1 h), some (aI (nI k)), some (aI a), some (aI b), some (aI c), some (aI dd), some (aI (sp_bi (vg (s4 a b c dd) v))), some (aI (nI v))] [aI y, aI (sp_bi (vg (s4 a b c dd) v))] σ (jH g σ h (if vg (s4 a b c dd) (hv S) = true then (match sp_vl (s4 a b c dd) (hv S) (pg S k) (0, 1) with | none => -7 | some s => sp_bi (decide (s.1 = 0))) else -2) S) := by
          intro y hy
          have hy1 := y.toInt_lt
          have hy2 := y.le_toInt
          have em : (1000 : Int64) = sp_l 1000 := by decide
          have e : ∀ z : Bool, z = decide ((s4 a b c dd v).natAbs ≤ 1000) → (vg (s4 a b c dd) v && z) = vg (s4 a b c dd) (v + 1) := fun z hz => by rw [vg_s, hz]
          refine jm_run ok_H_vanishes [15] 90 (fun kk hk => ?_)
          conv => whnf
          refine ⟨fun h1 => ?_, fun h1 => ?_⟩
          · have h2 := (lg_cmp_gt _ _).mp h1
            rw [i32_l y, sp_labs (by omega), sp_lN, em, sp_llt (by decide) (by omega), hy] at h2
            conv => whnf
            rw [nI_1, show (0 : Int32) = sp_bi false from rfl, sp_bi_and, e false (decide_eq_false (by omega)).symm]
            exact hk _ _ _ _ (ih (v + 1) (by omega))
          · have h2 : ¬ _ := fun q => h1 ((lg_cmp_gt _ _).mpr q)
            rw [i32_l y, sp_labs (by omega), sp_lN, em, sp_llt (by decide) (by omega), hy] at h2
            conv => whnf
            rw [show sp_bi (vg (s4 a b c dd) v) &&& 1 = sp_bi (vg (s4 a b c dd) (v + 1)) from (sp_bi_and _ true).trans (congrArg sp_bi (e true (decide_eq_true (by omega)).symm)), nI_1]
            exact hk _ _ _ _ (ih (v + 1) (by omega))
        have hv4 : v = 0 ∨ v = 1 ∨ v = 2 ∨ v = 3 := by omega
        refine jm_run ok_H_vanishes [15, 58] 90 (fun kk hk => ?_)
        conv => whnf
        refine b_le hR.2.1.1 rfl (fun h => by omega) (fun _ => ?_)
        conv => whnf
        rcases hv4 with e | e | e | e <;> subst e
        · refine b_ne (a := 0) (b := 0) rfl rfl (fun q => absurd rfl q) (fun _ => ?_)
          conv => whnf
          exact hk _ _ _ _ (nx a rfl)
        · refine b_ne (a := 1) (b := 0) rfl rfl (fun _ => ?_) (fun q => by omega)
          conv => whnf
          refine b_ne (a := 1) (b := 1) rfl rfl (fun q => absurd rfl q) (fun _ => ?_)
          conv => whnf
          exact hk _ _ _ _ (nx b rfl)
        · refine b_ne (a := 2) (b := 0) rfl rfl (fun _ => ?_) (fun q => by omega)
          conv => whnf
          refine b_ne (a := 2) (b := 1) rfl rfl (fun _ => ?_) (fun q => by omega)
          conv => whnf
          refine b_ne (a := 2) (b := 2) rfl rfl (fun q => absurd rfl q) (fun _ => ?_)
          conv => whnf
          exact hk _ _ _ _ (nx c rfl)
        · refine b_ne (a := 3) (b := 0) rfl rfl (fun _ => ?_) (fun q => by omega)
          conv => whnf
          refine b_ne (a := 3) (b := 1) rfl rfl (fun _ => ?_) (fun q => by omega)
          conv => whnf
          refine b_ne (a := 3) (b := 2) rfl rfl (fun _ => ?_) (fun q => by omega)
          conv => whnf
          exact hk _ _ _ _ (nx dd rfl)
    refine jm_run ok_H_vanishes [15] 90 (fun kk hk => ?_)
    conv => whnf
    refine b_nz (b := true) rfl (fun _ => ?_) (fun h => by cases h)
    conv => whnf
    exact hk _ _ _ _ (loop (hv S) 0 (by omega))
end
