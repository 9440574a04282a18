/-! the House: certificate, check -/
section
variable {g : jm_G} {d : Nat} {σ τ : jm_S} {h : Nat} {S : sp_H}
def op_certificate (S : sp_H) (z y : Int32) : Int32 × sp_H := if hB S = true ∧ hQ S = true then (if sp_ie (hgn S).length z = true ∧ sp_ip y = true then op_give S y.toNatClampNeg (sp_sh (hkd S) 1 (hkp S) (sp_col (hel S) z.toNatClampNeg) []) else (-1, S)) else (-3, S)
theorem drop_cons {α : Type} {l : List α} {i : Nat} {x : α} (h : l[i]? = some x) : l.drop i = x :: l.drop (i + 1) := by
  have hi := (List.getElem?_eq_some_iff.mp h).1
  rw [List.drop_eq_getElem_cons hi]
  rw [List.getElem?_eq_getElem hi] at h
  rw [Option.some.inj h]
theorem c_certL {k r : Nat} (hR : HR g σ h S) (hG : GS S) (hr : sp_rm g σ) (hh : h + 1631 ≤ σ.2.2.1) (hb : hB S = true) (hq : hQ S = true) (hk8 : k < (hgn S).length) (hr40 : r < 40) : ∀ (n i : Nat), i + n = (hel S).length → ∀ (f : Nat → Nat → Int32) (to : sp_P) (z4 z5 : Option jm_V), PA f (h + 1525) to → sp_pw to → (∀ q, ¬ (h + 1524 ≤ q ∧ q < h + 1529) → f q = σ.1 q) → sp_sh (hkd S) 1 (hkp S) (sp_col (hel S) k) [] = sp_sh (hkd S) 1 ((hkp S).drop i) ((sp_col (hel S) k).drop i) to →
    J g (d + 8) 68 48 [some (aR 1 h), some (aI (nI k)), some (aI (nI r)), some (aI (nI i)), z4, z5] [] (f, σ.2) (jH g σ h (op_give S r (sp_sh (hkd S) 1 (hkp S) (sp_col (hel S) k) [])).1 (op_give S r (sp_sh (hkd S) 1 (hkp S) (sp_col (hel S) k) [])).2) := by
  have hH := hR.1
  have hgl := hG.2.2.2.1
  have hj := hG.2.1
  obtain ⟨s, es, heX⟩ := hR.2.2.2.2.1.1
  have hX := (heX hb).2
  have hl24 := hX.1
  have hkp1 := hG.2.2.2.2.2.2.2 hb hq
  have hkl := hkp1.1
  have hcl : (sp_col (hel S) k).length = (hel S).length := by rw [sp_col, List.length_map]
  have e25 : eo (h + 196) 8 25 = h + 1260 := by unfold eo; omega
  intro n
  induction n with
  | zero =>
    intro i hin f to z4 z5 hT hw hf hO
    have f10 : f (h + 196) 10 = nI (hel S).length := by rw [hf _ (by omega)]; exact hX.2.1
    rw [List.drop_of_length_le (by omega), List.drop_of_length_le (by omega)] at hO
    have hO : _ = some to := hO
    rw [hO]
    refine jm_run ok_H_certificate [48] 90 (fun kk hk => ?_)
    conv => whnf
    refine jg hH.fe ?_
    conv => whnf
    refine b_le f10 rfl (fun _ => ?_) (fun h => by omega)
    conv => whnf
    refine jg hH.fm ?_
    conv => whnf
    refine hk _ _ _ _ (k_H_certificate_160 rfl (c_give (σ := (f, σ.2)) hH hr40 hH.pm hT hw.1 (by unfold dj; omega)) (fun u hu => ?_))
    obtain ⟨f4, hf4, hPA4, hu⟩ := hu
    subst hu
    have hff4 : ∀ q, ¬ (h + 1524 ≤ q ∧ q < h + 1529) → ¬ (h + 3 + 4 * r ≤ q ∧ q ≤ h + 3 + 4 * r + 3) → f4 q = σ.1 q := fun q h1 h2 => (hf4 q h2).trans (hf q h1)
    exact r_H_certificate_163 (jH_ret (HR_give hR hG hr40 (fun _ _ _ => rfl) hPA4 (fun q _ _ _ h3 h4 => hff4 q (by omega) h4)) (fun q hq => hff4 q (by omega) (by omega)) (fun _ _ => rfl) rfl)
  | succ n ih =>
    intro i hin f to z4 z5 hT hw hf hO
    have f10 : f (h + 196) 10 = nI (hel S).length := by rw [hf _ (by omega)]; exact hX.2.1
    have gq : (hkp S)[i]? = some (hkp S)[i] := List.getElem?_eq_getElem (by omega)
    have gc : (sp_col (hel S) k)[i]? = some (sp_col (hel S) k)[i] := List.getElem?_eq_getElem (by omega)
    have hPq := hR.2.2.2.2.2.2 hb hq i _ gq
    have hqw := (hkp1.2 _ (List.mem_of_getElem? gq)).1
    generalize (hkp S)[i] = q at gq hPq hqw
    generalize (sp_col (hel S) k)[i] = c at gc
    obtain ⟨E, gE, gEk⟩ := sp_col_at gc (fun i E hE => (hX.2.2 i E hE).2.2.2) hk8
    have hgd := hX.2.2 i E gE
    have hPc := hgd.1.2 k c gEk
    have hcw := hgd.2.1.2 c (List.mem_of_getElem? gEk)
    have hsi := es.1 i (by omega)
    have hep := hH.e1.2.2.2.2.2 (s i) hsi.1
    have hek := hep.2.2.2.2 k (by omega)
    have hge := eo_ge (h + 196) 8 (s i)
    have h25 := eo_25 (e := h + 196) (n := 8) hsi.1
    have hkpr := hH.kpe (k := i) (by omega)
    rw [drop_cons gq, drop_cons gc, sp_sh] at hO
    have hql := hqw.1
    have inner : ∀ (rr : sp_P) (t : Nat), q.drop t = rr → t ≤ q.length → ∀ (f : Nat → Nat → Int32) (to : sp_P), PA f (h + 1525) to → sp_pw to → (∀ q, ¬ (h + 1524 ≤ q ∧ q < h + 1529) → f q = σ.1 q) → sp_sh (hkd S) 1 (hkp S) (sp_col (hel S) k) [] = (sp_st (hkd S) 1 c to rr).bind (sp_sh (hkd S) 1 ((hkp S).drop (i + 1)) ((sp_col (hel S) k).drop (i + 1))) →
        J g (d + 8) 68 70 [some (aR 1 h), some (aI (nI k)), some (aI (nI r)), some (aI (nI i)), some (aR 5 (h + 1534 + 4 * i)), some (aI (nI t))] [] (f, σ.2) (jH g σ h (op_give S r (sp_sh (hkd S) 1 (hkp S) (sp_col (hel S) k) [])).1 (op_give S r (sp_sh (hkd S) 1 (hkp S) (sp_col (hel S) k) [])).2) := by
      intro rr
      induction rr with
      | nil =>
        intro t ht htl f to hT hw hf hO
        have hi2 : q.length ≤ t := List.drop_eq_nil_iff.mp ht
        have fq : f (h + 1534 + 4 * i) 0 = nI q.length := by rw [hf _ (by omega)]; exact hPq.1
        refine jm_run ok_H_certificate [48] 90 (fun kk hk => ?_)
        conv => whnf
        refine b_le fq rfl (fun _ => ?_) (fun h => by omega)
        conv => whnf
        rw [nI_1]
        exact hk _ _ _ _ (ih (i + 1) (by omega) f to _ _ hT hw hf hO)
      | cons tt rr ih2 =>
        intro t ht htl f to hT hw hf hO
        have hti : q[t]? = some tt := by rw [← Nat.add_zero t, ← List.getElem?_drop, ht]; rfl
        have hi2 : t < q.length := (List.getElem?_eq_some_iff.mp hti).1
        have hdr : q.drop (t + 1) = rr := by rw [← List.drop_drop, ht]; rfl
        have tw := sp_pw_at hqw hti
        have hPq' : PA f (h + 1534 + 4 * i) q := PA_frame hPq (hf _ (by omega)) (hf _ (by omega)) (hf _ (by omega)) (hf _ (by omega))
        have hPc' : PA f (eo (h + 196) 8 (s i) + 6 + 4 * k) c := PA_frame hPc (hf _ (by omega)) (hf _ (by omega)) (hf _ (by omega)) (hf _ (by omega))
        have row := hPq'.2 _ _ hti
        have h2' : f h 2 = nI (hkd S) := by rw [hf h (by omega)]; exact hR.2.1.2.1
        rw [sp_st, Int.one_mul] at hO
        refine jm_run ok_H_certificate [48, 70] 90 (fun kk hk => ?_)
        conv => whnf
        refine b_le hPq'.1 rfl (fun h => by omega) (fun _ => ?_)
        conv => whnf
        refine jg hH.fm ?_
        conv => whnf
        refine hk _ _ _ _ (k_H_certificate_85 rfl (c_order2 (σ := (f, σ.2)) hH hj h2') (fun u hu => ?_))
        subst hu
        show J g (d + 8) 68 88 _ _ (f, σ.2) _
        refine jm_run ok_H_certificate [48, 70] 90 (fun kk hk => ?_)
        conv => whnf
        refine jg hH.fx ?_
        conv => whnf
        refine jg hkpr.2.1 ?_
        conv => whnf
        refine ja rfl hkpr.2.2.2.2.1 row.1 ?_
        conv => whnf
        refine jg hkpr.2.2.1 ?_
        conv => whnf
        refine ja rfl hkpr.2.2.2.2.2.1 row.2.1 ?_
        conv => whnf
        refine jg hkpr.2.2.2.1 ?_
        conv => whnf
        refine ja rfl hkpr.2.2.2.2.2.2 row.2.2 ?_
        conv => whnf
        refine jg hH.fe ?_
        conv => whnf
        refine jg hH.e1.1.2.1 ?_
        conv => whnf
        refine jr rfl hH.e1.2.1.1 hsi.2 ?_
        conv => whnf
        refine jg hep.2.1 ?_
        conv => whnf
        refine jr rfl hep.2.2.2.1 hek.1 ?_
        conv => whnf
        refine hk _ _ _ _ (k_H_certificate_130 rfl (c_plus (σ := (f, σ.2)) hH.pm hT hw hek.2 hPc' hcw hj (sp_tw_cf tw) tw.2.2.2.2 (by omega) (by omega) (by unfold dj; omega) hr) (fun u hu => ?_))
        obtain ⟨f3, hf3, h3⟩ := hu
        have hff : ∀ q, ¬ (h + 1524 ≤ q ∧ q < h + 1529) → f3 q = σ.1 q := fun q hq => (hf3 q (by omega) (by omega)).trans (hf q hq)
        rcases h3 with ⟨p2, hp2, hu, hPA2⟩ | ⟨hn, hu⟩
        · subst hu
          rw [hp2] at hO
          show J g (d + 8) 68 133 _ _ (f3, σ.2) _
          refine jm_run ok_H_certificate [48, 70] 90 (fun kk hk => ?_)
          conv => whnf
          rw [nI_1]
          exact hk _ _ _ _ (ih2 (t + 1) hdr (by omega) f3 p2 hPA2 (sp_plus_w (sp_tw_cf tw) hw hcw.2 hp2) hff hO)
        · subst hu
          rw [hn] at hO
          have hO : _ = none := hO
          rw [hO]
          show J g (d + 8) 68 148 _ [aR 7 _] (jm_wi (jm_nw (f3, σ.2) 7) σ.2.2.1 0 (-7)) _
          refine jm_run ok_H_certificate [] 90 (fun kk hk => ?_)
          conv => whnf
          exact hk _ _ _ _ (r_H_certificate_153 (jH_thr (HR_fr hR hG (fun _ _ _ => rfl) (fun q _ _ _ h3 => hff q (by omega))) hG hh (fun q hq => hff q (by omega)) (fun _ _ => rfl) rfl))
    refine jm_run ok_H_certificate [48, 70] 90 (fun kk hk => ?_)
    conv => whnf
    refine jg hH.fe ?_
    conv => whnf
    refine b_le f10 rfl (fun h => by omega) (fun _ => ?_)
    conv => whnf
    refine jg hH.fk ?_
    conv => whnf
    refine jr rfl hH.nk hkpr.1 ?_
    conv => whnf
    exact hk _ _ _ _ (inner q 0 rfl (Nat.zero_le _) f to hT hw hf hO)
theorem c_certificate {z y : Int32} (hR : HR g σ h S) (hG : GS S) (hr : sp_rm g σ) (hh : h + 1631 ≤ σ.2.2.1) : J g (d + 8) 68 0 [some (aR 1 h), some (aI z), some (aI y), none, none, none] [] σ (jH g σ h (op_certificate S z y).1 (op_certificate S z y).2) := by
  have hH := hR.1
  have hgl := hG.2.2.2.1
  have e0 : (0 : Int32).toInt = 0 := rfl
  unfold op_certificate
  cases hb : hB S with
  | false =>
    rw [if_neg (fun q => by cases q.1)]
    have h8 : σ.1 h 8 = sp_bi false := by rw [hR.2.1.2.2.2.1, hb]
    refine jm_run ok_H_certificate [] 90 (fun kk hk => ?_)
    conv => whnf
    refine b_z h8 (fun _ => ?_) (fun h => by cases h)
    conv => whnf
    exact hk _ _ _ _ (r_H_certificate_16 (jH_same hR))
  | true =>
    have h8 : σ.1 h 8 = sp_bi true := by rw [hR.2.1.2.2.2.1, hb]
    cases hq : hQ S with
    | false =>
      rw [if_neg (fun q => by cases q.2)]
      have h9 : σ.1 h 9 = sp_bi false := by rw [hR.2.1.2.2.2.2, hq]
      refine jm_run ok_H_certificate [] 90 (fun kk hk => ?_)
      conv => whnf
      refine b_z h8 (fun h => by cases h) (fun _ => ?_)
      conv => whnf
      refine b_nz h9 (fun h => by cases h) (fun _ => ?_)
      conv => whnf
      exact hk _ _ _ _ (r_H_certificate_16 (jH_same hR))
    | true =>
      rw [if_pos ⟨rfl, rfl⟩]
      have h9 : σ.1 h 9 = sp_bi true := by rw [hR.2.1.2.2.2.2, hq]
      cases hz : sp_ie (hgn S).length z with
      | false =>
        rw [if_neg (fun q => by cases q.1)]
        have hz := of_decide_eq_false hz
        refine jm_run ok_H_certificate [] 90 (fun kk hk => ?_)
        conv => whnf
        refine b_z h8 (fun h => by cases h) (fun _ => ?_)
        conv => whnf
        refine b_nz h9 (fun _ => ?_) (fun h => by cases h)
        conv => whnf
        refine ⟨fun h1 => ?_, fun h1 => ?_⟩
        · conv => whnf
          exact hk _ _ _ _ (r_H_certificate_37 (jH_same hR))
        · have q1 : ¬ z.toInt < (0 : Int32).toInt := fun q => h1 (Int32.lt_iff_toInt_lt.mpr q)
          conv => whnf
          rw [hR.2.1.2.2.1]
          refine ⟨fun h2 => ?_, fun h2 => ?_⟩
          · conv => whnf
            exact hk _ _ _ _ (r_H_certificate_37 (jH_same hR))
          · have q2 : ¬ (nI (hgn S).length).toInt ≤ z.toInt := fun q => h2 (Int32.le_iff_toInt_le.mpr q)
            rw [nI_toInt (by omega)] at q2
            exact absurd ⟨by omega, by omega⟩ hz
      | true =>
        obtain ⟨k, hk8, rfl⟩ := sp_ie_t (by omega) hz
        rw [nI_clamp (n := k) (by omega)]
        refine jm_run ok_H_certificate [] 90 (fun kk hk => ?_)
        conv => whnf
        refine b_z h8 (fun h => by cases h) (fun _ => ?_)
        conv => whnf
        refine b_nz h9 (fun _ => ?_) (fun h => by cases h)
        conv => whnf
        refine b_lt (a := k) (b := 0) rfl rfl (fun h => by omega) (fun _ => ?_)
        conv => whnf
        refine b_le hR.2.1.2.2.1 rfl (fun h => by omega) (fun _ => ?_)
        conv => whnf
        refine hk _ _ _ _ (k_H_certificate_30 rfl c_isPlace (fun u hu => ?_))
        subst hu
        show J g (d + 8) 68 33 _ _ σ _
        cases hy : sp_ip y with
        | false =>
          rw [if_neg (fun q => by cases q.2)]
          refine jm_run ok_H_certificate [] 90 (fun kk hk => ?_)
          conv => whnf
          refine b_nz (b := false) rfl (fun h => by cases h) (fun _ => ?_)
          conv => whnf
          exact hk _ _ _ _ (r_H_certificate_37 (jH_same hR))
        | true =>
          rw [if_pos ⟨rfl, rfl⟩]
          obtain ⟨r, hr40, rfl⟩ := sp_ip_t hy
          rw [nI_clamp (by omega)]
          have hst : jm_wi σ (h + 1525) 0 0 = ((jm_wi σ (h + 1525) 0 0).1, σ.2) := rfl
          refine jm_run ok_H_certificate [48] 90 (fun kk hk => ?_)
          conv => whnf
          refine b_nz (b := true) rfl (fun _ => ?_) (fun h => by cases h)
          conv => whnf
          refine jg hH.fm ?_
          conv => whnf
          rw [hst]
          exact hk _ _ _ _ (c_certL hR hG hr hh hb hq hk8 hr40 (hel S).length 0 (by omega) _ [] none none (PA_nil jm_wi_at) sp_pw_nil (fun q hq => jm_wi_q (by omega)) rfl)
/-- the sum of the shares times the generators -/
def sp_cks (j : Nat) : List sp_P → List sp_P → sp_P → Option sp_P
  | s :: ss, p :: ps, to => (sp_mulG j p [] s).bind (fun x => (sp_plus j 1 1 sp_zm to x).bind (sp_cks j ss ps))
  | _, _, to => some to
def sp_chk (j : Nat) (gens : List sp_P) : List sp_E → Bool → Option Bool
  | [], b => some b
  | E :: r, b => (sp_cks j E.2 gens []).bind (fun m => sp_chk j gens r (b && sp_same m E.1))
/-- what a check answers -/
def ck (o : Option Bool) : Int32 := match o with
  | none => -7
  | some b => sp_bi b
def op_check (S : sp_H) : Int32 × sp_H := (if hB S = true then ck (sp_chk (hkd S) (hgn S) (hel S) true) else -3, S)
theorem c_checkL (hR : HR g σ h S) (hG : GS S) (hr : sp_rm g σ) (hh : h + 1631 ≤ σ.2.2.1) (hb : hB S = true) : ∀ (n i : Nat), i + n = (hel S).length → ∀ (f : Nat → Nat → Int32) (b : Bool) (z3 : Option jm_V), (∀ q, ¬ (h + 1524 ≤ q ∧ q < h + 1533) → f q = σ.1 q) → sp_chk (hkd S) (hgn S) (hel S) true = sp_chk (hkd S) (hgn S) ((hel S).drop i) b →
    J g (d + 9) 69 14 [some (aR 1 h), some (aI (sp_bi b)), some (aI (nI i)), z3] [] (f, σ.2) (jH g σ h (ck (sp_chk (hkd S) (hgn S) (hel S) true)) S) := by
  have hH := hR.1
  have hgl := hG.2.2.2.1
  have hj := hG.2.1
  obtain ⟨s, es, heX⟩ := hR.2.2.2.2.1.1
  have hX := (heX hb).2
  have hl24 := hX.1
  have e25 : eo (h + 196) 8 25 = h + 1260 := by unfold eo; omega
  intro n
  induction n with
  | zero =>
    intro i hin f b z3 hf hO
    have f10 : f (h + 196) 10 = nI (hel S).length := by rw [hf _ (by omega)]; exact hX.2.1
    rw [List.drop_of_length_le (by omega)] at hO
    have hO : _ = some b := hO
    rw [hO]
    have hRf : HR g (f, σ.2) h S := HR_fr hR hG (fun _ _ _ => rfl) (fun q _ _ _ h3 => hf q (by omega))
    cases b with
    | false =>
      refine jm_run ok_H_check [14] 90 (fun kk hk => ?_)
      conv => whnf
      refine jg hH.fe ?_
      conv => whnf
      refine b_le f10 rfl (fun _ => ?_) (fun h => by omega)
      conv => whnf
      refine b_z (b := false) rfl (fun _ => ?_) (fun h => by cases h)
      conv => whnf
      exact hk _ _ _ _ (r_H_check_145 (jH_ret hRf (fun q hq => hf q (by omega)) (fun _ _ => rfl) rfl))
    | true =>
      refine jm_run ok_H_check [14] 90 (fun kk hk => ?_)
      conv => whnf
      refine jg hH.fe ?_
      conv => whnf
      refine b_le f10 rfl (fun _ => ?_) (fun h => by omega)
      conv => whnf
      refine b_z (b := true) rfl (fun h => by cases h) (fun _ => ?_)
      conv => whnf
      exact hk _ _ _ _ (r_H_check_145 (jH_ret hRf (fun q hq => hf q (by omega)) (fun _ _ => rfl) rfl))
  | succ n ih =>
    intro i hin f b z3 hf hO
    have f10 : f (h + 196) 10 = nI (hel S).length := by rw [hf _ (by omega)]; exact hX.2.1
    have gE : (hel S)[i]? = some (hel S)[i] := List.getElem?_eq_getElem (by omega)
    have hgd := hX.2.2 i _ gE
    generalize (hel S)[i] = E at gE hgd
    have hsi := es.1 i (by omega)
    have hep := hH.e1.2.2.2.2.2 (s i) hsi.1
    have hge := eo_ge (h + 196) 8 (s i)
    have h25 := eo_25 (e := h + 196) (n := 8) hsi.1
    have hEl := hgd.2.2.2
    rw [drop_cons gE, sp_chk] at hO
    have thr : ∀ (f3 : Nat → Nat → Int32) (z2 z3 : Option jm_V) (y1 : Int32), (∀ q, ¬ (h + 1524 ≤ q ∧ q < h + 1533) → f3 q = σ.1 q) → sp_chk (hkd S) (hgn S) (hel S) true = none → J g (d + 9) 69 130 [some (aR 1 h), some (aI y1), z2, z3] [aR 7 σ.2.2.1] (jm_wi (jm_nw (f3, σ.2) 7) σ.2.2.1 0 (-7)) (jH g σ h (ck (sp_chk (hkd S) (hgn S) (hel S) true)) S) := by
      intro f3 z2 z3 y1 hff hO
      rw [hO]
      refine jm_run ok_H_check [] 90 (fun kk hk => ?_)
      conv => whnf
      exact hk _ _ _ _ (r_H_check_135 (jH_thr (HR_fr hR hG (fun _ _ _ => rfl) (fun q _ _ _ h3 => hff q (by omega))) hG hh (fun q hq => hff q (by omega)) (fun _ _ => rfl) rfl))
    have inner : ∀ (n2 k : Nat), k + n2 = (hgn S).length → ∀ (f : Nat → Nat → Int32) (to : sp_P), PA f (h + 1525) to → sp_pw to → (∀ q, ¬ (h + 1524 ≤ q ∧ q < h + 1533) → f q = σ.1 q) → sp_chk (hkd S) (hgn S) (hel S) true = (sp_cks (hkd S) (E.2.drop k) ((hgn S).drop k) to).bind (fun m => sp_chk (hkd S) (hgn S) ((hel S).drop (i + 1)) (b && sp_same m E.1)) →
        J g (d + 9) 69 35 [some (aR 1 h), some (aI (sp_bi b)), some (aI (nI i)), some (aI (nI k))] [] (f, σ.2) (jH g σ h (ck (sp_chk (hkd S) (hgn S) (hel S) true)) S) := by
      intro n2
      induction n2 with
      | zero =>
        intro k hkn f to hT hw hf hO
        have f5 : f h 5 = nI (hgn S).length := by rw [hf _ (by omega)]; exact hR.2.1.2.2.1
        rw [List.drop_of_length_le (by omega), List.drop_of_length_le (by omega)] at hO
        have hO : _ = sp_chk (hkd S) (hgn S) ((hel S).drop (i + 1)) (b && sp_same to E.1) := hO
        have hPE : PA f (eo (h + 196) 8 (s i) + 1) E.1 := PA_frame hgd.1.1 (hf _ (by omega)) (hf _ (by omega)) (hf _ (by omega)) (hf _ (by omega))
        refine jm_run ok_H_check [14, 35] 90 (fun kk hk => ?_)
        conv => whnf
        refine b_le f5 rfl (fun _ => ?_) (fun h => by omega)
        conv => whnf
        refine jg hH.fm ?_
        conv => whnf
        refine jg hH.fe ?_
        conv => whnf
        refine jg hH.e1.1.2.1 ?_
        conv => whnf
        refine jr rfl hH.e1.2.1.1 hsi.2 ?_
        conv => whnf
        refine jg hep.1 ?_
        conv => whnf
        refine hk _ _ _ _ (k_H_check_116 rfl (c_isSame (σ := (f, σ.2)) hH.pm hep.2.2.1 hT hPE hw hgd.2.1.1) (fun u hu => ?_))
        subst hu
        show J g (d + 9) 69 119 _ _ (f, σ.2) _
        refine jm_run ok_H_check [14, 35] 90 (fun kk hk => ?_)
        conv => whnf
        rw [sp_bi_and, nI_1]
        exact hk _ _ _ _ (ih (i + 1) (by omega) f _ _ hf hO)
      | succ n2 ih2 =>
        intro k hkn f to hT hw hf hO
        have f5 : f h 5 = nI (hgn S).length := by rw [hf _ (by omega)]; exact hR.2.1.2.2.1
        have f2 : f h 2 = nI (hkd S) := by rw [hf _ (by omega)]; exact hR.2.1.2.1
        have gs : E.2[k]? = some E.2[k] := List.getElem?_eq_getElem (by omega)
        have gp : (hgn S)[k]? = some (hgn S)[k] := List.getElem?_eq_getElem (by omega)
        have hPs := hgd.1.2 k _ gs
        have hsw := hgd.2.1.2 _ (List.mem_of_getElem? gs)
        have hPp := hR.2.2.2.1 k _ gp
        have hpw := (hG.2.2.2.2.2.1 _ (List.mem_of_getElem? gp)).1
        generalize E.2[k] = ss at gs hPs hsw
        generalize (hgn S)[k] = pp at gp hPp hpw
        have hek := hep.2.2.2.2 k (by omega)
        have hgr := hH.gne (k := k) (by omega)
        have hPs' : PA f (eo (h + 196) 8 (s i) + 6 + 4 * k) ss := PA_frame hPs (hf _ (by omega)) (hf _ (by omega)) (hf _ (by omega)) (hf _ (by omega))
        have hPp' : PA f (h + 164 + 4 * k) pp := PA_frame hPp (hf _ (by omega)) (hf _ (by omega)) (hf _ (by omega)) (hf _ (by omega))
        rw [drop_cons gs, drop_cons gp, sp_cks] at hO
        refine jm_run ok_H_check [14, 35] 90 (fun kk hk => ?_)
        conv => whnf
        refine b_le f5 rfl (fun h => by omega) (fun _ => ?_)
        conv => whnf
        refine jg hH.fq ?_
        conv => whnf
        refine jg hH.fe ?_
        conv => whnf
        refine jg hH.e1.1.2.1 ?_
        conv => whnf
        refine jr rfl hH.e1.2.1.1 hsi.2 ?_
        conv => whnf
        refine jg hep.2.1 ?_
        conv => whnf
        refine jr rfl hep.2.2.2.1 hek.1 ?_
        conv => whnf
        refine jg hH.fgn ?_
        conv => whnf
        refine jr rfl hH.ngn hgr.1 ?_
        conv => whnf
        refine hk _ _ _ _ (k_H_check_68 rfl (c_multiply (σ := (f, σ.2)) hH hj f2 hH.pq hek.2 hgr.2 hPs' hPp' hsw hpw (by unfold dj; omega) (by unfold dj; omega) (by omega) (by omega) (by omega) (by omega) hr) (fun u hu => ?_))
        obtain ⟨f3, hf3, h3⟩ := hu
        have hff : ∀ q, ¬ (h + 1524 ≤ q ∧ q < h + 1533) → f3 q = σ.1 q := fun q hq => (hf3 q (by omega) (by omega)).trans (hf q hq)
        rcases h3 with ⟨p2, hp2, hu, hPA2⟩ | ⟨hn, hu⟩
        · subst hu
          rw [hp2] at hO
          have p2w := sp_mulG_w hpw sp_pw_nil hsw.2 hp2
          have f32 : f3 h 2 = nI (hkd S) := by rw [hff _ (by omega)]; exact hR.2.1.2.1
          have hT3 : PA f3 (h + 1525) to := PA_frame hT (hf3 _ (by omega) (by omega)) (hf3 _ (by omega) (by omega)) (hf3 _ (by omega) (by omega)) (hf3 _ (by omega) (by omega))
          show J g (d + 9) 69 71 _ _ (f3, σ.2) _
          refine jm_run ok_H_check [14, 35] 90 (fun kk hk => ?_)
          conv => whnf
          refine jg hH.fm ?_
          conv => whnf
          refine hk _ _ _ _ (k_H_check_76 rfl (c_order2 (σ := (f3, σ.2)) hH hj f32) (fun u hu => ?_))
          subst hu
          show J g (d + 9) 69 79 _ _ (f3, σ.2) _
          refine jm_run ok_H_check [14, 35] 90 (fun kk hk => ?_)
          conv => whnf
          refine jg hH.fx ?_
          conv => whnf
          refine jg hH.fq ?_
          conv => whnf
          refine hk _ _ _ _ (k_H_check_90 rfl (c_plus (σ := (f3, σ.2)) (A := 1) (B := 1) (m := sp_zm) hH.pm hT3 hw hH.pq hPA2 p2w hj sp_cf1 sp_zm_ok (by omega) (by omega) (by unfold dj; omega) hr) (fun u hu => ?_))
          obtain ⟨f5', hf5, h5⟩ := hu
          have hff5 : ∀ q, ¬ (h + 1524 ≤ q ∧ q < h + 1533) → f5' q = σ.1 q := fun q hq => (hf5 q (by omega) (by omega)).trans (hff q hq)
          rcases h5 with ⟨p5, hp5, hu, hPA5⟩ | ⟨hn, hu⟩
          · subst hu
            have hO : _ = (((sp_plus (hkd S) 1 1 sp_zm to p2).bind (sp_cks (hkd S) (E.2.drop (k + 1)) ((hgn S).drop (k + 1)))).bind (fun m => sp_chk (hkd S) (hgn S) ((hel S).drop (i + 1)) (b && sp_same m E.1))) := hO
            rw [hp5] at hO
            show J g (d + 9) 69 93 _ _ (f5', σ.2) _
            refine jm_run ok_H_check [14, 35] 90 (fun kk hk => ?_)
            conv => whnf
            rw [nI_1]
            exact hk _ _ _ _ (ih2 (k + 1) (by omega) f5' p5 hPA5 (sp_plus_w sp_cf1 hw p2w.2 hp5) hff5 hO)
          · subst hu
            have hO : _ = (((sp_plus (hkd S) 1 1 sp_zm to p2).bind (sp_cks (hkd S) (E.2.drop (k + 1)) ((hgn S).drop (k + 1)))).bind (fun m => sp_chk (hkd S) (hgn S) ((hel S).drop (i + 1)) (b && sp_same m E.1))) := hO
            rw [hn] at hO
            exact thr f5' _ _ _ hff5 hO
        · subst hu
          rw [hn] at hO
          exact thr f3 _ _ _ hff hO
    have hst : jm_wi (f, σ.2) (h + 1525) 0 0 = ((jm_wi (f, σ.2) (h + 1525) 0 0).1, σ.2) := rfl
    refine jm_run ok_H_check [14, 35] 90 (fun kk hk => ?_)
    conv => whnf
    refine jg hH.fe ?_
    conv => whnf
    refine b_le f10 rfl (fun h => by omega) (fun _ => ?_)
    conv => whnf
    refine jg hH.fm ?_
    conv => whnf
    rw [hst]
    exact hk _ _ _ _ (inner (hgn S).length 0 (by omega) _ [] (PA_nil jm_wi_at) sp_pw_nil (fun q hq => (jm_wi_q (by omega)).trans (hf q hq)) hO)
theorem c_check (hR : HR g σ h S) (hG : GS S) (hr : sp_rm g σ) (hh : h + 1631 ≤ σ.2.2.1) : J g (d + 9) 69 0 [some (aR 1 h), none, none, none] [] σ (jH g σ h (op_check S).1 (op_check S).2) := by
  unfold op_check
  cases hb : hB S with
  | false =>
    rw [if_neg (by decide)]
    have h8 : σ.1 h 8 = sp_bi false := by rw [hR.2.1.2.2.2.1, hb]
    refine jm_run ok_H_check [] 90 (fun kk hk => ?_)
    conv => whnf
    refine b_nz h8 (fun h => by cases h) (fun _ => ?_)
    conv => whnf
    exact hk _ _ _ _ (r_H_check_9 (jH_same hR))
  | true =>
    rw [if_pos rfl]
    have h8 : σ.1 h 8 = sp_bi true := by rw [hR.2.1.2.2.2.1, hb]
    refine jm_run ok_H_check [14] 90 (fun kk hk => ?_)
    conv => whnf
    refine b_nz h8 (fun _ => ?_) (fun h => by cases h)
    conv => whnf
    exact hk _ _ _ _ (c_checkL hR hG hr hh hb (hel S).length 0 (by omega) σ.1 true none (fun _ _ => rfl) rfl)
end
