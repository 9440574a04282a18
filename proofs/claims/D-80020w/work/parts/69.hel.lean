/-! the House: element, share, certificate, check -/
def sp_ie (n : Nat) (x : Int32) : Bool := decide (0 ≤ x.toInt ∧ x.toInt < n)
theorem sp_ie_t {n : Nat} {x : Int32} (hn : n < 2147483648) (h : sp_ie n x = true) : ∃ k : Nat, k < n ∧ x = nI k := vp_in_of (n := n) (vp_in_iff.mpr (of_decide_eq_true h)) hn
section
variable {g : jm_G} {d : Nat} {σ τ : jm_S} {h : Nat} {S : sp_H}
theorem c_isElement {x : Int32} {n : Nat} (hH : HL g σ h) (h10 : σ.1 (h + 196) 10 = nI n) (hn : n ≤ 24) : J g d 65 0 [some (aR 1 h), some (aI x)] [] σ (jR σ (aI (sp_bi (sp_ie n x)))) := by
  have e0 : (0 : Int32).toInt = 0 := rfl
  refine jm_run ok_H_isElement [] 90 (fun kk hk => ?_)
  conv => whnf
  refine ⟨fun h1 => ?_, fun h1 => ?_⟩
  · have h2 := Int32.lt_iff_toInt_lt.mp h1
    have h3 : sp_ie n x = false := decide_eq_false (fun q => by omega)
    conv => whnf
    exact hk _ _ _ _ (r_H_isElement_20 (Or.inl rfl) (by rw [h3]; exact rfl))
  · have h2 : ¬ x.toInt < (0 : Int32).toInt := fun q => h1 (Int32.lt_iff_toInt_lt.mpr q)
    conv => whnf
    refine jg hH.fe ?_
    conv => whnf
    rw [h10]
    have en : (nI n).toInt = n := nI_toInt (by omega)
    refine ⟨fun h3 => ?_, fun h3 => ?_⟩
    · have h4 := Int32.le_iff_toInt_le.mp h3
      have h5 : sp_ie n x = false := decide_eq_false (fun q => by omega)
      conv => whnf
      exact hk _ _ _ _ (r_H_isElement_20 (Or.inl rfl) (by rw [h5]; exact rfl))
    · have h4 : ¬ (nI n).toInt ≤ x.toInt := fun q => h3 (Int32.le_iff_toInt_le.mpr q)
      have h5 : sp_ie n x = true := decide_eq_true (by omega)
      conv => whnf
      exact hk _ _ _ _ (r_H_isElement_20 (Or.inr rfl) (by rw [h5]; exact rfl))
def op_element (S : sp_H) (x r : Int32) : Int32 × sp_H := if hB S = true then (if sp_ie (hel S).length x = true ∧ sp_ip r = true then op_give S r.toNatClampNeg (some (sp_at0 (hel S) x.toNatClampNeg).1) else (-1, S)) else (-3, S)
theorem c_element {x y : Int32} (hR : HR g σ h S) (hG : GS S) : J g (d + 2) 64 0 [some (aR 1 h), some (aI x), some (aI y)] [] σ (jH g σ h (op_element S x y).1 (op_element S x y).2) := by
  have hH := hR.1
  unfold op_element
  cases hb : hB S with
  | false =>
    rw [if_neg (by decide)]
    have h8 : σ.1 h 8 = sp_bi false := by rw [hR.2.1.2.2.2.1, hb]
    refine jm_run ok_H_element [] 90 (fun kk hk => ?_)
    conv => whnf
    refine b_nz h8 (fun h => by cases h) (fun _ => ?_)
    conv => whnf
    exact hk _ _ _ _ (r_H_element_9 (jH_same hR))
  | true =>
    rw [if_pos rfl]
    have h8 : σ.1 h 8 = sp_bi true := by rw [hR.2.1.2.2.2.1, hb]
    obtain ⟨s, es, heX⟩ := hR.2.2.2.2.1.1
    have hX := (heX hb).2
    have hl24 := hX.1
    refine jm_run ok_H_element [] 90 (fun kk hk => ?_)
    conv => whnf
    refine b_nz h8 (fun _ => ?_) (fun h => by cases h)
    conv => whnf
    refine hk _ _ _ _ (k_H_element_12 rfl (c_isElement hH hX.2.1 hX.1) (fun u hu => ?_))
    subst hu
    show J g (d + 2) 64 15 _ _ σ _
    cases hx : sp_ie (hel S).length x with
    | false =>
      rw [if_neg (fun q => by cases q.1)]
      refine jm_run ok_H_element [] 90 (fun kk hk => ?_)
      conv => whnf
      refine b_z (b := false) rfl (fun _ => ?_) (fun h => by cases h)
      conv => whnf
      exact hk _ _ _ _ (r_H_element_46 (jH_same hR))
    | true =>
      obtain ⟨i, hi, rfl⟩ := sp_ie_t (by omega) hx
      rw [nI_clamp (by omega)]
      refine jm_run ok_H_element [] 90 (fun kk hk => ?_)
      conv => whnf
      refine b_z (b := true) rfl (fun h => by cases h) (fun _ => ?_)
      conv => whnf
      refine hk _ _ _ _ (k_H_element_19 rfl c_isPlace (fun u hu => ?_))
      subst hu
      show J g (d + 2) 64 22 _ _ σ _
      cases hy : sp_ip y with
      | false =>
        rw [if_neg (fun q => by cases q.2)]
        refine jm_run ok_H_element [] 90 (fun kk hk => ?_)
        conv => whnf
        refine b_z (b := false) rfl (fun _ => ?_) (fun h => by cases h)
        conv => whnf
        exact hk _ _ _ _ (r_H_element_46 (jH_same hR))
      | true =>
        rw [if_pos ⟨rfl, rfl⟩]
        obtain ⟨r, hr40, rfl⟩ := sp_ip_t hy
        rw [nI_clamp (by omega)]
        have gi : (hel S)[i]? = some (hel S)[i] := List.getElem?_eq_getElem hi
        rw [sp_at0_at gi]
        have hgd := hX.2.2 i _ gi
        generalize (hel S)[i] = E at gi hgd
        have hsi := es.1 i (by omega)
        have hep := hH.e1.2.2.2.2.2 (s i) hsi.1
        have hge := eo_ge (h + 196) 8 (s i)
        have h25 := eo_25 (e := h + 196) (n := 8) hsi.1
        have e25 : eo (h + 196) 8 25 = h + 1260 := by unfold eo; omega
        refine jm_run ok_H_element [] 90 (fun kk hk => ?_)
        conv => whnf
        refine b_z (b := true) rfl (fun h => by cases h) (fun _ => ?_)
        conv => whnf
        refine jg hH.fe ?_
        conv => whnf
        refine jg hH.e1.1.2.1 ?_
        conv => whnf
        refine jr rfl hH.e1.2.1.1 hsi.2 ?_
        conv => whnf
        refine jg hep.1 ?_
        conv => whnf
        refine hk _ _ _ _ (k_H_element_39 rfl (c_give hH hr40 hep.2.2.1 hgd.1.1 hgd.2.1.1.1 (by unfold dj; omega)) (fun u hu => ?_))
        obtain ⟨f4, hf4, hPA4, hu⟩ := hu
        subst hu
        show J g (d + 2) 64 42 _ _ (f4, σ.2) _
        refine jm_run ok_H_element [] 90 (fun kk hk => ?_)
        conv => whnf
        exact hk _ _ _ _ (r_H_element_46 (jH_ret (HR_give hR hG hr40 (fun _ _ _ => rfl) hPA4 (fun q _ _ _ h3 h4 => hf4 q h4)) (fun q hq => hf4 q (by omega)) (fun _ _ => rfl) rfl))
def op_share (S : sp_H) (x z r : Int32) : Int32 × sp_H := if hB S = true then (if sp_ie (hel S).length x = true ∧ sp_ie (hgn S).length z = true ∧ sp_ip r = true then op_give S r.toNatClampNeg (some ((sp_at0 (hel S) x.toNatClampNeg).2.getD z.toNatClampNeg [])) else (-1, S)) else (-3, S)
theorem c_share {x z y : Int32} (hR : HR g σ h S) (hG : GS S) : J g (d + 2) 66 0 [some (aR 1 h), some (aI x), some (aI z), some (aI y)] [] σ (jH g σ h (op_share S x z y).1 (op_share S x z y).2) := by
  have hH := hR.1
  have hgl := hG.2.2.2.1
  have e0 : (0 : Int32).toInt = 0 := rfl
  unfold op_share
  cases hb : hB S with
  | false =>
    rw [if_neg (by decide)]
    have h8 : σ.1 h 8 = sp_bi false := by rw [hR.2.1.2.2.2.1, hb]
    refine jm_run ok_H_share [] 90 (fun kk hk => ?_)
    conv => whnf
    refine b_nz h8 (fun h => by cases h) (fun _ => ?_)
    conv => whnf
    exact hk _ _ _ _ (r_H_share_9 (jH_same hR))
  | true =>
    rw [if_pos rfl]
    have h8 : σ.1 h 8 = sp_bi true := by rw [hR.2.1.2.2.2.1, hb]
    obtain ⟨s, es, heX⟩ := hR.2.2.2.2.1.1
    have hX := (heX hb).2
    have hl24 := hX.1
    refine jm_run ok_H_share [] 90 (fun kk hk => ?_)
    conv => whnf
    refine b_nz h8 (fun _ => ?_) (fun h => by cases h)
    conv => whnf
    refine hk _ _ _ _ (k_H_share_12 rfl (c_isElement hH hX.2.1 hX.1) (fun u hu => ?_))
    subst hu
    show J g (d + 2) 66 15 _ _ σ _
    cases hx : sp_ie (hel S).length x with
    | false =>
      rw [if_neg (fun q => by cases q.1)]
      refine jm_run ok_H_share [] 90 (fun kk hk => ?_)
      conv => whnf
      refine b_z (b := false) rfl (fun _ => ?_) (fun h => by cases h)
      conv => whnf
      exact hk _ _ _ _ (r_H_share_60 (jH_same hR))
    | true =>
      obtain ⟨i, hi, rfl⟩ := sp_ie_t (by omega) hx
      rw [nI_clamp (n := i) (by omega)]
      cases hz : sp_ie (hgn S).length z with
      | false =>
        rw [if_neg (fun q => by cases q.2.1)]
        have hz := of_decide_eq_false hz
        refine jm_run ok_H_share [] 90 (fun kk hk => ?_)
        conv => whnf
        refine b_z (b := true) rfl (fun h => by cases h) (fun _ => ?_)
        conv => whnf
        refine ⟨fun h1 => ?_, fun h1 => ?_⟩
        · conv => whnf
          exact hk _ _ _ _ (r_H_share_60 (jH_same hR))
        · have q1 : ¬ z.toInt < (0 : Int32).toInt := fun q => h1 (Int32.lt_iff_toInt_lt.mpr q)
          conv => whnf
          rw [hR.2.1.2.2.1]
          refine ⟨fun h2 => ?_, fun h2 => ?_⟩
          · conv => whnf
            exact hk _ _ _ _ (r_H_share_60 (jH_same hR))
          · have q2 : ¬ (nI (hgn S).length).toInt ≤ z.toInt := fun q => h2 (Int32.le_iff_toInt_le.mpr q)
            rw [nI_toInt (by omega)] at q2
            exact absurd ⟨by omega, by omega⟩ hz
      | true =>
        obtain ⟨k, hk8, rfl⟩ := sp_ie_t (by omega) hz
        rw [nI_clamp (n := k) (by omega)]
        refine jm_run ok_H_share [] 90 (fun kk hk => ?_)
        conv => whnf
        refine b_z (b := true) rfl (fun h => by cases h) (fun _ => ?_)
        conv => whnf
        refine b_lt (a := k) (b := 0) rfl rfl (fun h => by omega) (fun _ => ?_)
        conv => whnf
        refine b_le hR.2.1.2.2.1 rfl (fun h => by omega) (fun _ => ?_)
        conv => whnf
        refine hk _ _ _ _ (k_H_share_31 rfl c_isPlace (fun u hu => ?_))
        subst hu
        show J g (d + 2) 66 34 _ _ σ _
        cases hy : sp_ip y with
        | false =>
          rw [if_neg (fun q => by cases q.2.2)]
          refine jm_run ok_H_share [] 90 (fun kk hk => ?_)
          conv => whnf
          refine b_z (b := false) rfl (fun _ => ?_) (fun h => by cases h)
          conv => whnf
          exact hk _ _ _ _ (r_H_share_60 (jH_same hR))
        | true =>
          rw [if_pos ⟨rfl, rfl, rfl⟩]
          obtain ⟨r, hr40, rfl⟩ := sp_ip_t hy
          rw [nI_clamp (by omega)]
          have gi : (hel S)[i]? = some (hel S)[i] := List.getElem?_eq_getElem hi
          rw [sp_at0_at gi]
          have hgd := hX.2.2 i _ gi
          generalize (hel S)[i] = E at gi hgd
          have hkE : k < E.2.length := by rw [hgd.2.2.2]; exact hk8
          have gk : E.2[k]? = some E.2[k] := List.getElem?_eq_getElem hkE
          rw [List.getD_eq_getElem?_getD, gk]
          have hPk := hgd.1.2 k _ gk
          have hwk := hgd.2.1.2 _ (List.mem_of_getElem? gk)
          generalize E.2[k] = pk at gk hPk hwk
          have hsi := es.1 i (by omega)
          have hep := hH.e1.2.2.2.2.2 (s i) hsi.1
          have hek := hep.2.2.2.2 k (by omega)
          have hge := eo_ge (h + 196) 8 (s i)
          have h25 := eo_25 (e := h + 196) (n := 8) hsi.1
          have e25 : eo (h + 196) 8 25 = h + 1260 := by unfold eo; omega
          show J g (d + 2) 66 34 _ _ σ (jH g σ h (nI pk.length) (sp_setP S r pk))
          refine jm_run ok_H_share [] 90 (fun kk hk => ?_)
          conv => whnf
          refine b_z (b := true) rfl (fun h => by cases h) (fun _ => ?_)
          conv => whnf
          refine jg hH.fe ?_
          conv => whnf
          refine jg hH.e1.1.2.1 ?_
          conv => whnf
          refine jr rfl hH.e1.2.1.1 hsi.2 ?_
          conv => whnf
          refine jg hep.2.1 ?_
          conv => whnf
          refine jr rfl hep.2.2.2.1 hek.1 ?_
          conv => whnf
          refine hk _ _ _ _ (k_H_share_53 rfl (c_give hH hr40 hek.2 hPk hwk.1 (by unfold dj; omega)) (fun u hu => ?_))
          obtain ⟨f4, hf4, hPA4, hu⟩ := hu
          subst hu
          show J g (d + 2) 66 56 _ _ (f4, σ.2) _
          refine jm_run ok_H_share [] 90 (fun kk hk => ?_)
          conv => whnf
          exact hk _ _ _ _ (r_H_share_60 (jH_ret (HR_give hR hG hr40 (fun _ _ _ => rfl) hPA4 (fun q _ _ _ h3 h4 => hf4 q h4)) (fun q hq => hf4 q (by omega)) (fun _ _ => rfl) rfl))
end
