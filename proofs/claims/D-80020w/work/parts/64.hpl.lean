/-! the House: short names; plus, times -/
section
variable {g : jm_G} {d : Nat} {σ τ : jm_S} {h : Nat} {S S' : sp_H}
theorem HL.fpl (hH : HL g σ h) : σ.2.1 h 3 = h + 2 + 1 := hH.1.2.1
theorem HL.fgn (hH : HL g σ h) : σ.2.1 h 4 = h + 163 + 1 := hH.1.2.2.1
theorem HL.fe (hH : HL g σ h) : σ.2.1 h 6 = h + 196 + 1 := hH.1.2.2.2.1
theorem HL.fo (hH : HL g σ h) : σ.2.1 h 7 = h + 1260 + 1 := hH.1.2.2.2.2.1
theorem HL.fx (hH : HL g σ h) : σ.2.1 h 10 = h + 1524 + 1 := hH.1.2.2.2.2.2.1
theorem HL.fm (hH : HL g σ h) : σ.2.1 h 11 = h + 1525 + 1 := hH.1.2.2.2.2.2.2.1
theorem HL.fq (hH : HL g σ h) : σ.2.1 h 12 = h + 1529 + 1 := hH.1.2.2.2.2.2.2.2.1
theorem HL.fk (hH : HL g σ h) : σ.2.1 h 13 = h + 1533 + 1 := hH.1.2.2.2.2.2.2.2.2.1
theorem HL.fb (hH : HL g σ h) : σ.2.1 h 14 = h + 1630 + 1 := hH.1.2.2.2.2.2.2.2.2.2
theorem HL.npl (hH : HL g σ h) : gln g (h + 2) = 40 := hH.2.1.2.1
theorem HL.ngn (hH : HL g σ h) : gln g (h + 163) = 8 := hH.2.1.2.2.1
theorem HL.nk (hH : HL g σ h) : gln g (h + 1533) = 24 := hH.2.1.2.2.2.1
theorem HL.nb (hH : HL g σ h) : gln g (h + 1630) = 4 := hH.2.1.2.2.2.2
theorem HL.ple (hH : HL g σ h) {k : Nat} (hk : k < 40) : σ.2.1 (h + 2) k = h + 3 + 4 * k + 1 ∧ pl g σ (h + 3 + 4 * k) := hH.2.2.2.1 k hk
theorem HL.gne (hH : HL g σ h) {k : Nat} (hk : k < 8) : σ.2.1 (h + 163) k = h + 164 + 4 * k + 1 ∧ pl g σ (h + 164 + 4 * k) := hH.2.2.2.2.1 k hk
theorem HL.kpe (hH : HL g σ h) {k : Nat} (hk : k < 24) : σ.2.1 (h + 1533) k = h + 1534 + 4 * k + 1 ∧ pl g σ (h + 1534 + 4 * k) := hH.2.2.2.2.2.1 k hk
theorem HL.pm (hH : HL g σ h) : pl g σ (h + 1525) := hH.2.2.2.2.2.2.1
theorem HL.pq (hH : HL g σ h) : pl g σ (h + 1529) := hH.2.2.2.2.2.2.2.1
theorem HL.e1 (hH : HL g σ h) : EL g σ (h + 196) 8 := hH.2.2.2.2.2.2.2.2.1
theorem HL.e2 (hH : HL g σ h) : EL g σ (h + 1260) 0 := hH.2.2.2.2.2.2.2.2.2
/-- what an act gives to a place, or -7 -/
def op_give (S : sp_H) (r : Nat) (o : Option sp_P) : Int32 × sp_H := match o with
  | none => (-7, S)
  | some p => (nI p.length, sp_setP S r p)
theorem GS_opg {r : Nat} {o : Option sp_P} (hG : GS S) (ho : ∀ p, o = some p → pok S p) : GS (op_give S r o).2 := by
  cases o with
  | none => exact hG
  | some p => exact GS_setP hG (ho p rfl)
def op_plus (S : sp_H) (x y z : Int32) : Int32 × sp_H := if sp_ip x = true ∧ sp_ip y = true ∧ sp_ip z = true then op_give S z.toNatClampNeg (sp_plus (hkd S) 1 1 sp_zm (pg S x.toNatClampNeg) (pg S y.toNatClampNeg)) else (-1, S)
theorem c_plus2 {x y z : Int32} (hR : HR g σ h S) (hG : GS S) (hr : sp_rm g σ) (hh : h + 1631 ≤ σ.2.2.1) : J g (d + 8) 31 0 [some (aR 1 h), some (aI x), some (aI y), some (aI z), none] [] σ (jH g σ h (op_plus S x y z).1 (op_plus S x y z).2) := by
  refine jm_run ok_H_plus [] 90 (fun kk hk => ?_)
  conv => whnf
  refine hk _ _ _ _ (k_H_plus_1 rfl c_isPlace (fun u hu => ?_))
  subst hu
  show J g (d + 8) 31 4 _ _ σ _
  unfold op_plus
  cases hx : sp_ip x with
  | false =>
    rw [if_neg (fun q => by cases q.1)]
    refine jm_run ok_H_plus [] 90 (fun kk hk => ?_)
    conv => whnf
    refine b_z (b := false) rfl (fun _ => ?_) (fun h => by cases h)
    conv => whnf
    exact hk _ _ _ _ (r_H_plus_22 (jH_same hR))
  | true =>
    refine jm_run ok_H_plus [] 90 (fun kk hk => ?_)
    conv => whnf
    refine b_z (b := true) rfl (fun h => by cases h) (fun _ => ?_)
    conv => whnf
    refine hk _ _ _ _ (k_H_plus_8 rfl c_isPlace (fun u hu => ?_))
    subst hu
    show J g (d + 8) 31 11 _ _ σ _
    cases hy : sp_ip y with
    | false =>
      rw [if_neg (fun q => by cases q.2.1)]
      refine jm_run ok_H_plus [] 90 (fun kk hk => ?_)
      conv => whnf
      refine b_z (b := false) rfl (fun _ => ?_) (fun h => by cases h)
      conv => whnf
      exact hk _ _ _ _ (r_H_plus_22 (jH_same hR))
    | true =>
      refine jm_run ok_H_plus [] 90 (fun kk hk => ?_)
      conv => whnf
      refine b_z (b := true) rfl (fun h => by cases h) (fun _ => ?_)
      conv => whnf
      refine hk _ _ _ _ (k_H_plus_15 rfl c_isPlace (fun u hu => ?_))
      subst hu
      show J g (d + 8) 31 18 _ _ σ _
      cases hz : sp_ip z with
      | false =>
        rw [if_neg (fun q => by cases q.2.2)]
        refine jm_run ok_H_plus [] 90 (fun kk hk => ?_)
        conv => whnf
        refine b_nz (b := false) rfl (fun h => by cases h) (fun _ => ?_)
        conv => whnf
        exact hk _ _ _ _ (r_H_plus_22 (jH_same hR))
      | true =>
        rw [if_pos ⟨rfl, rfl, rfl⟩]
        obtain ⟨k, hk40, rfl⟩ := sp_ip_t hx
        obtain ⟨l, hl40, rfl⟩ := sp_ip_t hy
        obtain ⟨r, hr40, rfl⟩ := sp_ip_t hz
        have hH := hR.1
        have hP := hR.pl hG hk40
        have hpr := hH.ple hk40
        have hP2 := hR.pl hG hl40
        have hpr2 := hH.ple hl40
        have w1 := (pg_ok hG hk40).1
        have w2 := (pg_ok hG hl40).1
        have hj := hG.2.1
        rw [nI_clamp (by omega), nI_clamp (by omega), nI_clamp (by omega)]
        refine jm_run ok_H_plus [] 90 (fun kk hk => ?_)
        conv => whnf
        refine b_nz (b := true) rfl (fun _ => ?_) (fun h => by cases h)
        conv => whnf
        refine jg hH.fm ?_
        conv => whnf
        refine jg hH.fpl ?_
        conv => whnf
        refine jr rfl hH.npl hpr.1 ?_
        conv => whnf
        refine hk _ _ _ _ (k_H_plus_33 rfl (c_become hH.pm hpr.2 hP w1.1 (by unfold dj; omega)) (fun u hu => ?_))
        obtain ⟨f, hf, hu, hPA⟩ := jO_some hu
        subst hu
        show J g (d + 8) 31 36 _ _ (f, σ.2) _
        have h2' : f h 2 = nI (hkd S) := by rw [hf h (by omega) (by omega)]; exact hR.2.1.2.1
        have hP2' : PA f (h + 3 + 4 * l) (pg S l) := PA_frame hP2 (hf _ (by omega) (by omega)) (hf _ (by omega) (by omega)) (hf _ (by omega) (by omega)) (hf _ (by omega) (by omega))
        refine jm_run ok_H_plus [] 90 (fun kk hk => ?_)
        conv => whnf
        refine jg hH.fm ?_
        conv => whnf
        refine hk _ _ _ _ (k_H_plus_41 rfl (c_order2 (σ := (f, σ.2)) hH hj h2') (fun u hu => ?_))
        subst hu
        show J g (d + 8) 31 44 _ _ (f, σ.2) _
        refine jm_run ok_H_plus [] 90 (fun kk hk => ?_)
        conv => whnf
        refine jg hH.fx ?_
        conv => whnf
        refine jg hH.fpl ?_
        conv => whnf
        refine jr rfl hH.npl hpr2.1 ?_
        conv => whnf
        refine hk _ _ _ _ (k_H_plus_57 rfl (c_plus (σ := (f, σ.2)) (A := 1) (B := 1) (m := sp_zm) hH.pm hPA w1 hpr2.2 hP2' w2 hj sp_cf1 sp_zm_ok (by omega) (by omega) (by unfold dj; omega) hr) (fun u hu => ?_))
        obtain ⟨f3, hf3, h3⟩ := hu
        have hff : ∀ q, ¬ (h + 1524 ≤ q ∧ q < h + 1529) → f3 q = σ.1 q := fun q hq => (hf3 q (by omega) (by omega)).trans (hf q (by omega) (by omega))
        rcases h3 with ⟨p2, hp2, hu, hPA2⟩ | ⟨hn, hu⟩
        · subst hu
          rw [hp2]
          have pw2 : sp_pw p2 := sp_plus_w sp_cf1 w1 w2.2 hp2
          show J g (d + 8) 31 60 _ _ (f3, σ.2) _
          refine jm_run ok_H_plus [] 90 (fun kk hk => ?_)
          conv => whnf
          refine jg hH.fm ?_
          conv => whnf
          refine hk _ _ _ _ (k_H_plus_77 rfl (c_give (σ := (f3, σ.2)) hH hr40 hH.pm hPA2 pw2.1 (by unfold dj; omega)) (fun u hu => ?_))
          obtain ⟨f4, hf4, hPA4, hu⟩ := hu
          subst hu
          have hff4 : ∀ q, ¬ (h + 1524 ≤ q ∧ q < h + 1529) → ¬ (h + 3 + 4 * r ≤ q ∧ q ≤ h + 3 + 4 * r + 3) → f4 q = σ.1 q := fun q h1 h2 => (hf4 q h2).trans (hff q h1)
          exact r_H_plus_80 (jH_ret (HR_give hR hG hr40 (fun _ _ _ => rfl) hPA4 (fun q _ _ _ h3 h4 => hff4 q (by omega) h4)) (fun q hq => hff4 q (by omega) (by omega)) (fun _ _ => rfl) rfl)
        · subst hu
          rw [hn]
          show J g (d + 8) 31 63 _ [aR 7 _] (jm_wi (jm_nw (f3, σ.2) 7) σ.2.2.1 0 (-7)) _
          refine jm_run ok_H_plus [] 90 (fun kk hk => ?_)
          conv => whnf
          exact hk _ _ _ _ (r_H_plus_70 (jH_thr (HR_fr hR hG (fun _ _ _ => rfl) (fun q _ _ _ h3 => hff q (by omega))) hG hh (fun q hq => hff q (by omega)) (fun _ _ => rfl) rfl))
def op_times (S : sp_H) (x y z : Int32) : Int32 × sp_H := if sp_ip x = true ∧ sp_ip y = true ∧ sp_ip z = true then op_give S z.toNatClampNeg (sp_mulG (hkd S) (pg S y.toNatClampNeg) [] (pg S x.toNatClampNeg)) else (-1, S)
theorem c_times2 {x y z : Int32} (hR : HR g σ h S) (hG : GS S) (hr : sp_rm g σ) (hh : h + 1631 ≤ σ.2.2.1) : J g (d + 9) 34 0 [some (aR 1 h), some (aI x), some (aI y), some (aI z), none] [] σ (jH g σ h (op_times S x y z).1 (op_times S x y z).2) := by
  refine jm_run ok_H_times [] 90 (fun kk hk => ?_)
  conv => whnf
  refine hk _ _ _ _ (k_H_times_1 rfl c_isPlace (fun u hu => ?_))
  subst hu
  show J g (d + 9) 34 4 _ _ σ _
  unfold op_times
  cases hx : sp_ip x with
  | false =>
    rw [if_neg (fun q => by cases q.1)]
    refine jm_run ok_H_times [] 90 (fun kk hk => ?_)
    conv => whnf
    refine b_z (b := false) rfl (fun _ => ?_) (fun h => by cases h)
    conv => whnf
    exact hk _ _ _ _ (r_H_times_22 (jH_same hR))
  | true =>
    refine jm_run ok_H_times [] 90 (fun kk hk => ?_)
    conv => whnf
    refine b_z (b := true) rfl (fun h => by cases h) (fun _ => ?_)
    conv => whnf
    refine hk _ _ _ _ (k_H_times_8 rfl c_isPlace (fun u hu => ?_))
    subst hu
    show J g (d + 9) 34 11 _ _ σ _
    cases hy : sp_ip y with
    | false =>
      rw [if_neg (fun q => by cases q.2.1)]
      refine jm_run ok_H_times [] 90 (fun kk hk => ?_)
      conv => whnf
      refine b_z (b := false) rfl (fun _ => ?_) (fun h => by cases h)
      conv => whnf
      exact hk _ _ _ _ (r_H_times_22 (jH_same hR))
    | true =>
      refine jm_run ok_H_times [] 90 (fun kk hk => ?_)
      conv => whnf
      refine b_z (b := true) rfl (fun h => by cases h) (fun _ => ?_)
      conv => whnf
      refine hk _ _ _ _ (k_H_times_15 rfl c_isPlace (fun u hu => ?_))
      subst hu
      show J g (d + 9) 34 18 _ _ σ _
      cases hz : sp_ip z with
      | false =>
        rw [if_neg (fun q => by cases q.2.2)]
        refine jm_run ok_H_times [] 90 (fun kk hk => ?_)
        conv => whnf
        refine b_nz (b := false) rfl (fun h => by cases h) (fun _ => ?_)
        conv => whnf
        exact hk _ _ _ _ (r_H_times_22 (jH_same hR))
      | true =>
        rw [if_pos ⟨rfl, rfl, rfl⟩]
        obtain ⟨k, hk40, rfl⟩ := sp_ip_t hx
        obtain ⟨l, hl40, rfl⟩ := sp_ip_t hy
        obtain ⟨r, hr40, rfl⟩ := sp_ip_t hz
        have hH := hR.1
        have hP := hR.pl hG hk40
        have hpr := hH.ple hk40
        have hP2 := hR.pl hG hl40
        have hpr2 := hH.ple hl40
        have w1 := (pg_ok hG hk40).1
        have w2 := (pg_ok hG hl40).1
        have hj := hG.2.1
        rw [nI_clamp (by omega), nI_clamp (by omega), nI_clamp (by omega)]
        refine jm_run ok_H_times [] 90 (fun kk hk => ?_)
        conv => whnf
        refine b_nz (b := true) rfl (fun _ => ?_) (fun h => by cases h)
        conv => whnf
        refine jg hH.fm ?_
        conv => whnf
        refine jg hH.fpl ?_
        conv => whnf
        refine jr rfl hH.npl hpr.1 ?_
        conv => whnf
        refine jg hH.fpl ?_
        conv => whnf
        refine jr rfl hH.npl hpr2.1 ?_
        conv => whnf
        refine hk _ _ _ _ (k_H_times_40 rfl (c_multiply hH hj hR.2.1.2.1 hH.pm hpr.2 hpr2.2 hP hP2 w1 w2 (by unfold dj; omega) (by unfold dj; omega) (by omega) (by omega) (by omega) (by omega) hr) (fun u hu => ?_))
        obtain ⟨f3, hf3, h3⟩ := hu
        have hff : ∀ q, ¬ (h + 1524 ≤ q ∧ q < h + 1529) → f3 q = σ.1 q := fun q hq => hf3 q (by omega) (by omega)
        rcases h3 with ⟨p2, hp2, hu, hPA2⟩ | ⟨hn, hu⟩
        · subst hu
          rw [hp2]
          have pw2 : sp_pw p2 := sp_mulG_w w2 sp_pw_nil w1.2 hp2
          show J g (d + 9) 34 43 _ _ (f3, σ.2) _
          refine jm_run ok_H_times [] 90 (fun kk hk => ?_)
          conv => whnf
          refine jg hH.fm ?_
          conv => whnf
          refine hk _ _ _ _ (k_H_times_60 rfl (c_give (σ := (f3, σ.2)) hH hr40 hH.pm hPA2 pw2.1 (by unfold dj; omega)) (fun u hu => ?_))
          obtain ⟨f4, hf4, hPA4, hu⟩ := hu
          subst hu
          have hff4 : ∀ q, ¬ (h + 1524 ≤ q ∧ q < h + 1529) → ¬ (h + 3 + 4 * r ≤ q ∧ q ≤ h + 3 + 4 * r + 3) → f4 q = σ.1 q := fun q h1 h2 => (hf4 q h2).trans (hff q h1)
          exact r_H_times_63 (jH_ret (HR_give hR hG hr40 (fun _ _ _ => rfl) hPA4 (fun q _ _ _ h3 h4 => hff4 q (by omega) h4)) (fun q hq => hff4 q (by omega) (by omega)) (fun _ _ => rfl) rfl)
        · subst hu
          rw [hn]
          show J g (d + 9) 34 46 _ [aR 7 _] (jm_wi (jm_nw (f3, σ.2) 7) σ.2.2.1 0 (-7)) _
          refine jm_run ok_H_times [] 90 (fun kk hk => ?_)
          conv => whnf
          exact hk _ _ _ _ (r_H_times_53 (jH_thr (HR_fr hR hG (fun _ _ _ => rfl) (fun q _ _ _ h3 => hff q (by omega))) hG hh (fun q hq => hff q (by omega)) (fun _ _ => rfl) rfl))
end
