/-! the House: its layout, small methods -/
def HL (g : jm_G) (σ : jm_S) (h : Nat) : Prop :=
  (σ.2.1 h 1 = h + 1 + 1 ∧ σ.2.1 h 3 = h + 2 + 1 ∧ σ.2.1 h 4 = h + 163 + 1 ∧ σ.2.1 h 6 = h + 196 + 1 ∧ σ.2.1 h 7 = h + 1260 + 1 ∧ σ.2.1 h 10 = h + 1524 + 1 ∧ σ.2.1 h 11 = h + 1525 + 1 ∧ σ.2.1 h 12 = h + 1529 + 1 ∧ σ.2.1 h 13 = h + 1533 + 1 ∧ σ.2.1 h 14 = h + 1630 + 1) ∧
  (gln g (h + 1) = 3 ∧ gln g (h + 2) = 40 ∧ gln g (h + 163) = 8 ∧ gln g (h + 1533) = 24 ∧ gln g (h + 1630) = 4) ∧
  (∀ j, j < 3 → σ.2.1 (h + 1) j = goa g j + 1) ∧
  (∀ k, k < 40 → σ.2.1 (h + 2) k = h + 3 + 4 * k + 1 ∧ pl g σ (h + 3 + 4 * k)) ∧
  (∀ k, k < 8 → σ.2.1 (h + 163) k = h + 164 + 4 * k + 1 ∧ pl g σ (h + 164 + 4 * k)) ∧
  (∀ k, k < 24 → σ.2.1 (h + 1533) k = h + 1534 + 4 * k + 1 ∧ pl g σ (h + 1534 + 4 * k)) ∧
  pl g σ (h + 1525) ∧ pl g σ (h + 1529) ∧ EL g σ (h + 196) 8 ∧ EL g σ (h + 1260) 0
/-- whether a number is that of a place -/
def sp_ip (x : Int32) : Bool := decide (0 ≤ x.toInt ∧ x.toInt < 40)
theorem sp_ip_t {x : Int32} (h : sp_ip x = true) : ∃ k : Nat, k < 40 ∧ x = nI k := by
  have h := of_decide_eq_true h
  exact vp_in_of (n := 40) (vp_in_iff.mpr h) (by decide)
section
variable {g : jm_G} {d : Nat} {σ : jm_S} {h : Nat}
theorem c_isPlace {x : Int32} : J g d 17 0 [some (aI x)] [] σ (jR σ (aI (sp_bi (sp_ip x)))) := by
  refine jm_run ok_H_isPlace [] 90 (fun kk hk => ?_)
  conv => whnf
  refine ⟨fun h1 => ?_, fun h1 => ?_⟩
  · have h2 := Int32.lt_iff_toInt_lt.mp h1
    have h3 : sp_ip x = false := decide_eq_false (fun q => by have : (0 : Int32).toInt = 0 := rfl; omega)
    conv => whnf
    exact hk _ _ _ _ (r_H_isPlace_15 (Or.inl rfl) (by rw [h3]; exact rfl))
  · have h2 : ¬ x.toInt < (0 : Int32).toInt := fun q => h1 (Int32.lt_iff_toInt_lt.mpr q)
    have e0 : (0 : Int32).toInt = 0 := rfl
    have e40 : (40 : Int32).toInt = 40 := rfl
    conv => whnf
    refine ⟨fun h3 => ?_, fun h3 => ?_⟩
    · have h4 := Int32.le_iff_toInt_le.mp h3
      have h5 : sp_ip x = false := decide_eq_false (fun q => by omega)
      conv => whnf
      exact hk _ _ _ _ (r_H_isPlace_15 (Or.inl rfl) (by rw [h5]; exact rfl))
    · have h4 : ¬ (40 : Int32).toInt ≤ x.toInt := fun q => h3 (Int32.le_iff_toInt_le.mpr q)
      have h5 : sp_ip x = true := decide_eq_true (by omega)
      conv => whnf
      exact hk _ _ _ _ (r_H_isPlace_15 (Or.inr rfl) (by rw [h5]; exact rfl))
theorem c_order2 {j : Nat} (hH : HL g σ h) (hj : j < 3) (h2 : σ.1 h 2 = nI j) : J g d 9 0 [some (aR 1 h)] [] σ (jR σ (aR 13 (goa g j))) := by
  refine jm_run ok_H_order2 [] 90 (fun kk hk => ?_)
  conv => whnf
  refine jg hH.1.1 ?_
  conv => whnf
  refine jr h2 hH.2.1.1 (hH.2.2.1 j hj) ?_
  conv => whnf
  exact hk _ _ _ _ (r_H_order2_9 rfl)
end
