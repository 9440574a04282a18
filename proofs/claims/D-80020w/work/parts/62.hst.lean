/-! SPEC: the house's state; what holds of it; where it lies -/
abbrev sp_H : Type := (Nat × Nat) × ((List sp_P × List sp_P) × ((List sp_E × (Bool × Bool)) × (List sp_P × (Nat × (Nat × (Nat × Nat))))))
abbrev hv (S : sp_H) : Nat := S.1.1
abbrev hkd (S : sp_H) : Nat := S.1.2
abbrev hpl (S : sp_H) : List sp_P := S.2.1.1
abbrev hgn (S : sp_H) : List sp_P := S.2.1.2
abbrev hel (S : sp_H) : List sp_E := S.2.2.1.1
abbrev hB (S : sp_H) : Bool := S.2.2.1.2.1
abbrev hQ (S : sp_H) : Bool := S.2.2.1.2.2
abbrev hkp (S : sp_H) : List sp_P := S.2.2.2.1
abbrev hct (S : sp_H) : Nat × (Nat × (Nat × Nat)) := S.2.2.2.2
def pok (S : sp_H) (p : sp_P) : Prop := sp_pw p ∧ so (hkd S) p ∧ HVp (hv S) p
/-- the invariant of the state -/
def GS (S : sp_H) : Prop := (1 ≤ hv S ∧ hv S ≤ 4) ∧ hkd S < 3 ∧ (hpl S).length = 40 ∧ (hgn S).length ≤ 8 ∧ (∀ p ∈ hpl S, pok S p) ∧ (∀ p ∈ hgn S, pok S p) ∧
  (hB S = true → SE (hkd S) (hv S) (hgn S).length (hel S) ∧ ND (hel S) ∧ SS (hkd S) (hel S)) ∧
  (hB S = true → hQ S = true → (hkp S).length = (hel S).length ∧ ∀ p ∈ hkp S, sp_pw p ∧ HVp (hv S) p)
/-- the elements of an engine in their order -/
def EPp (σ : jm_S) (e n : Nat) (s : Nat → Nat) : Prop := (∀ i, i < 25 → s i < 25 ∧ σ.2.1 (e + 2) i = eo e n (s i) + 1) ∧ ∀ i k, i < 25 → k < 25 → s i = s k → i = k
/-- polynomials one behind another -/
def PL (f : Nat → Nat → Int32) (a : Nat) (l : List sp_P) : Prop := ∀ k p, l[k]? = some p → PA f (a + 4 * k) p
/-- the house's engine -/
def HE (g : jm_G) (σ : jm_S) (h : Nat) (S : sp_H) : Prop :=
  (∃ s, EPp σ (h + 196) 8 s ∧ (hB S = true → σ.2.1 (h + 196) 8 = goa g (hkd S) + 1 ∧ EX σ.1 (h + 196) 8 s (hgn S).length (hel S))) ∧
  (σ.1 (h + 196) 11 = nI (hct S).1 ∧ σ.1 (h + 196) 13 = nI (hct S).2.1 ∧ σ.1 (h + 196) 14 = nI (hct S).2.2.1 ∧ σ.1 (h + 196) 15 = nI (hct S).2.2.2)
/-- the house's own numbers -/
def HF (σ : jm_S) (h : Nat) (S : sp_H) : Prop := σ.1 h 0 = nI (hv S) ∧ σ.1 h 2 = nI (hkd S) ∧ σ.1 h 5 = nI (hgn S).length ∧ σ.1 h 8 = sp_bi (hB S) ∧ σ.1 h 9 = sp_bi (hQ S)
/-- the house at h is S -/
def HR (g : jm_G) (σ : jm_S) (h : Nat) (S : sp_H) : Prop :=
  HL g σ h ∧ HF σ h S ∧ PL σ.1 (h + 3) (hpl S) ∧ PL σ.1 (h + 164) (hgn S) ∧ HE g σ h S ∧ (∃ s, EPp σ (h + 1260) 0 s) ∧ (hB S = true → hQ S = true → PL σ.1 (h + 1534) (hkp S))
/-- how an act of the house ends: an answer, a state, one cell more at most, nothing else touched -/
def jH (g : jm_G) (σ : jm_S) (h : Nat) (a : Int32) (S : sp_H) : jm_O → Prop := fun u => ∃ σ' : jm_S, HR g σ' h S ∧ u = (σ', .inl (some (aI a))) ∧ jm_hs σ ≤ jm_hs σ' ∧ jm_hs σ' ≤ jm_hs σ + 1 ∧ jm_ns σ' ≤ jm_ns σ + 7 ∧ ∀ q, ¬ (h ≤ q ∧ q < h + 1631) → q < jm_hs σ → σ'.1 q = σ.1 q ∧ σ'.2.1 q = σ.2.1 q
/-- the same state, in place -/
theorem jH_same {g : jm_G} {σ : jm_S} {h : Nat} {a : Int32} {S : sp_H} (hR : HR g σ h S) : jH g σ h a S (σ, .inl (some (aI a))) := ⟨σ, hR, rfl, Nat.le_refl _, by omega, by omega, fun _ _ _ => ⟨rfl, rfl⟩⟩
section
variable {g : jm_G} {d : Nat} {σ : jm_S} {h : Nat} {S : sp_H}
theorem c_variables (hR : HR g σ h S) : J g d 7 0 [some (aR 1 h)] [] σ (jH g σ h (nI (hv S)) S) := by
  refine jm_run ok_H_variables [] 90 (fun kk hk => ?_)
  conv => whnf
  rw [hR.2.1.1]
  exact hk _ _ _ _ (r_H_variables_4 (jH_same hR))
end
