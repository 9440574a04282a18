/-! the House: frames -/
section
variable {g : jm_G} {σ τ : jm_S} {h : Nat} {S : sp_H}
theorem PL_fr {f f' : Nat → Nat → Int32} {a n : Nat} {l : List sp_P} (hP : PL f a l) (hl : l.length ≤ n) (hf : ∀ q, a ≤ q → q < a + 4 * n → f' q = f q) : PL f' a l := fun k p hp => by
  have := (List.getElem?_eq_some_iff.mp hp).1
  exact PA_frame (hP k p hp) (hf _ (by omega) (by omega)) (hf _ (by omega) (by omega)) (hf _ (by omega) (by omega)) (hf _ (by omega) (by omega))
theorem PL_set {f f' : Nat → Nat → Int32} {a n r : Nat} {l : List sp_P} {p : sp_P} (hP : PL f a l) (hl : l.length ≤ n) (hp : PA f' (a + 4 * r) p) (hf : ∀ q, a ≤ q → q < a + 4 * n → ¬ (a + 4 * r ≤ q ∧ q ≤ a + 4 * r + 3) → f' q = f q) : PL f' a (l.set r p) := fun k p' hk => by
  by_cases hkr : r = k
  · subst hkr
    have h1 := (List.getElem?_eq_some_iff.mp hk).1
    rw [List.length_set] at h1
    rw [List.getElem?_set_self h1] at hk
    cases hk
    exact hp
  · rw [List.getElem?_set_ne hkr] at hk
    have := (List.getElem?_eq_some_iff.mp hk).1
    exact PA_frame (hP k p' hk) (hf _ (by omega) (by omega) (by omega)) (hf _ (by omega) (by omega) (by omega)) (hf _ (by omega) (by omega) (by omega)) (hf _ (by omega) (by omega) (by omega))
theorem EPp_congr {e n : Nat} {s : Nat → Nat} (hq : τ.2.1 (e + 2) = σ.2.1 (e + 2)) (hS : EPp σ e n s) : EPp τ e n s := by
  unfold EPp at hS ⊢
  rw [hq]
  exact hS
theorem HE_fr (hE : HE g σ h S) (hgl : (hgn S).length ≤ 8) (h0 : τ.1 (h + 196) = σ.1 (h + 196)) (hf : ∀ q, h + 310 ≤ q → q < h + 1260 → τ.1 q = σ.1 q) (h8 : τ.2.1 (h + 196) 8 = σ.2.1 (h + 196) 8) (h2 : τ.2.1 (h + 196 + 2) = σ.2.1 (h + 196 + 2)) : HE g τ h S := by
  obtain ⟨⟨s, a5, a5'⟩, a7⟩ := hE
  refine ⟨⟨s, EPp_congr h2 a5, fun hb => ⟨by rw [h8]; exact (a5' hb).1, ?_⟩⟩, ?_⟩
  · obtain ⟨b1, b2, b3⟩ := (a5' hb).2
    refine ⟨b1, ?_, fun i E hE => gd_frame (b3 i E hE) (fun q h1 h2 => ?_)⟩
    · rw [h0]; exact b2
    · have hi := (List.getElem?_eq_some_iff.mp hE).1
      have hs := (a5.1 i (by omega)).1
      have h25 := eo_25 (e := h + 196) (n := 8) hs
      have hge := eo_ge (h + 196) 8 (s i)
      have e25 : eo (h + 196) 8 25 = h + 1260 := by unfold eo; omega
      exact hf q (by omega) (by omega)
  · rw [h0]
    exact a7
theorem HF_fr (hF : HF σ h S) (hf : τ.1 h = σ.1 h) : HF τ h S := by
  unfold HF at hF ⊢
  rw [hf]
  exact hF
/-- what of a house must stand: all but what is scratch -/
theorem HR_fr (hR : HR g σ h S) (hG : GS S) (hq : ∀ q, h ≤ q → q < h + 1631 → τ.2.1 q = σ.2.1 q) (hf : ∀ q, h ≤ q → q < h + 1630 → ¬ (h + 197 ≤ q ∧ q < h + 310) → ¬ (h + 1260 ≤ q ∧ q < h + 1533) → τ.1 q = σ.1 q) : HR g τ h S := by
  obtain ⟨a1, a2, a3, a4, a5, ⟨s, a6⟩, a7⟩ := hR
  have hl := hG.2.2.1
  have hgl := hG.2.2.2.1
  refine ⟨HL_congr hq a1, HF_fr a2 (hf _ (by omega) (by omega) (by omega) (by omega)), PL_fr (n := 40) a3 (by omega) (fun q h1 h2 => hf q (by omega) (by omega) (by omega) (by omega)), PL_fr (n := 8) a4 (by omega) (fun q h1 h2 => hf q (by omega) (by omega) (by omega) (by omega)), HE_fr a5 hgl (hf _ (by omega) (by omega) (by omega) (by omega)) (fun q h1 h2 => hf q (by omega) (by omega) (by omega) (by omega)) (by rw [hq _ (by omega) (by omega)]) (hq _ (by omega) (by omega)), ⟨s, EPp_congr (hq _ (by omega) (by omega)) a6⟩, fun hb hqq => PL_fr (n := 24) (a7 hb hqq) ?_ (fun q h1 h2 => hf q (by omega) (by omega) (by omega) (by omega))⟩
  have hkl := (hG.2.2.2.2.2.2.2 hb hqq).1
  have hel := (hG.2.2.2.2.2.2.1 hb).1.2.1
  omega
/-- a place has become another polynomial -/
def sp_setP (S : sp_H) (r : Nat) (p : sp_P) : sp_H := (S.1, (((hpl S).set r p, hgn S), S.2.2))
theorem HR_give {r : Nat} {p : sp_P} (hR : HR g σ h S) (hG : GS S) (hr : r < 40) (hq : ∀ q, h ≤ q → q < h + 1631 → τ.2.1 q = σ.2.1 q) (hp : PA τ.1 (h + 3 + 4 * r) p)
    (hf : ∀ q, h ≤ q → q < h + 1630 → ¬ (h + 197 ≤ q ∧ q < h + 310) → ¬ (h + 1260 ≤ q ∧ q < h + 1533) → ¬ (h + 3 + 4 * r ≤ q ∧ q ≤ h + 3 + 4 * r + 3) → τ.1 q = σ.1 q) : HR g τ h (sp_setP S r p) := by
  obtain ⟨a1, a2, a3, a4, a5, ⟨s, a6⟩, a7⟩ := hR
  have hl := hG.2.2.1
  have hgl := hG.2.2.2.1
  refine ⟨HL_congr hq a1, HF_fr (S := S) a2 (hf _ (by omega) (by omega) (by omega) (by omega) (by omega)), PL_set (n := 40) a3 (by omega) hp (fun q h1 h2 h3 => hf q (by omega) (by omega) (by omega) (by omega) h3), PL_fr (n := 8) a4 hgl (fun q h1 h2 => hf q (by omega) (by omega) (by omega) (by omega) (by omega)), HE_fr (S := S) a5 hgl (hf _ (by omega) (by omega) (by omega) (by omega) (by omega)) (fun q h1 h2 => hf q (by omega) (by omega) (by omega) (by omega) (by omega)) (by rw [hq _ (by omega) (by omega)]) (hq _ (by omega) (by omega)), ⟨s, EPp_congr (hq _ (by omega) (by omega)) a6⟩, fun hb hqq => PL_fr (n := 24) (a7 hb hqq) ?_ (fun q h1 h2 => hf q (by omega) (by omega) (by omega) (by omega) (by omega))⟩
  have hkl := (hG.2.2.2.2.2.2.2 hb hqq).1
  have hel := (hG.2.2.2.2.2.2.1 hb).1.2.1
  show (hkp S).length ≤ 24
  omega
/-- a Stop more changes nothing -/
theorem HR_thr {f : Nat → Nat → Int32} {ρ : (Nat → Nat → Nat) × (Nat × Nat)} {x : Int32} (hR : HR g (f, ρ) h S) (hG : GS S) (hh : h + 1631 ≤ ρ.2.1) : HR g (jm_wi (jm_nw (f, ρ) 7) ρ.2.1 0 x) h S :=
  HR_fr hR hG (fun q _ h2 => by simp [jm_wi, jm_nw, jm_u, show q ≠ ρ.2.1 by omega]) (fun q _ h2 _ _ => by simp [jm_wi, jm_nw, jm_u, show q ≠ ρ.2.1 by omega])
/-- an act's end -/
theorem jH_ret {f : Nat → Nat → Int32} {ρ : (Nat → Nat → Nat) × (Nat × Nat)} {a : Int32} (hR : HR g (f, ρ) h S) (hf : ∀ q, ¬ (h ≤ q ∧ q < h + 1631) → f q = σ.1 q) (hρ : ∀ q, ¬ (h ≤ q ∧ q < h + 1631) → ρ.1 q = σ.2.1 q) (h2 : ρ.2 = σ.2.2) : jH g σ h a S ((f, ρ), .inl (some (aI a))) :=
  ⟨(f, ρ), hR, rfl, by show σ.2.2.1 ≤ ρ.2.1; rw [h2]; exact Nat.le_refl _, by show ρ.2.1 ≤ σ.2.2.1 + 1; rw [h2]; exact Nat.le_succ _, by show ρ.2.2 ≤ σ.2.2.2 + 7; rw [h2]; omega, fun q hq _ => ⟨hf q hq, hρ q hq⟩⟩
/-- the number of a Stop -/
theorem jm_stop_0 (f : Nat → Nat → Int32) (ρ : (Nat → Nat → Nat) × (Nat × Nat)) (x : Int32) : (jm_wi (jm_nw (f, ρ) 7) ρ.2.1 0 x).1 ρ.2.1 0 = x := jm_wi_at
theorem jH_thr {f : Nat → Nat → Int32} {ρ : (Nat → Nat → Nat) × (Nat × Nat)} {a : Int32} (hR : HR g (f, ρ) h S) (hG : GS S) (hh : h + 1631 ≤ σ.2.2.1) (hf : ∀ q, ¬ (h ≤ q ∧ q < h + 1631) → f q = σ.1 q) (hρ : ∀ q, ¬ (h ≤ q ∧ q < h + 1631) → ρ.1 q = σ.2.1 q) (h2 : ρ.2 = σ.2.2) : jH g σ h a S (jm_wi (jm_nw (f, ρ) 7) ρ.2.1 0 a, .inl (some (aI ((jm_wi (jm_nw (f, ρ) 7) ρ.2.1 0 a).1 ρ.2.1 0)))) := by
  rw [jm_stop_0]
  exact ⟨_, HR_thr hR hG (by rw [h2]; exact hh), rfl, by show σ.2.2.1 ≤ ρ.2.1 + 1; rw [h2]; exact Nat.le_succ _, by show ρ.2.1 + 1 ≤ σ.2.2.1 + 1; rw [h2]; exact Nat.le_refl _, by show ρ.2.2 + 7 ≤ σ.2.2.2 + 7; rw [h2]; exact Nat.le_refl _, fun q hq hlt => ⟨by
    have : q ≠ ρ.2.1 := by rw [h2]; exact Nat.ne_of_lt hlt
    simp only [jm_wi, jm_nw, jm_u, if_neg this]
    exact hf q hq, by
    have : q ≠ ρ.2.1 := by rw [h2]; exact Nat.ne_of_lt hlt
    simp only [jm_wi, jm_nw, jm_u, if_neg this]
    exact hρ q hq⟩⟩
end
