/-! Engine complete -/
def sp_reds (j : Nat) : Nat → Nat → Nat → List sp_E → Nat × (Int32 ⊕ List sp_E)
  | 0, _, m, els => (m, .inr els)
  | k + 1, i, m, els => match sp_red j m els i with
    | (m', .inl x) => (m', .inl x)
    | (m', .inr els') => sp_reds j k (i + 1) m' els'
def sp_fin (j : Nat) (r : Nat × (Nat × (Nat × (Nat × (Int32 ⊕ sp_ES))))) : Nat × (Nat × (Nat × (Nat × (Int32 ⊕ List sp_E)))) := match r with
  | (m, (pr, (ps, (bf, .inl x)))) => (m, (pr, (ps, (bf, .inl x))))
  | (m, (pr, (ps, (bf, .inr st)))) => ((sp_reds j (sp_thin j st.1).length 0 m (sp_thin j st.1)).1, (pr, (ps, (bf, (sp_reds j (sp_thin j st.1).length 0 m (sp_thin j st.1)).2))))
/-- how complete ends -/
def jC (g : jm_G) (σ : jm_S) (e n j sh lim : Nat) (r : Nat × (Nat × (Nat × (Nat × (Int32 ⊕ List sp_E))))) : jm_O → Prop := fun u => ∃ (f : Nat → Nat → Int32) (ρ : (Nat → Nat → Nat) × (Nat × Nat)) (s' : Nat → Nat), RQ σ ρ (e + 2) ∧ EP g (f, ρ) e n j s' ∧ (∀ q, ¬ (e ≤ q ∧ q < eo e n 25) → f q = σ.1 q) ∧ f e 11 = nI (lim - r.1) ∧ r.1 ≤ lim ∧ f e 12 = nI lim ∧ f e 13 = nI r.2.1 ∧ f e 14 = nI r.2.2.1 ∧ f e 15 = nI r.2.2.2.1 ∧ ((∃ els, r.2.2.2.2 = .inr els ∧ u = ((f, ρ), .inl none) ∧ EX f e n s' sh els) ∨ (∃ x, r.2.2.2.2 = .inl x ∧ u = jT (f, ρ) f x))
section
variable {g : jm_G} {d : Nat} {σ : jm_S} {e n j : Nat} {s : Nat → Nat}
/-- complete, where the elements are reduced -/
theorem c_compR {sh lim pr ps bf : Nat} {ρ : (Nat → Nat → Nat) × (Nat × Nat)} {y2 : Option jm_V} (hE : EL g σ e n) (hρ : RQ σ ρ (e + 2)) (hn : n ≤ 8) (hsh : sh ≤ n) (hlim : lim ≤ 20000) (hr : sp_rm g σ) {z3 z4 z5 : Option jm_V} : ∀ (k i m : Nat) (els : List sp_E) (f : Nat → Nat → Int32), EP g (f, ρ) e n j s → i + k = els.length → m ≤ lim → SI j els → EX f e n s sh els → (∀ q, ¬ (e ≤ q ∧ q < eo e n 25) → f q = σ.1 q) → f e 11 = nI (lim - m) → f e 12 = nI lim → f e 13 = nI pr → f e 14 = nI ps → f e 15 = nI bf →
    J g (d + 10) 49 102 [some (aR 2 e), some (aI (nI sh)), some (aI (nI i)), z3, z4, z5] [] (f, ρ) (jC g σ e n j sh lim ((sp_reds j k i m els).1, (pr, (ps, (bf, (sp_reds j k i m els).2))))) := by
  intro k
  induction k with
  | zero =>
    intro i m els f hS hik hm hSI hX hf h11 h12 h13 h14 h15
    have hl := hX.1
    refine jm_run ok_G_complete [102] 90 (fun kk hk => ?_)
    conv => whnf
    refine b_le hX.2.1 rfl (fun _ => ?_) (fun h => by omega)
    conv => whnf
    exact hk _ _ _ _ (r_G_complete_122 ⟨f, ρ, s, hρ, hS, hf, h11, hm, h12, h13, h14, h15, Or.inl ⟨els, rfl, rfl, hX⟩⟩)
  | succ k ih =>
    intro i m els f hS hik hm hSI hX hf h11 h12 h13 h14 h15
    have hl := hX.1
    have hred := c_reduce (g := g) (d := d) (σ := (f, ρ)) (hρ.el hE) hS hn hsh hX h11 h12 hlim hm (hρ.rm hr) (show i < els.length by omega) (SI_ne hSI (by omega))
    have hSr := fun m' els' => SI_red (m := m) (m' := m') (i := i) (els' := els') hSI (by omega)
    rw [sp_reds]
    refine jm_run ok_G_complete [102] 90 (fun kk hk => ?_)
    conv => whnf
    refine b_le hX.2.1 rfl (fun h => by omega) (fun _ => ?_)
    conv => whnf
    refine hk _ _ _ _ (k_G_complete_113 rfl hred (fun u hu => ?_))
    generalize sp_red j m els i = r at hu hSr
    obtain ⟨m', o⟩ := r
    obtain ⟨f2, a1, a2, a3, a4, a5⟩ := hu
    have hf2 : ∀ q, ¬ (e ≤ q ∧ q < eo e n 25) → f2 q = σ.1 q := fun q hq => (a1 q hq).trans (hf q hq)
    have b12 : f2 e 12 = nI lim := (a2 12 (by decide)).trans h12
    have b13 : f2 e 13 = nI pr := (a2 13 (by decide)).trans h13
    have b14 : f2 e 14 = nI ps := (a2 14 (by decide)).trans h14
    have b15 : f2 e 15 = nI bf := (a2 15 (by decide)).trans h15
    rcases a5 with ⟨els', ho, hu, hX'⟩ | ⟨x, ho, hu⟩
    · subst hu
      have ho' : o = .inr els' := ho
      subst ho'
      have hS' := hSr m' els' rfl
      show J g (d + 10) 49 116 _ _ (f2, ρ) _
      refine jm_run ok_G_complete [102] 90 (fun kk hk => ?_)
      conv => whnf
      rw [nI_1]
      exact hk _ _ _ _ (ih (i + 1) m' els' f2 hS (by rw [hS'.2.1]; omega) a4 hS'.1 hX' hf2 a3 b12 b13 b14 b15)
    · subst hu
      have ho' : o = .inl x := ho
      subst ho'
      exact ⟨f2, ρ, s, hρ, hS, hf2, a3, a4, b12, b13, b14, b15, Or.inr ⟨x, rfl, rfl⟩⟩
end
