/-! the House: give, multiply -/
section
variable {g : jm_G} {d : Nat} {σ : jm_S} {h : Nat}
theorem c_give {pa r : Nat} {p : sp_P} (hH : HL g σ h) (hr : r < 40) (hpl : pl g σ pa) (hP : PA σ.1 pa p) (hl : p.length ≤ 100) (hd : dj (h + 3 + 4 * r) pa) : J g (d + 1) 27 0 [some (aR 1 h), some (aR 5 pa), some (aI (nI r))] [] σ (fun u => ∃ f : Nat → Nat → Int32, (∀ q, ¬ (h + 3 + 4 * r ≤ q ∧ q ≤ h + 3 + 4 * r + 3) → f q = σ.1 q) ∧ PA f (h + 3 + 4 * r) p ∧ u = ((f, σ.2), .inl (some (aI (nI p.length))))) := by
  have hpr := hH.2.2.2.1 r hr
  have hd' := hd
  unfold dj at hd'
  refine jm_run ok_H_give [] 90 (fun kk hk => ?_)
  conv => whnf
  refine jg hH.1.2.1 ?_
  conv => whnf
  refine jr rfl hH.2.1.2.1 hpr.1 ?_
  conv => whnf
  refine hk _ _ _ _ (k_H_give_7 rfl (c_become (σ := σ) hpr.2 hpl hP hl hd) (fun u hu => ?_))
  obtain ⟨f, hf, hu, hPA⟩ := jO_some hu
  subst hu
  show J g (d + 1) 27 10 _ _ (f, σ.2) _
  have e0 : f pa 0 = nI p.length := by rw [hf pa (by omega) (by omega)]; exact hP.1
  refine jm_run ok_H_give [] 90 (fun kk hk => ?_)
  conv => whnf
  refine hk _ _ _ _ (r_H_give_14 ?_)
  dsimp only
  rw [e0]
  exact ⟨f, fun q hq => hf q hq (by omega), hPA, rfl⟩
/-- a product -/
def sp_mulG (j : Nat) (q : sp_P) : sp_P → sp_P → Option sp_P
  | to, [] => some to
  | to, t :: r => (sp_plus j t.1 t.2.1 t.2.2 to q).bind (fun to' => sp_mulG j q to' r)
theorem sp_tw_cf {t : sp_T} (h : sp_tw t) : sp_cf t.1 t.2.1 := ⟨h.1, h.2.1, h.2.2.1, h.2.2.2.1⟩
theorem sp_mulG_w {j : Nat} {q : sp_P} (hq : sp_pw q) : ∀ {r to to' : sp_P}, sp_pw to → (∀ t ∈ r, sp_tw t) → sp_mulG j q to r = some to' → sp_pw to'
  | [], to, to', hw, _, h => by cases h; exact hw
  | t :: r, to, to', hw, hr, h => by
    unfold sp_mulG at h
    cases h1 : sp_plus j t.1 t.2.1 t.2.2 to q with
    | none => rw [h1] at h; cases h
    | some p1 =>
      rw [h1] at h
      exact sp_mulG_w hq (sp_plus_w (sp_tw_cf (hr t (List.mem_cons_self ..))) hw hq.2 h1) (fun s hs => hr s (List.mem_cons_of_mem _ hs)) h
theorem c_multiply {ta pa qa j : Nat} {p q : sp_P} (hH : HL g σ h) (hj : j < 3) (h2 : σ.1 h 2 = nI j) (htl : pl g σ ta) (hpl : pl g σ pa) (hql : pl g σ qa) (hP : PA σ.1 pa p) (hQ : PA σ.1 qa q) (hpw : sp_pw p) (hqw : sp_pw q) (hd1 : dj ta pa) (hd2 : dj ta qa) (hth : h < ta) (hx1 : ¬ (ta ≤ h + 1524 ∧ h + 1524 ≤ ta + 3)) (hx2 : ¬ (pa ≤ h + 1524 ∧ h + 1524 ≤ pa + 3)) (hx3 : ¬ (qa ≤ h + 1524 ∧ h + 1524 ≤ qa + 3)) (hr : sp_rm g σ) :
    J g (d + 8) 35 0 [some (aR 1 h), some (aR 5 ta), some (aR 5 pa), some (aR 5 qa), none] [] σ (jO σ ta (h + 1524) (sp_mulG j q [] p)) := by
  have hd1' := hd1
  have hd2' := hd2
  unfold dj at hd1' hd2'
  have hpl100 := hpw.1
  have loop : ∀ (r : sp_P) (i : Nat), p.drop i = r → i ≤ p.length → ∀ (f : Nat → Nat → Int32) (to : sp_P), (∀ y, ¬ (ta ≤ y ∧ y ≤ ta + 3) → y ≠ h + 1524 → f y = σ.1 y) → PA f ta to → sp_pw to → sp_mulG j q [] p = sp_mulG j q to r →
      J g (d + 8) 35 8 [some (aR 1 h), some (aR 5 ta), some (aR 5 pa), some (aR 5 qa), some (aI (nI i))] [] (f, σ.2) (jO σ ta (h + 1524) (sp_mulG j q [] p)) := by
    intro r
    induction r with
    | nil =>
      intro i hi hil f to hf hT htw he
      have hi2 : p.length ≤ i := List.drop_eq_nil_iff.mp hi
      have hP' : PA f pa p := PA_frame hP (hf _ (by omega) (by omega)) (hf _ (by omega) (by omega)) (hf _ (by omega) (by omega)) (hf _ (by omega) (by omega))
      refine jm_run ok_H_multiply [8] 90 (fun kk hk => ?_)
      conv => whnf
      refine b_le hP'.1 rfl (fun _ => ?_) (fun h => by omega)
      conv => whnf
      exact hk _ _ _ _ (r_H_multiply_57 ⟨f, hf, Or.inl ⟨to, he, rfl, hT⟩⟩)
    | cons t r ih =>
      intro i hi hil f to hf hT htw he
      have hti : p[i]? = some t := by rw [← Nat.add_zero i, ← List.getElem?_drop, hi]; rfl
      have hi2 : i < p.length := (List.getElem?_eq_some_iff.mp hti).1
      have hdr : p.drop (i + 1) = r := by rw [← List.drop_drop, hi]; rfl
      have hP' : PA f pa p := PA_frame hP (hf _ (by omega) (by omega)) (hf _ (by omega) (by omega)) (hf _ (by omega) (by omega)) (hf _ (by omega) (by omega))
      have hQ' : PA f qa q := PA_frame hQ (hf _ (by omega) (by omega)) (hf _ (by omega) (by omega)) (hf _ (by omega) (by omega)) (hf _ (by omega) (by omega))
      have row := hP'.2 _ _ hti
      have tw := sp_pw_at hpw hti
      have h2' : f h 2 = nI j := by rw [hf h (by omega) (by omega)]; exact h2
      rw [sp_mulG] at he
      refine jm_run ok_H_multiply [8] 90 (fun kk hk => ?_)
      conv => whnf
      refine b_le hP'.1 rfl (fun h => by omega) (fun _ => ?_)
      conv => whnf
      refine hk _ _ _ _ (k_H_multiply_19 rfl (c_order2 (σ := (f, σ.2)) hH hj h2') (fun u hu => ?_))
      subst hu
      show J g (d + 8) 35 22 _ _ (f, σ.2) _
      refine jm_run ok_H_multiply [8] 90 (fun kk hk => ?_)
      conv => whnf
      refine jg hH.1.2.2.2.2.2.1 ?_
      conv => whnf
      refine jg hpl.1 ?_
      conv => whnf
      refine ja rfl hpl.2.2.2.1 row.1 ?_
      conv => whnf
      refine jg hpl.2.1 ?_
      conv => whnf
      refine ja rfl hpl.2.2.2.2.1 row.2.1 ?_
      conv => whnf
      refine jg hpl.2.2.1 ?_
      conv => whnf
      refine ja rfl hpl.2.2.2.2.2 row.2.2 ?_
      conv => whnf
      refine hk _ _ _ _ (k_H_multiply_48 rfl (c_plus (σ := (f, σ.2)) htl hT htw hql hQ' hqw hj (sp_tw_cf tw) tw.2.2.2.2 hx1 hx3 hd2 hr) (fun u hu => ?_))
      obtain ⟨f3, hf3, h3⟩ := hu
      have hff : ∀ y, ¬ (ta ≤ y ∧ y ≤ ta + 3) → y ≠ h + 1524 → f3 y = σ.1 y := fun y a1 a2 => (hf3 y a1 a2).trans (hf y a1 a2)
      rcases h3 with ⟨p2, hp2, hu, hPA⟩ | ⟨hn, hu⟩
      · subst hu
        show J g (d + 8) 35 51 _ _ (f3, σ.2) _
        refine jm_run ok_H_multiply [8] 90 (fun kk hk => ?_)
        conv => whnf
        rw [nI_1]
        refine hk _ _ _ _ (ih (i + 1) hdr (by omega) f3 p2 hff hPA (sp_plus_w (sp_tw_cf tw) htw hqw.2 hp2) ?_)
        rw [he, hp2]; rfl
      · subst hu
        exact ⟨f3, hff, Or.inr ⟨by rw [he, hn]; rfl, rfl⟩⟩
  have hst : jm_wi σ ta 0 0 = ((jm_wi σ ta 0 0).1, σ.2) := rfl
  refine jm_run ok_H_multiply [8] 90 (fun kk hk => ?_)
  conv => whnf
  rw [hst]
  exact hk _ _ _ _ (loop p 0 rfl (Nat.zero_le _) _ [] (fun y a1 _ => jm_wi_q (by omega)) (PA_nil jm_wi_at) sp_pw_nil rfl)
end
