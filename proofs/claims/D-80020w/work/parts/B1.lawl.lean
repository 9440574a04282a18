/-! THE LAW: its loop -/
section
variable {g : jm_G} {h b : Nat}
set_option maxRecDepth 8000 in
theorem lw_loop (hg : LG g h) : ∀ (n i N : Nat) (σ : jm_S) (S : sp_H), gsL g < i + n → i ≤ gsL g + 6 → N ≤ i → LI g h N σ S → J g 14 130 28 [some (aR 14 b), some (aR 1 h), some (aR 6 (h + 1631)), some (aI (nI i))] [] σ (fun u => u.2 = .inl (some (aI 1))) := by
  have hL := hg.2.2
  intro n
  induction n with
  | zero =>
    intro i N σ S h1 h2 h3 hI
    refine jm_run ok_law_law [28] 90 (fun kk hk => ?_)
    conv => whnf
    rw [show nI (gsL g) - 6 = sp_i ((gsL g : Int) - 6) from by rw [sp_iN, show (6 : Int32) = sp_i 6 from by decide, sp_isub]]
    refine bi_lt (a := (gsL g : Int) - 6) (b := (i : Int)) rfl (sp_iN i) (fun _ => ?_) (fun h => by omega)
    conv => whnf
    exact hk _ _ _ _ (r_law_law_817 (Or.inr rfl) rfl)
  | succ n ih =>
    intro i N σ S h1 h2 h3 hI
    have nx : ∀ (σ' : jm_S) (S' : sp_H), LI g h (N + 1) σ' S' → i + 6 ≤ gsL g → J g 14 130 810 [some (aR 14 b), some (aR 1 h), some (aR 6 (h + 1631)), some (aI (nI i))] [] σ' (fun u => u.2 = .inl (some (aI 1))) := by
      intro σ' S' hI' h6
      refine jm_run ok_law_law [28] 90 (fun kk hk => ?_)
      conv => whnf
      rw [show nI i + 6 = nI (i + 6) from nI_add i 6]
      exact hk _ _ _ _ (ih (i + 6) (N + 1) σ' S' (by omega) (by omega) (by omega) hI')
    have go : ∀ (j t : Nat), [144, 157, 180, 233, 256, 279, 322, 365, 408, 441, 504, 527, 540, 563, 586, 619, 662, 695, 728, 741, 774, 797][j]? = some t → i + 6 ≤ gsL g → J g 14 130 t [some (aR 14 b), some (aR 1 h), some (aR 6 (h + 1631)), some (aI (nI i))] [] σ (fun u => u.2 = .inl (some (aI 1))) := by
      intro j t hj h6
      have hj22 : j < 22 := (List.getElem?_eq_some_iff.mp hj).1
      have nx' : ∀ (σ' : jm_S) (S' : sp_H), LI g h (N + 1) σ' S' → J g 14 130 810 [some (aR 14 b), some (aR 1 h), some (aR 6 (h + 1631)), some (aI (nI i))] [] σ' (fun u => u.2 = .inl (some (aI 1))) := fun σ' S' hI' => nx σ' S' hI' h6
      have hN : N ≤ 4000 := by omega
      match j, hj, hj22 with
      | 0, hj, _ =>
        have hj : some 144 = some t := hj
        cases hj
        exact lc_variables hI hg hN h6 nx'
      | 1, hj, _ =>
        have hj : some 157 = some t := hj
        cases hj
        exact lc_order hI hg hN h6 nx'
      | 2, hj, _ =>
        have hj : some 180 = some t := hj
        cases hj
        exact lc_term hI hg hN h6 nx'
      | 3, hj, _ =>
        have hj : some 233 = some t := hj
        cases hj
        exact lc_zero hI hg hN h6 nx'
      | 4, hj, _ =>
        have hj : some 256 = some t := hj
        cases hj
        exact lc_size hI hg hN h6 nx'
      | 5, hj, _ =>
        have hj : some 279 = some t := hj
        cases hj
        exact lc_told hI hg hN h6 nx'
      | 6, hj, _ =>
        have hj : some 322 = some t := hj
        cases hj
        exact lc_plus hI hg hN h6 nx'
      | 7, hj, _ =>
        have hj : some 365 = some t := hj
        cases hj
        exact lc_times hI hg hN h6 nx'
      | 8, hj, _ =>
        have hj : some 408 = some t := hj
        cases hj
        exact lc_same hI hg hN h6 nx'
      | 9, hj, _ =>
        have hj : some 441 = some t := hj
        cases hj
        exact lc_vanishes hI hg hN h6 nx'
      | 10, hj, _ =>
        have hj : some 504 = some t := hj
        cases hj
        exact lc_generator hI hg hN h6 nx'
      | 11, hj, _ =>
        have hj : some 527 = some t := hj
        cases hj
        exact lc_clear hI hg hN h6 nx'
      | 12, hj, _ =>
        have hj : some 540 = some t := hj
        cases hj
        exact lc_basis hI hg hN h6 nx'
      | 13, hj, _ =>
        have hj : some 563 = some t := hj
        cases hj
        exact lc_done hI hg hN h6 nx'
      | 14, hj, _ =>
        have hj : some 586 = some t := hj
        cases hj
        exact lc_element hI hg hN h6 nx'
      | 15, hj, _ =>
        have hj : some 619 = some t := hj
        cases hj
        exact lc_share hI hg hN h6 nx'
      | 16, hj, _ =>
        have hj : some 662 = some t := hj
        cases hj
        exact lc_divide hI hg hN h6 nx'
      | 17, hj, _ =>
        have hj : some 695 = some t := hj
        cases hj
        exact lc_certificate hI hg hN h6 nx'
      | 18, hj, _ =>
        have hj : some 728 = some t := hj
        cases hj
        exact lc_check hI hg hN h6 nx'
      | 19, hj, _ =>
        have hj : some 741 = some t := hj
        cases hj
        exact lc_radical hI hg hN h6 nx'
      | 20, hj, _ =>
        have hj : some 774 = some t := hj
        cases hj
        exact lc_free hI hg hN h6 nx'
      | 21, hj, _ =>
        have hj : some 797 = some t := hj
        cases hj
        exact lc_stairs hI hg hN h6 nx'
      | n + 22, _, hj => exact absurd hj (by omega)
    by_cases h6 : i + 6 ≤ gsL g
    · refine jm_run ok_law_law [28, 810, 144, 157, 180, 233, 256, 279, 322, 365, 408, 441, 504, 527, 540, 563, 586, 619, 662, 695, 728, 741, 774, 797] 90 (fun kk hk => ?_)
      conv => whnf
      rw [show nI (gsL g) - 6 = sp_i ((gsL g : Int) - 6) from by rw [sp_iN, show (6 : Int32) = sp_i 6 from by decide, sp_isub]]
      refine bi_lt (a := (gsL g : Int) - 6) (b := (i : Int)) rfl (sp_iN i) (fun h => by omega) (fun _ => ?_)
      conv => whnf
      refine jx (k := i) rfl hL (by omega) ?_
      conv => whnf
      refine ⟨fun j t hj _ => ?_, fun _ => ?_⟩
      · have hj22 : j < 22 := (List.getElem?_eq_some_iff.mp hj).1
        match j, hj, hj22 with
        | 0, hj, _ =>
          have hj : some 144 = some t := hj
          cases hj
          conv => whnf
          exact hk _ _ _ _ (go 0 144 rfl h6)
        | 1, hj, _ =>
          have hj : some 157 = some t := hj
          cases hj
          conv => whnf
          exact hk _ _ _ _ (go 1 157 rfl h6)
        | 2, hj, _ =>
          have hj : some 180 = some t := hj
          cases hj
          conv => whnf
          exact hk _ _ _ _ (go 2 180 rfl h6)
        | 3, hj, _ =>
          have hj : some 233 = some t := hj
          cases hj
          conv => whnf
          exact hk _ _ _ _ (go 3 233 rfl h6)
        | 4, hj, _ =>
          have hj : some 256 = some t := hj
          cases hj
          conv => whnf
          exact hk _ _ _ _ (go 4 256 rfl h6)
        | 5, hj, _ =>
          have hj : some 279 = some t := hj
          cases hj
          conv => whnf
          exact hk _ _ _ _ (go 5 279 rfl h6)
        | 6, hj, _ =>
          have hj : some 322 = some t := hj
          cases hj
          conv => whnf
          exact hk _ _ _ _ (go 6 322 rfl h6)
        | 7, hj, _ =>
          have hj : some 365 = some t := hj
          cases hj
          conv => whnf
          exact hk _ _ _ _ (go 7 365 rfl h6)
        | 8, hj, _ =>
          have hj : some 408 = some t := hj
          cases hj
          conv => whnf
          exact hk _ _ _ _ (go 8 408 rfl h6)
        | 9, hj, _ =>
          have hj : some 441 = some t := hj
          cases hj
          conv => whnf
          exact hk _ _ _ _ (go 9 441 rfl h6)
        | 10, hj, _ =>
          have hj : some 504 = some t := hj
          cases hj
          conv => whnf
          exact hk _ _ _ _ (go 10 504 rfl h6)
        | 11, hj, _ =>
          have hj : some 527 = some t := hj
          cases hj
          conv => whnf
          exact hk _ _ _ _ (go 11 527 rfl h6)
        | 12, hj, _ =>
          have hj : some 540 = some t := hj
          cases hj
          conv => whnf
          exact hk _ _ _ _ (go 12 540 rfl h6)
        | 13, hj, _ =>
          have hj : some 563 = some t := hj
          cases hj
          conv => whnf
          exact hk _ _ _ _ (go 13 563 rfl h6)
        | 14, hj, _ =>
          have hj : some 586 = some t := hj
          cases hj
          conv => whnf
          exact hk _ _ _ _ (go 14 586 rfl h6)
        | 15, hj, _ =>
          have hj : some 619 = some t := hj
          cases hj
          conv => whnf
          exact hk _ _ _ _ (go 15 619 rfl h6)
        | 16, hj, _ =>
          have hj : some 662 = some t := hj
          cases hj
          conv => whnf
          exact hk _ _ _ _ (go 16 662 rfl h6)
        | 17, hj, _ =>
          have hj : some 695 = some t := hj
          cases hj
          conv => whnf
          exact hk _ _ _ _ (go 17 695 rfl h6)
        | 18, hj, _ =>
          have hj : some 728 = some t := hj
          cases hj
          conv => whnf
          exact hk _ _ _ _ (go 18 728 rfl h6)
        | 19, hj, _ =>
          have hj : some 741 = some t := hj
          cases hj
          conv => whnf
          exact hk _ _ _ _ (go 19 741 rfl h6)
        | 20, hj, _ =>
          have hj : some 774 = some t := hj
          cases hj
          conv => whnf
          exact hk _ _ _ _ (go 20 774 rfl h6)
        | 21, hj, _ =>
          have hj : some 797 = some t := hj
          cases hj
          conv => whnf
          exact hk _ _ _ _ (go 21 797 rfl h6)
        | n + 22, _, hj => exact absurd hj (by omega)
      conv => whnf
      refine hk _ _ _ _ (nx σ S ?_ h6)
      obtain ⟨a1, a2, a3, a4, a5, a6⟩ := hI
      exact ⟨a1, a2, a3, a4, by omega, by omega⟩
    · refine jm_run ok_law_law [28] 90 (fun kk hk => ?_)
      conv => whnf
      rw [show nI (gsL g) - 6 = sp_i ((gsL g : Int) - 6) from by rw [sp_iN, show (6 : Int32) = sp_i 6 from by decide, sp_isub]]
      refine bi_lt (a := (gsL g : Int) - 6) (b := (i : Int)) rfl (sp_iN i) (fun _ => ?_) (fun h => by omega)
      conv => whnf
      exact hk _ _ _ _ (r_law_law_817 (Or.inr rfl) rfl)
end
