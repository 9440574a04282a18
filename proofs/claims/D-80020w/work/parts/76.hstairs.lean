/-! the House: stairs -/
theorem sp_dv_refl (m : sp_M) : sp_dv m m = true := sp_dv_iff.mpr ⟨Nat.le_refl _, Nat.le_refl _, Nat.le_refl _, Nat.le_refl _, Nat.le_refl _⟩
section
variable {g : jm_G} {d : Nat} {σ τ : jm_S} {h : Nat} {S : sp_H}
/-- the turns over the box -/
theorem c_stairsM {s : Nat → Nat} {j n : Nat} {els : List sp_E} {K : jm_O → Prop} (hH : HL g σ h) (hS : EP g σ (h + 196) 8 j s) (hG : EG σ.1 (h + 196) 8 s (sp_G els)) (h0 : σ.1 h 0 = nI n) (hn1 : 1 ≤ n) (hn : n ≤ 4) (hbk : bxk els n = true) (hbx : ∀ v, v < n → σ.1 (h + 1630) v = nI (bxs els v))
    (hK : K (σ, .inl (some (aI (nI (sumN (fun i => Fst (LD els) (dec (bxs els) n 0 i)) (ttl (bxs els) n 0))))))) {z4 z5 : Option jm_V} :
    J g (d + 2) 72 55 [some (aR 1 h), some (aI (nI 0)), some (aI (sp_c sp_zm)), some (aI (nI 0)), z4, z5] [] σ K := by
  have hLok : ∀ m ∈ LD els, sp_ok m := fun m hm => by
    unfold LD at hm
    obtain ⟨E, hE, rfl⟩ := List.mem_map.mp hm
    obtain ⟨i, hi⟩ := List.getElem?_of_mem hE
    have hGi : (sp_G els)[i]? = some E.1 := by unfold sp_G; rw [List.getElem?_map, hi]; rfl
    exact sp_ld_ok (hG.2.2 i _ hGi).2.1
  have hb30 : ∀ v, v < n → bxs els v ≤ 30 := fun v hv => by
    have hp := bxk_at hbk hv
    rcases sp_pure_mem hp with e | e
    · cases e
    · have := sp_ok_ex (hLok _ e) v
      rw [pvp, sp_up_at _ (by omega)] at this
      exact this
  have turn : ∀ (m : sp_M) (v c : Nat) (z4 z5 : Option jm_V), sp_ok m → v < n → (∀ m' v' (z4 z5 : Option jm_V), nxt (bxs els) n 0 m = some m' → v' < n → J g (d + 2) 72 55 [some (aR 1 h), some (aI (nI (c + Fst (LD els) m))), some (aI (sp_c m')), some (aI (nI v')), z4, z5] [] σ K) → (nxt (bxs els) n 0 m = none → K (σ, .inl (some (aI (nI (c + Fst (LD els) m)))))) →
      J g (d + 2) 72 55 [some (aR 1 h), some (aI (nI c)), some (aI (sp_c m)), some (aI (nI v)), z4, z5] [] σ K := by
    intro m v c z4 z5 hm hv h1 h2
    refine jm_run ok_H_stairs [69] 90 (fun kk hk => ?_)
    conv => whnf
    refine b_le h0 rfl (fun h => by omega) (fun _ => ?_)
    conv => whnf
    refine hk _ _ _ _ (c_stairsU hH hS hG hm (fun z5 => ?_))
    have hF : Fst (LD els) m = cond ((LD els).any (fun a => sp_dv a m)) 0 1 := rfl
    cases hu : (LD els).any (fun a => sp_dv a m) with
    | false =>
      rw [hu] at hF
      have hF : Fst (LD els) m = 1 := hF
      rw [hF] at h1 h2
      refine jm_run ok_H_stairs [122] 90 (fun kk hk => ?_)
      conv => whnf
      refine b_z (b := false) rfl (fun _ => ?_) (fun h => by cases h)
      conv => whnf
      rw [nI_1]
      exact hk _ _ _ _ (c_stairsN hH h0 hn (fun v hv => ⟨hbx v hv, hb30 v hv⟩) n 0 (by omega) m hm (fun m' v' => h1 m' v' _ _) h2)
    | true =>
      rw [hu] at hF
      have hF : Fst (LD els) m = 0 := hF
      rw [hF] at h1 h2
      refine jm_run ok_H_stairs [122] 90 (fun kk hk => ?_)
      conv => whnf
      refine b_z (b := true) rfl (fun h => by cases h) (fun _ => ?_)
      conv => whnf
      rw [show nI c + 0 = nI (c + 0) from nI_add c 0]
      exact hk _ _ _ _ (c_stairsN hH h0 hn (fun v hv => ⟨hbx v hv, hb30 v hv⟩) n 0 (by omega) m hm (fun m' v' => h1 m' v' _ _) h2)
  by_cases hz : sp_zm ∈ LD els
  · have hb0 : ∀ v, v < n → bxs els v = 0 := fun v hv => by
      unfold bxs
      rw [sp_pure_0 (by omega) (Or.inl hz)]
      rfl
    have hF : Fst (LD els) sp_zm = 0 := by
      unfold Fst
      have ha : (LD els).any (fun a => sp_dv a sp_zm) = true := List.any_eq_true.mpr ⟨sp_zm, hz, sp_dv_refl _⟩
      rw [ha]
      rfl
    have ht : ttl (bxs els) n 0 = 0 := by
      obtain ⟨k, rfl⟩ : ∃ k, n = k + 1 := ⟨n - 1, by omega⟩
      unfold ttl
      rw [hb0 0 (by omega), Nat.zero_mul]
    rw [ht] at hK
    have hnx := nxt_zm (bx := bxs els) (k := n) (v := 0) (by omega) (fun u _ h2 => hb0 u (by omega))
    refine turn sp_zm 0 0 _ _ sp_zm_ok (by omega) (fun m' v' z4 z5 hm => ?_) (fun _ => ?_)
    · rw [hnx] at hm; cases hm
    · rw [hF]; exact hK
  · have hb1 : ∀ v, v < n → 0 < bxs els v := fun v hv => by
      have hp := bxk_at hbk hv
      rcases Nat.eq_zero_or_pos (bxs els v) with e | e
      · rw [e] at hp
        rcases sp_pure_mem hp with q | q
        · cases q
        · refine absurd ?_ hz
          have z0 : pvp v 0 = sp_zm := sp_M_ext (fun i hi => by
            by_cases q : i = v
            · subst q; rw [pvp, sp_up_at _ hi]; exact (HV_zm 0 i (Nat.zero_le _) hi).symm
            · exact sp_up_ne _ (by omega) hi q 0)
          rw [z0] at q
          exact q
      · exact e
    have main : ∀ (r : Nat) (m : sp_M) (v c : Nat) (z4 z5 : Option jm_V), (∀ u, u < n → sp_ex m u < bxs els u) → HV n m → psn (bxs els) m n 0 + r = ttl (bxs els) n 0 → v < n → c = sumN (fun i => Fst (LD els) (dec (bxs els) n 0 i)) (psn (bxs els) m n 0) →
        J g (d + 2) 72 55 [some (aR 1 h), some (aI (nI c)), some (aI (sp_c m)), some (aI (nI v)), z4, z5] [] σ K := by
      intro r
      induction r with
      | zero =>
        intro m v c z4 z5 hd hv0 hr hv hc
        have := psn_lt (bx := bxs els) (m := m) (k := n) (v := 0) (fun u _ h2 => hd u (by omega))
        omega
      | succ r ih =>
        intro m v c z4 z5 hd hv0 hr hv hc
        have hm : sp_ok m := sp_ok_of (fun i hi => by
          by_cases q : i < n
          · have := hd i q; have := hb30 i q; omega
          · rw [hv0 i (by omega) hi]; exact Nat.zero_le _)
        have hds := dec_self (bx := bxs els) (m := m) (n := n) (by omega) hd hv0
        have hc1 : c + Fst (LD els) m = sumN (fun i => Fst (LD els) (dec (bxs els) n 0 i)) (psn (bxs els) m n 0 + 1) := by
          rw [sumN, hds, hc]
        refine turn m v c z4 z5 hm hv (fun m' v' z4 z5 hm' hv' => ?_) (fun hm' => ?_)
        · have hn' := nxt_some (bx := bxs els) (k := n) (v := 0) (by omega) (fun u _ h2 => hd u (by omega)) hm'
          refine ih m' v' _ z4 z5 (fun u hu => hn'.2.1 u (Nat.zero_le _) (by omega)) (fun i h1 h2 => ?_) (by rw [hn'.1]; omega) hv' (by rw [hn'.1]; exact hc1)
          rw [hn'.2.2 i h2 (by omega)]
          exact hv0 i h1 h2
        · have hn' := nxt_none (bx := bxs els) (k := n) (v := 0) (by omega) (fun u _ h2 => hd u (by omega)) hm'
          rw [hc1, hn']
          exact hK
    have hp0 : psn (bxs els) sp_zm n 0 = 0 := by
      have key : ∀ k v, v + k ≤ 5 → psn (bxs els) sp_zm k v = 0 := by
        intro k
        induction k with
        | zero => intro v _; rfl
        | succ k ih =>
          intro v hk
          rw [psn, ih (v + 1) (by omega), HV_zm 0 v (Nat.zero_le _) (by omega)]
          rfl
      exact key n 0 (by omega)
    exact main (ttl (bxs els) n 0) sp_zm 0 0 _ _ (fun u hu => by rw [HV_zm 0 u (Nat.zero_le _) (by omega)]; exact hb1 u hu) (HV_zm n) (by rw [hp0]; omega) (by omega) (by rw [hp0]; rfl)
theorem c_stairs (hR : HR g σ h S) (hG : GS S) : J g (d + 2) 72 0 [some (aR 1 h), none, none, none, none, none] [] σ (jH g σ h (op_stairs S).1 (op_stairs S).2) := by
  have hH := hR.1
  have hv4 := hG.1.2
  have hv1 := hG.1.1
  have hj := hG.2.1
  unfold op_stairs
  cases hb : hB S with
  | false =>
    rw [if_neg (by decide)]
    have h8 : σ.1 h 8 = sp_bi false := by rw [hR.2.1.2.2.2.1, hb]
    refine jm_run ok_H_stairs [] 90 (fun kk hk => ?_)
    conv => whnf
    refine b_nz h8 (fun h => by cases h) (fun _ => ?_)
    conv => whnf
    exact hk _ _ _ _ (r_H_stairs_9 (jH_same hR))
  | true =>
    rw [if_pos rfl]
    have h8 : σ.1 h 8 = sp_bi true := by rw [hR.2.1.2.2.2.1, hb]
    obtain ⟨s, es, heX⟩ := id hR.2.2.2.2.1.1
    have hX := (heX hb).2
    have hl24 := hX.1
    have e25 : eo (h + 196) 8 25 = h + 1260 := by unfold eo; omega
    have loop : ∀ (n k : Nat), k + n = hv S → ∀ (f : Nat → Nat → Int32) (z2 z3 z4 z5 : Option jm_V), (∀ q, q ≠ h + 1630 → f q = σ.1 q) → (∀ v, v < k → f (h + 1630) v = nI (bxs (hel S) v)) → bxk (hel S) k = true →
        J g (d + 2) 72 12 [some (aR 1 h), some (aI (nI k)), z2, z3, z4, z5] [] (f, σ.2) (jH g σ h (if bxk (hel S) (hv S) = true then nI (sumN (fun i => Fst (LD (hel S)) (dec (bxs (hel S)) (hv S) 0 i)) (ttl (bxs (hel S)) (hv S) 0)) else -8) S) := by
      intro n
      induction n with
      | zero =>
        intro k hkn f z2 z3 z4 z5 hf hbx hbk
        obtain rfl : k = hv S := by omega
        have f0 : f h 0 = nI (hv S) := by rw [hf h (by omega)]; exact hR.2.1.1
        rw [if_pos hbk]
        have hXf : EX f (h + 196) 8 s (hgn S).length (hel S) := by
          refine ⟨hX.1, by rw [hf _ (by omega)]; exact hX.2.1, fun i E hE => gd_frame (hX.2.2 i E hE) (fun q h1 h2 => hf q ?_)⟩
          have hi := (List.getElem?_eq_some_iff.mp hE).1
          have := eo_25 (e := h + 196) (n := 8) (es.1 i (by omega)).1
          have := hG.2.2.2.1
          omega
        refine jm_run ok_H_stairs [55] 90 (fun kk hk => ?_)
        conv => whnf
        refine b_le f0 rfl (fun _ => ?_) (fun h => by omega)
        conv => whnf
        exact hk _ _ _ _ (c_stairsM (σ := (f, σ.2)) (j := hkd S) hH ⟨hj, (heX hb).1, es.1, es.2⟩ hXf.eg f0 hv1 hv4 hbk hbx (jH_ret (HR_fr hR hG (fun _ _ _ => rfl) (fun q h1 h2 _ _ => hf q (by omega))) (fun q hq => hf q (by omega)) (fun _ _ => rfl) rfl))
      | succ n ih =>
        intro k hkn f z2 z3 z4 z5 hf hbx hbk
        have f0 : f h 0 = nI (hv S) := by rw [hf h (by omega)]; exact hR.2.1.1
        have hXf : EX f (h + 196) 8 s (hgn S).length (hel S) := by
          refine ⟨hX.1, by rw [hf _ (by omega)]; exact hX.2.1, fun i E hE => gd_frame (hX.2.2 i E hE) (fun q h1 h2 => hf q ?_)⟩
          have hi := (List.getElem?_eq_some_iff.mp hE).1
          have := eo_25 (e := h + 196) (n := 8) (es.1 i (by omega)).1
          have := hG.2.2.2.1
          omega
        have hst : ∀ x, jm_wi (f, σ.2) (h + 1630) k x = ((jm_wi (f, σ.2) (h + 1630) k x).1, σ.2) := fun _ => rfl
        refine jm_run ok_H_stairs [12] 90 (fun kk hk => ?_)
        conv => whnf
        refine b_le f0 rfl (fun h => by omega) (fun _ => ?_)
        conv => whnf
        refine jg hH.fb ?_
        conv => whnf
        refine hk _ _ _ _ (k_H_stairs_27 rfl (c_pure (σ := (f, σ.2)) (j := hkd S) hH ⟨hj, (heX hb).1, es.1, es.2⟩ hXf.eg (by omega)) (fun u hu => ?_))
        subst hu
        show J g (d + 2) 72 30 _ _ (f, σ.2) _
        cases hp : sp_pure k (LD (hel S)) none with
        | none =>
          have hbf : bxk (hel S) (hv S) = false := by
            cases hq : bxk (hel S) (hv S) with
            | false => rfl
            | true => rw [bxk_at hq (v := k) (by omega)] at hp; cases hp
          rw [if_neg (by rw [hbf]; decide)]
          refine jm_run ok_H_stairs [12] 90 (fun kk hk => ?_)
          conv => whnf
          refine jw rfl hH.nb ?_
          conv => whnf
          refine jg hH.fb ?_
          conv => whnf
          refine ja rfl hH.nb jm_wi_at ?_
          conv => whnf
          refine ⟨fun q => absurd q (show ¬ (0 : Int32) ≤ -1 by decide), fun _ => ?_⟩
          conv => whnf
          rw [hst]
          exact hk _ _ _ _ (r_H_stairs_42 (jH_ret (HR_fr hR hG (fun _ _ _ => rfl) (fun q h1 h2 _ _ => (jm_wi_q (by omega)).trans (hf q (by omega)))) (fun q hq => (jm_wi_q (by omega)).trans (hf q (by omega))) (fun _ _ => rfl) rfl))
        | some e =>
          have hbe : bxs (hel S) k = e := by unfold bxs; rw [hp]; rfl
          have he30 : e ≤ 30 := by
            rcases sp_pure_mem hp with q | q
            · cases q
            · unfold LD at q
              obtain ⟨E, hE, hE2⟩ := List.mem_map.mp q
              have h9 := sp_ok_ex (sp_ld_ok ((hG.2.2.2.2.2.2.1 hb).1.1 E hE).2.1.1) k
              rw [hE2, pvp, sp_up_at _ (by omega)] at h9
              exact h9
          refine jm_run ok_H_stairs [12] 90 (fun kk hk => ?_)
          conv => whnf
          refine jw rfl hH.nb ?_
          conv => whnf
          refine jg hH.fb ?_
          conv => whnf
          refine ja rfl hH.nb jm_wi_at ?_
          conv => whnf
          refine b_le (a := 0) (b := e) rfl rfl (fun _ => ?_) (fun h => by omega)
          conv => whnf
          rw [hst, nI_1]
          refine hk _ _ _ _ (ih (k + 1) (by omega) _ _ _ _ _ (fun q hq => (jm_wi_q hq).trans (hf q hq)) (fun v hv => ?_) (by rw [bxk_s, hbk, hp]; rfl))
          by_cases hvk : v = k
          · subst hvk
            rw [hbe]
            exact jm_wi_at
          · exact (jm_wi_k hvk).trans (hbx v (by omega))
    refine jm_run ok_H_stairs [12] 90 (fun kk hk => ?_)
    conv => whnf
    refine b_nz h8 (fun _ => ?_) (fun h => by cases h)
    conv => whnf
    exact hk _ _ _ _ (loop (hv S) 0 (by omega) σ.1 _ _ _ _ (fun _ _ => rfl) (fun v hv => absurd hv (Nat.not_lt_zero _)) rfl)
end
