/-! THE MODEL: term -/
theorem sp_fr_neg {a b : Int} (hb : b < 0) : sp_fr (-a) (-b) = sp_fr a b := by
  unfold sp_fr
  rw [Int.neg_gcd, Int.gcd_neg, Int.neg_tdiv, Int.neg_tdiv, Int.natAbs_neg, Int.natAbs_neg, if_neg (show ¬ (-b < 0) by omega), if_pos hb]
section
variable {g : jm_G} {d : Nat} {σ : jm_S} {m : Nat} {S : sp_H}
set_option maxRecDepth 8000 in
theorem c_mtermE {k : Nat} {a b w : Int32} {y : Int32} {z7 z8 : Option jm_V} (hR : MR g σ m S) (hG : GS S) (hk40 : k < 40) (hn : tn a b = true) (hg : tg (hv S) w 4 = true) (hy : y = sp_d (tM w)) :
    J g (d + 4) 82 131 [some (aR 6 m), some (aI (nI k)), some (aI a), some (aI b), some (aI w), some (aI 1), some (aI y), z7, z8] [] σ (jMd g σ m (if a.toInt = 0 then (nI (pg S k).length, S) else op_give S k ((sp_fr a.toInt b.toInt).bind (fun r => sp_come (hkd S) (pg S k) r.1 r.2 (tM w)))).1 (if a.toInt = 0 then (nI (pg S k).length, S) else op_give S k ((sp_fr a.toInt b.toInt).bind (fun r => sp_come (hkd S) (pg S k) r.1 r.2 (tM w)))).2) := by
  subst hy
  have hM := hR.1
  obtain ⟨T, hS, hT⟩ := id hR.2.2.2
  have hF := hR.2.1
  have p1 := pg_ok hG hk40
  have hv4 := hG.1.2
  have hn := of_decide_eq_true hn
  have e1 := hT.at hk40
  by_cases ha : a.toInt = 0
  · rw [if_pos ha]
    have hz := hS.sz (p := k) (by omega)
    rw [e1] at hz
    refine jm_run ok_M_term [] 90 (fun kk hk => ?_)
    conv => whnf
    refine ⟨fun q => absurd (i32_0.mpr ha) q, fun _ => ?_⟩
    conv => whnf
    refine jg hM.size ?_
    conv => whnf
    refine ja rfl hM.l4 hz ?_
    conv => whnf
    exact hk _ _ _ _ (r_M_term_141 (jMd_same hR))
  · rw [if_neg ha]
    have hst : jm_wi σ m 11 0 = ((jm_wi σ m 11 0).1, σ.2) := rfl
    have hFl : FM σ m (jm_wi σ m 11 0).1 := ⟨fun q hq => jm_wi_q (by omega), fun k a _ _ => jm_wi_k a⟩
    have h110 : (jm_wi σ m 11 0).1 m 11 = 0 := jm_wi_at
    have hS0 : MS (jm_wi σ m 11 0).1 m T := MS_fr hS (fun q a b => jm_wi_q (by omega))
    have ea : -a = sp_i (-a.toInt) := by rw [← sp_ineg, i32_i]
    have eb : -b = sp_i (-b.toInt) := by rw [← sp_ineg, i32_i]
    have e0 : (0 : Int32).toInt = 0 := rfl
    refine jm_run ok_M_term [] 90 (fun kk hk => ?_)
    conv => whnf
    refine ⟨fun _ => ?_, fun q => absurd (i32_0.mp q) ha⟩
    conv => whnf
    refine ⟨Or.inl rfl, ?_⟩
    conv => whnf
    rw [hst]
    generalize (jm_wi σ m 11 0).1 = F at hFl h110 hS0
    refine hk _ _ _ _ (k_M_term_152 rfl (c_mcopy (σ := (F, σ.2)) (a := k) (b := 150) hM hS0 (by omega) (by omega) (by omega)) (fun u hu => ?_))
    obtain ⟨f, hf, hS1, hu⟩ := hu
    subst hu
    have hF1 : FM σ m f := ⟨fun q hq => (hf q (by omega)).trans (hFl.1 q hq), fun k a b c => (congrFun (hf m (by omega)) k).trans (hFl.2 k a b c)⟩
    have f11 : f m 11 = 0 := (congrFun (hf m (by omega)) 11).trans h110
    rw [e1] at hS1
    show J g (d + 4) 82 155 _ _ (f, σ.2) _
    have nx : ∀ u : jm_O, jL (f, σ.2) m (sp_fr a.toInt b.toInt) u → ∃ f2, u = ((f2, σ.2), .inl none) ∧ J g (d + 4) 82 183 [some (aR 6 m), some (aI (nI k)), some (aI a), some (aI b), some (aI w), some (aI 1), some (aI (sp_d (tM w))), z7, z8] [] (f2, σ.2) (jMd g σ m (op_give S k ((sp_fr a.toInt b.toInt).bind (fun r => sp_come (hkd S) (pg S k) r.1 r.2 (tM w)))).1 (op_give S k ((sp_fr a.toInt b.toInt).bind (fun r => sp_come (hkd S) (pg S k) r.1 r.2 (tM w)))).2) := by
      intro u hu
      obtain ⟨f2, hf2, h3, hu⟩ := hu
      refine ⟨f2, hu, ?_⟩
      have hF2 : FM σ m f2 := hF1.trans hf2.fm
      have hS2 := hf2.ms hS1
      rcases h3 with ⟨r, hfr, g11, g16, g17⟩ | ⟨hfr, g11⟩
      · have hrb := sp_fr_b hn.2.2 hfr
        rw [hfr]
        refine jm_run ok_M_term [] 90 (fun kk hk => ?_)
        conv => whnf
        rw [show (f2, σ.2).1 m 16 = sp_i r.1 from g16, show (f2, σ.2).1 m 17 = sp_i r.2 from g17]
        refine hk _ _ _ _ (k_M_term_197 rfl (c_mcomes (σ := (f2, σ.2)) (d := d) (p := 150) (A := r.1) (B := r.2) (mo := tM w) hM (hF2.mc (hR.mc hG)) hS2 (by omega) (by rw [tU_at]; exact p1.1) (by rw [tU_at]; exact p1.2.2) hrb.1 ⟨hrb.2.1, hrb.2.2.1⟩ (tM_ok w) (tM_HV hv4 hg) g11) (fun u hu => ?_))
        obtain ⟨f3, l3, hf3, hS3, h6, hu⟩ := hu
        subst hu
        rw [tU_at] at h6
        rw [tU_tU] at hS3
        show J g (d + 4) 82 200 _ _ (f3, σ.2) _
        refine jm_run ok_M_term [] 90 (fun kk hk => ?_)
        conv => whnf
        refine hk _ _ _ _ (k_M_term_205 rfl (mtk (d := d + 2) (o := (some r).bind (fun r => sp_come (hkd S) (pg S k) r.1 r.2 (tM w))) hR hG hT (hF2.trans hf3) hS3 (fun _ _ => rfl) h6 hk40) (fun u hu => ?_))
        obtain ⟨f4, a1, a2, rfl⟩ := hu
        exact r_M_term_208 ⟨f4, a1, a2, rfl⟩
      · rw [hfr]
        refine jm_run ok_M_term [] 90 (fun kk hk => ?_)
        conv => whnf
        refine hk _ _ _ _ (k_M_term_197 rfl (c_mcomes1 (L := []) (σ := (f2, σ.2)) g11) (fun u hu => ?_))
        subst hu
        show J g (d + 4) 82 200 _ _ (f2, σ.2) _
        refine jm_run ok_M_term [] 90 (fun kk hk => ?_)
        conv => whnf
        refine hk _ _ _ _ (k_M_term_205 rfl (mtk (d := d + 2) (o := none) hR hG hT hF2 hS2 (fun _ _ => rfl) (Or.inr ⟨rfl, g11⟩) hk40) (fun u hu => ?_))
        obtain ⟨f4, a1, a2, rfl⟩ := hu
        exact r_M_term_208 ⟨f4, a1, a2, rfl⟩
    by_cases hb : b.toInt < 0
    · have hlo := c_mlowest (g := g) (d := d + 3) (σ := (f, σ.2)) (m := m) (A := -a.toInt) (B := -b.toInt) (by omega) (by omega) (by omega) f11
      rw [sp_fr_neg hb] at hlo
      refine jm_run ok_M_term [] 90 (fun kk hk => ?_)
      conv => whnf
      refine ⟨fun q => ?_, fun _ => ?_⟩
      · have := Int32.le_iff_toInt_le.mp q
        omega
      conv => whnf
      refine ⟨fun q => ?_, fun _ => ?_⟩
      · have := Int32.le_iff_toInt_le.mp q
        omega
      conv => whnf
      rw [ea, eb, sp_il (by omega), sp_il (by omega)]
      refine hk _ _ _ _ (k_M_term_180 rfl hlo (fun u hu => ?_))
      obtain ⟨f2, hu2, hJ⟩ := nx u hu
      subst hu2
      exact hJ
    · have hlo := c_mlowest (g := g) (d := d + 3) (σ := (f, σ.2)) (m := m) (A := a.toInt) (B := b.toInt) (by omega) (by omega) (by omega) f11
      refine jm_run ok_M_term [] 90 (fun kk hk => ?_)
      conv => whnf
      refine ⟨fun _ => ?_, fun q => ?_⟩
      · conv => whnf
        refine ⟨fun _ => ?_, fun q => ?_⟩
        · conv => whnf
          rw [i32_l a, i32_l b]
          refine hk _ _ _ _ (k_M_term_180 rfl hlo (fun u hu => ?_))
          obtain ⟨f2, hu2, hJ⟩ := nx u hu
          subst hu2
          exact hJ
        · exact absurd (Int32.le_iff_toInt_le.mpr (by omega)) q
      · exact absurd (Int32.le_iff_toInt_le.mpr (by omega)) q
set_option maxRecDepth 8000 in
theorem c_mterm {x a b w : Int32} (hR : MR g σ m S) (hG : GS S) : J g (d + 4) 82 0 [some (aR 6 m), some (aI x), some (aI a), some (aI b), some (aI w), none, none, none, none] [] σ (jMd g σ m (op_term S x a b w).1 (op_term S x a b w).2) := by
  have hv4 := hG.1.2
  have hF := hR.2.1
  refine jm_run ok_M_term [] 90 (fun kk hk => ?_)
  conv => whnf
  refine hk _ _ _ _ (k_M_term_1 rfl c_misPlace (fun u hu => ?_))
  subst hu
  show J g (d + 4) 82 4 _ _ σ _
  unfold op_term
  cases hx : sp_ip x with
  | false =>
    rw [if_neg (by decide)]
    refine jm_run ok_M_term [] 90 (fun kk hk => ?_)
    conv => whnf
    refine b_nz (b := false) rfl (fun h => by cases h) (fun _ => ?_)
    conv => whnf
    exact hk _ _ _ _ (r_M_term_8 (jMd_same hR))
  | true =>
    rw [if_pos rfl]
    obtain ⟨k, hk40, rfl⟩ := sp_ip_t hx
    rw [nI_clamp (by omega)]
    have loop : ∀ n v, v + n = 4 → ∀ (y : Int32) (z8 : Option jm_V), (tg (hv S) w v = true → y = nI (qd (tM w) v)) → J g (d + 4) 82 50 [some (aR 6 m), some (aI (nI k)), some (aI a), some (aI b), some (aI w), some (aI (sp_bi (tn a b && tg (hv S) w v))), some (aI y), some (aI (nI v)), z8] [] σ (jMd g σ m (if tn a b = true ∧ tg (hv S) w 4 = true then (if a.toInt = 0 then (nI (pg S k).length, S) else op_give S k ((sp_fr a.toInt b.toInt).bind (fun r => sp_come (hkd S) (pg S k) r.1 r.2 (tM w)))) else (-2, S)).1 (if tn a b = true ∧ tg (hv S) w 4 = true then (if a.toInt = 0 then (nI (pg S k).length, S) else op_give S k ((sp_fr a.toInt b.toInt).bind (fun r => sp_come (hkd S) (pg S k) r.1 r.2 (tM w)))) else (-2, S)).2) := by
      intro n
      induction n with
      | zero =>
        intro v hvn y z8 hy
        obtain rfl : v = 4 := by omega
        cases hb : (tn a b && tg (hv S) w 4) with
        | true =>
          rw [Bool.and_eq_true] at hb
          rw [if_pos hb]
          have e6 : qd (tM w) 4 = sp_5 (tM w) := qd_HV (HV_le (tM_HV hv4 hb.2) hv4) (by decide)
          refine jm_run ok_M_term [131] 90 (fun kk hk => ?_)
          conv => whnf
          refine b_le (a := 4) (b := 4) rfl rfl (fun _ => ?_) (fun h => by omega)
          conv => whnf
          refine b_nz (b := true) rfl (fun _ => ?_) (fun h => by cases h)
          conv => whnf
          exact hk _ _ _ _ (c_mtermE hR hG hk40 hb.1 hb.2 ((hy hb.2).trans (congrArg nI e6)))
        | false =>
          rw [if_neg (fun q => by rw [q.1, q.2] at hb; cases hb)]
          refine jm_run ok_M_term [131] 90 (fun kk hk => ?_)
          conv => whnf
          refine b_le (a := 4) (b := 4) rfl rfl (fun _ => ?_) (fun h => by omega)
          conv => whnf
          refine b_nz (b := false) rfl (fun h => by cases h) (fun _ => ?_)
          conv => whnf
          exact hk _ _ _ _ (r_M_term_130 (jMd_same hR))
      | succ n ih =>
        intro v hvn y z8 hy
        have hb8 := by8_lt w v
        have nxt : ∀ c : Bool, c = (tn a b && tg (hv S) w (v + 1)) → J g (d + 4) 82 100 [some (aR 6 m), some (aI (nI k)), some (aI a), some (aI b), some (aI w), some (aI (sp_bi (tn a b && tg (hv S) w v))), some (aI y), some (aI (nI v)), some (aI (nI (by8 w v)))] [aI (sp_bi c)] σ (jMd g σ m (if tn a b = true ∧ tg (hv S) w 4 = true then (if a.toInt = 0 then (nI (pg S k).length, S) else op_give S k ((sp_fr a.toInt b.toInt).bind (fun r => sp_come (hkd S) (pg S k) r.1 r.2 (tM w)))) else (-2, S)).1 (if tn a b = true ∧ tg (hv S) w 4 = true then (if a.toInt = 0 then (nI (pg S k).length, S) else op_give S k ((sp_fr a.toInt b.toInt).bind (fun r => sp_come (hkd S) (pg S k) r.1 r.2 (tM w)))) else (-2, S)).2) := by
          intro c hc
          subst hc
          refine jm_run ok_M_term [50] 90 (fun kk hk => ?_)
          conv => whnf
          rw [pk_andN (by omega) 5 (by decide), nI_1]
          refine hk _ _ _ _ (ih (v + 1) (by omega) _ _ (fun ht => ?_))
          rw [tg_s, Bool.and_eq_true] at ht
          have hle := of_decide_eq_true ht.2
          have h30 : by8 w v ≤ 30 := by split at hle <;> omega
          rw [hy ht.1, ← qd_or (tM_ok w) (by omega), tM_ex w (by omega) h30, Nat.mod_eq_of_lt (by omega)]
        have e : (tn a b && tg (hv S) w (v + 1)) = ((tn a b && tg (hv S) w v) && decide (by8 w v ≤ if v < hv S then 30 else 0)) := by rw [tg_s, Bool.and_assoc]
        rw [e] at nxt
        cases hgd : (tn a b && tg (hv S) w v) with
        | false =>
          rw [hgd] at nxt
          refine jm_run ok_M_term [100] 90 (fun kk hk => ?_)
          conv => whnf
          refine b_le (a := 4) (b := v) rfl rfl (fun h => by omega) (fun _ => ?_)
          conv => whnf
          rw [by8_e w (by omega)]
          refine b_z (b := false) rfl (fun _ => ?_) (fun h => by cases h)
          conv => whnf
          exact hk _ _ _ _ (nxt false rfl)
        | true =>
          rw [hgd, Bool.true_and] at nxt
          refine jm_run ok_M_term [100] 90 (fun kk hk => ?_)
          conv => whnf
          refine b_le (a := 4) (b := v) rfl rfl (fun h => by omega) (fun _ => ?_)
          conv => whnf
          rw [by8_e w (by omega)]
          refine b_z (b := true) rfl (fun h => by cases h) (fun _ => ?_)
          conv => whnf
          refine b_le hF.1 rfl (fun hc => ?_) (fun hc => ?_)
          · rw [if_neg (by omega)] at nxt
            conv => whnf
            refine b_lt (a := 0) (b := by8 w v) rfl rfl (fun q => ?_) (fun q => ?_)
            · conv => whnf
              exact hk _ _ _ _ (nxt false (decide_eq_false (by omega)).symm)
            · conv => whnf
              exact hk _ _ _ _ (nxt true (decide_eq_true (by omega)).symm)
          · rw [if_pos (by omega)] at nxt
            conv => whnf
            refine b_lt (a := 30) (b := by8 w v) rfl rfl (fun q => ?_) (fun q => ?_)
            · conv => whnf
              exact hk _ _ _ _ (nxt false (decide_eq_false (by omega)).symm)
            · conv => whnf
              exact hk _ _ _ _ (nxt true (decide_eq_true (by omega)).symm)
    have st : ∀ c : Bool, c = tn a b → J g (d + 4) 82 42 [some (aR 6 m), some (aI (nI k)), some (aI a), some (aI b), some (aI w), none, none, none, none] [aI (sp_bi c)] σ (jMd g σ m (if tn a b = true ∧ tg (hv S) w 4 = true then (if a.toInt = 0 then (nI (pg S k).length, S) else op_give S k ((sp_fr a.toInt b.toInt).bind (fun r => sp_come (hkd S) (pg S k) r.1 r.2 (tM w)))) else (-2, S)).1 (if tn a b = true ∧ tg (hv S) w 4 = true then (if a.toInt = 0 then (nI (pg S k).length, S) else op_give S k ((sp_fr a.toInt b.toInt).bind (fun r => sp_come (hkd S) (pg S k) r.1 r.2 (tM w)))) else (-2, S)).2) := by
      intro c hc
      have h9 := loop 4 0 rfl 0 none (fun _ => rfl)
      rw [show (tn a b && tg (hv S) w 0) = c from (Bool.and_true _).trans hc.symm] at h9
      refine jm_run ok_M_term [50] 90 (fun kk hk => ?_)
      conv => whnf
      exact hk _ _ _ _ h9
    have e1 : (-1000000000 : Int32).toInt = -1000000000 := rfl
    have e2 : (1000000000 : Int32).toInt = 1000000000 := rfl
    have lt : ∀ x y : Int32, x < y ↔ x.toInt < y.toInt := fun x y => Int32.lt_iff_toInt_lt
    refine jm_run ok_M_term [42] 90 (fun kk hk => ?_)
    conv => whnf
    refine b_nz (b := true) rfl (fun _ => ?_) (fun h => by cases h)
    conv => whnf
    refine ⟨fun h1 => ?_, fun h1 => ?_⟩
    · rw [lt] at h1
      conv => whnf
      exact hk _ _ _ _ (st false (decide_eq_false (fun q => by omega)).symm)
    rw [lt] at h1
    conv => whnf
    refine ⟨fun h2 => ?_, fun h2 => ?_⟩
    · rw [lt] at h2
      conv => whnf
      exact hk _ _ _ _ (st false (decide_eq_false (fun q => by omega)).symm)
    rw [lt] at h2
    conv => whnf
    refine ⟨fun h3 => ?_, fun h3 => ?_⟩
    · rw [lt] at h3
      conv => whnf
      exact hk _ _ _ _ (st false (decide_eq_false (fun q => by omega)).symm)
    rw [lt] at h3
    conv => whnf
    refine ⟨fun h4 => ?_, fun h4 => ?_⟩
    · rw [lt] at h4
      conv => whnf
      exact hk _ _ _ _ (st false (decide_eq_false (fun q => by omega)).symm)
    rw [lt] at h4
    conv => whnf
    refine ⟨fun h5 => ?_, fun h5 => ?_⟩
    · conv => whnf
      exact hk _ _ _ _ (st false (decide_eq_false (fun q => q.2.2 (i32_0.mp h5))).symm)
    · conv => whnf
      exact hk _ _ _ _ (st true (decide_eq_true ⟨by omega, by omega, fun q => h5 (i32_0.mpr q)⟩).symm)
end
