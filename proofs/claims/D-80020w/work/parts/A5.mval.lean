/-! THE MODEL: vanishes -/
def vout (o : Option (Int × Int)) : Int32 := match o with
  | none => -7
  | some s => sp_bi (decide (s.1 = 0))
def av4 (a b c d : Int32) (v : Nat) : Int32 := match v with
  | 0 => a
  | 1 => b
  | 2 => c
  | _ => d
theorem av4_i (a b c d : Int32) : ∀ v : Nat, (av4 a b c d v).toInt = s4 a b c d v
  | 0 => rfl
  | 1 => rfl
  | 2 => rfl
  | _ + 3 => rfl
section
variable {g : jm_G} {d : Nat} {σ : jm_S} {m : Nat} {S : sp_H}
/-- what a value leaves as it was -/
def FV (σ : jm_S) (m : Nat) (f : Nat → Nat → Int32) : Prop := (∀ q, q ≠ m → q ≠ m + 6 → f q = σ.1 q) ∧ ∀ k, k ≠ 11 → k ≠ 16 → k ≠ 17 → f m k = σ.1 m k
theorem FV.fl {f f' : Nat → Nat → Int32} {ρ : (Nat → Nat → Nat) × (Nat × Nat)} (h : FV σ m f) (h' : FL (f, ρ) m f') : FV σ m f' := ⟨fun q a b => (h'.1 q a).trans (h.1 q a b), fun k a b c => (h'.2 k a b c).trans (h.2 k a b c)⟩
theorem FV.ms {f : Nat → Nat → Int32} {T : Nat → sp_P} (h : FV σ m f) (hS : MS σ.1 m T) : MS f m T := MS_fr hS (fun q a b => h.1 q (by omega) (by omega))
theorem FV.md {f : Nat → Nat → Int32} {a : Int32} (h : FV σ m f) (hR : MR g σ m S) : jMd g σ m a S ((f, σ.2), .inl (some (aI a))) := by
  obtain ⟨T, hS, hT⟩ := id hR.2.2.2
  exact jMd_mk hR.1 (MF_fr hR.2.1 (fun k hk => h.2 k (by omega) (by omega) (by omega))) (MD_fr hR.2.2.1 (h.1 _ (by omega) (by omega))) (h.ms hS) hT (fun q hq => h.1 q (by omega) (by omega))
set_option maxRecDepth 8000 in
theorem c_mval {k : Nat} {a b c dd : Int32} {F : Nat → Nat → Int32} (hR : MR g σ m S) (hG : GS S) (hk40 : k < 40) (hFv : FV σ m F) (hF6 : ∀ v, v < 4 → F (m + 6) v = av4 a b c dd v) (hg : vg (s4 a b c dd) (hv S) = true) (F11 : F m 11 = 0) {z9 z10 z11 z12 : Option jm_V} :
    J g (d + 2) 99 100 [some (aR 6 m), some (aI (nI k)), some (aI a), some (aI b), some (aI c), some (aI dd), some (aI 0), some (aI 1), some (aI 0), z9, z10, z11, z12] [] (F, σ.2) (jMd g σ m (vout (sp_vl (s4 a b c dd) (hv S) (pg S k) (0, 1))) S) := by
  have hM := hR.1
  obtain ⟨T, hS, hT⟩ := id hR.2.2.2
  have hF := hR.2.1
  have hv4 := hG.1.2
  have hpw := (pg_ok hG hk40).1
  have hl := hpw.1
  have hP : ∀ f, FV σ m f → MP f m k (pg S k) := fun f h => by
    have := (h.ms hS k (by omega)).2
    rw [hT.at hk40] at this
    exact this
  have hn0 : ∀ f, FV σ m f → f m 0 = nI (hv S) := fun f h => (h.2 0 (by decide) (by decide) (by decide)).trans hF.1
  have hat : ∀ f : Nat → Nat → Int32, f (m + 6) = F (m + 6) → ∀ v, v < hv S → f (m + 6) v = sp_i (s4 a b c dd v) := fun f h v hvv => by
    rw [h, hF6 v (by omega), ← av4_i, i32_i]
  have outer : ∀ (r : sp_P) (i : Nat), (pg S k).drop i = r → i ≤ (pg S k).length → ∀ (f : Nat → Nat → Int32) (s : Int × Int) (z9 z10 z11 z12 : Option jm_V), rbd s → FV σ m f → f (m + 6) = F (m + 6) → f m 11 = 0 → sp_vl (s4 a b c dd) (hv S) (pg S k) (0, 1) = sp_vl (s4 a b c dd) (hv S) r s →
      J g (d + 2) 99 100 [some (aR 6 m), some (aI (nI k)), some (aI a), some (aI b), some (aI c), some (aI dd), some (aI (sp_i s.1)), some (aI (sp_i s.2)), some (aI (nI i)), z9, z10, z11, z12] [] (f, σ.2) (jMd g σ m (vout (sp_vl (s4 a b c dd) (hv S) (pg S k) (0, 1))) S) := by
    intro r
    induction r with
    | nil =>
      intro i hi hil f s z9 z10 z11 z12 hs hf f6 f11 he
      have hi2 : (pg S k).length ≤ i := List.drop_eq_nil_iff.mp hi
      rw [he]
      obtain ⟨sb1, sb2, sb3⟩ := id hs
      refine jm_run ok_M_vanishes [100] 90 (fun kk hk => ?_)
      conv => whnf
      refine jg hM.size ?_
      conv => whnf
      refine ja rfl hM.l4 (hP f hf).1 ?_
      conv => whnf
      refine b_le (b := i) rfl rfl (fun _ => ?_) (fun h => by omega)
      conv => whnf
      rw [sp_i0]
      refine bi_ne rfl rfl (fun q => ?_) (fun q => ?_) (by omega) (by decide)
      · conv => whnf
        refine hk _ _ _ _ (r_M_vanishes_293 ?_)
        show jMd g σ m (sp_bi (decide (s.1 = 0))) S _
        rw [decide_eq_false q]
        exact hf.md hR
      · conv => whnf
        refine hk _ _ _ _ (r_M_vanishes_293 ?_)
        show jMd g σ m (sp_bi (decide (s.1 = 0))) S _
        rw [decide_eq_true q]
        exact hf.md hR
    | cons t r ih =>
      intro i hi hil f s z9 z10 z11 z12 hs hf f6 f11 he
      have hti : (pg S k)[i]? = some t := by rw [← Nat.add_zero i, ← List.getElem?_drop, hi]; rfl
      have hi2 : i < (pg S k).length := (List.getElem?_eq_some_iff.mp hti).1
      have hdr : (pg S k).drop (i + 1) = r := by rw [← List.drop_drop, hi]; rfl
      have tw := sp_pw_at hpw hti
      obtain ⟨sb1, sb2, sb3⟩ := id hs
      rw [sp_vl] at he
      have endv : ∀ (x : Int × Int) (f' : Nat → Nat → Int32) (z11 z12 : Option jm_V), sp_tvl (s4 a b c dd) t.2.2 (hv S) 0 (t.1, t.2.1) = some x → rbd x → FV σ m f' → f' (m + 6) = F (m + 6) → f' m 11 = 0 →
          J g (d + 2) 99 229 [some (aR 6 m), some (aI (nI k)), some (aI a), some (aI b), some (aI c), some (aI dd), some (aI (sp_i s.1)), some (aI (sp_i s.2)), some (aI (nI i)), some (aI (sp_i x.1)), some (aI (sp_i x.2)), z11, z12] [] (f', σ.2) (jMd g σ m (vout (sp_vl (s4 a b c dd) (hv S) (pg S k) (0, 1))) S) := by
        intro x f' z11 z12 hx hxb hf' f6' f11'
        obtain ⟨xb1, xb2, xb3⟩ := id hxb
        rw [hx] at he
        have he : sp_vl (s4 a b c dd) (hv S) (pg S k) (0, 1) = (sp_fr (s.1 * x.2 + x.1 * s.2) (s.2 * x.2)).bind (sp_vl (s4 a b c dd) (hv S) r) := he
        have hne : s.2 * x.2 ≠ 0 := Int.mul_ne_zero (by omega) (by omega)
        have m1 := sp_mulb (a := s.1) (b := x.2) (n := 1000000000) sb1 (by omega)
        have m2 := sp_mulb (a := x.1) (b := s.2) (n := 1000000000) xb1 (by omega)
        have m3 := sp_mulb (a := s.2) (b := x.2) (m := 1000000000) (n := 1000000000) (by omega) (by omega)
        have m4 : 0 < s.2 * x.2 := Int.mul_pos (by omega) (by omega)
        refine jm_run ok_M_vanishes [100] 90 (fun kk hk => ?_)
        conv => whnf
        rw [sp_il (by omega), sp_il (by omega), sp_il (by omega), sp_il (by omega), sp_lmul, sp_lmul, sp_lmul, sp_ladd]
        refine hk _ _ _ _ (k_M_vanishes_252 rfl (c_mlowest (σ := (f', σ.2)) (by omega) (by omega) m4 f11') (fun u hu => ?_))
        obtain ⟨f1, hf1, h3, hu⟩ := hu
        subst hu
        have hf1' := hf'.fl hf1
        have f16 : f1 (m + 6) = F (m + 6) := (hf1.1 _ (by omega)).trans f6'
        show J g (d + 2) 99 255 _ _ (f1, σ.2) _
        rcases h3 with ⟨r1, hfr, g11, g16, g17⟩ | ⟨hfr, g11⟩
        · refine jm_run ok_M_vanishes [100] 90 (fun kk hk => ?_)
          conv => whnf
          refine b_z (b := false) g11 (fun _ => ?_) (fun h => by cases h)
          conv => whnf
          rw [show (f1, σ.2).1 m 16 = sp_i r1.1 from g16, show (f1, σ.2).1 m 17 = sp_i r1.2 from g17, nI_1]
          exact hk _ _ _ _ (ih (i + 1) hdr (by omega) f1 r1 _ _ _ _ (rbd_fr hne hfr) hf1' f16 g11 (by rw [he, hfr]; rfl))
        · rw [he, hfr]
          refine jm_run ok_M_vanishes [] 90 (fun kk hk => ?_)
          conv => whnf
          refine b_z (b := true) g11 (fun h => by cases h) (fun _ => ?_)
          conv => whnf
          exact hk _ _ _ _ (r_M_vanishes_264 (hf1'.md hR))
      have mid : ∀ (n v : Nat), v + n = hv S → ∀ (x : Int × Int) (f' : Nat → Nat → Int32) (z12 : Option jm_V), rbd x → FV σ m f' → f' (m + 6) = F (m + 6) → f' m 11 = 0 → sp_tvl (s4 a b c dd) t.2.2 (hv S) 0 (t.1, t.2.1) = sp_tvl (s4 a b c dd) t.2.2 n v x →
          J g (d + 2) 99 142 [some (aR 6 m), some (aI (nI k)), some (aI a), some (aI b), some (aI c), some (aI dd), some (aI (sp_i s.1)), some (aI (sp_i s.2)), some (aI (nI i)), some (aI (sp_i x.1)), some (aI (sp_i x.2)), some (aI (nI v)), z12] [] (f', σ.2) (jMd g σ m (vout (sp_vl (s4 a b c dd) (hv S) (pg S k) (0, 1))) S) := by
        intro n
        induction n with
        | zero =>
          intro v hvm x f' z12 hx hf' f6' f11' hxe
          refine jm_run ok_M_vanishes [229] 90 (fun kk hk => ?_)
          conv => whnf
          refine b_le (hn0 f' hf') rfl (fun _ => ?_) (fun h => by omega)
          conv => whnf
          exact hk _ _ _ _ (endv x f' _ _ hxe hx hf' f6' f11')
        | succ n ih2 =>
          intro v hvm x f' z12 hx hf' f6' f11' hxe
          have hbv := vg_le hg (v := v) (by omega)
          have hex := sp_ok_ex tw.2.2.2.2 v
          rw [sp_tvl] at hxe
          have inner : ∀ (n3 e : Nat), e + n3 = sp_ex t.2.2 v → ∀ (x2 : Int × Int) (f2 : Nat → Nat → Int32), rbd x2 → FV σ m f2 → f2 (m + 6) = F (m + 6) → f2 m 11 = 0 → sp_tms (s4 a b c dd v) (sp_ex t.2.2 v) x = sp_tms (s4 a b c dd v) n3 x2 →
              J g (d + 2) 99 154 [some (aR 6 m), some (aI (nI k)), some (aI a), some (aI b), some (aI c), some (aI dd), some (aI (sp_i s.1)), some (aI (sp_i s.2)), some (aI (nI i)), some (aI (sp_i x2.1)), some (aI (sp_i x2.2)), some (aI (nI v)), some (aI (nI e))] [] (f2, σ.2) (jMd g σ m (vout (sp_vl (s4 a b c dd) (hv S) (pg S k) (0, 1))) S) := by
            intro n3
            induction n3 with
            | zero =>
              intro e hen x2 f2 hx2 hf2 f26 f211 hm
              have row := (hP f2 hf2).2 _ _ hti
              rw [hm] at hxe
              refine jm_run ok_M_vanishes [142] 90 (fun kk hk => ?_)
              conv => whnf
              refine jg hM.mono ?_
              conv => whnf
              refine ja (ix k i) hM.l3 row.2.2 ?_
              conv => whnf
              refine hk _ _ _ _ (k_M_vanishes_170 rfl (c_mexp tw.2.2.2.2 (by omega)) (fun u hu => ?_))
              subst hu
              show J g (d + 2) 99 173 _ _ (f2, σ.2) _
              refine jm_run ok_M_vanishes [142] 90 (fun kk hk => ?_)
              conv => whnf
              refine b_le (a := sp_ex t.2.2 v) (b := e) rfl rfl (fun _ => ?_) (fun h => by omega)
              conv => whnf
              rw [nI_1]
              exact hk _ _ _ _ (ih2 (v + 1) (by omega) x2 f2 _ hx2 hf2 f26 f211 hxe)
            | succ n3 ih3 =>
              intro e hen x2 f2 hx2 hf2 f26 f211 hm
              have row := (hP f2 hf2).2 _ _ hti
              obtain ⟨rb1, rb2, rb3⟩ := id hx2
              have hne : x2.2 * 1 ≠ 0 := by omega
              refine jm_run ok_M_vanishes [154] 90 (fun kk hk => ?_)
              conv => whnf
              refine jg hM.mono ?_
              conv => whnf
              refine ja (ix k i) hM.l3 row.2.2 ?_
              conv => whnf
              refine hk _ _ _ _ (k_M_vanishes_170 rfl (c_mexp tw.2.2.2.2 (by omega)) (fun u hu => ?_))
              subst hu
              show J g (d + 2) 99 173 _ _ (f2, σ.2) _
              refine jm_run ok_M_vanishes [154] 90 (fun kk hk => ?_)
              conv => whnf
              refine b_le (a := sp_ex t.2.2 v) (b := e) rfl rfl (fun h => by omega) (fun _ => ?_)
              conv => whnf
              refine jg hM.at4 ?_
              conv => whnf
              refine ja (i := v) rfl hM.l6 (hat f2 f26 v (by omega)) ?_
              conv => whnf
              rw [sp_il (by omega), sp_il (by omega), sp_il (by omega), show (1 : Int64) = sp_l 1 from by decide]
              refine hk _ _ _ _ (k_M_vanishes_192 rfl (c_mmult (σ := (f2, σ.2)) rb1 ⟨rb2, rb3⟩ (by omega) (by decide) f211) (fun u hu => ?_))
              obtain ⟨f1, hf1, h3, hu⟩ := hu
              subst hu
              have hf1' := hf2.fl hf1
              have f16 : f1 (m + 6) = F (m + 6) := (hf1.1 _ (by omega)).trans f26
              show J g (d + 2) 99 195 _ _ (f1, σ.2) _
              rw [sp_tms] at hm
              rcases h3 with ⟨r1, hfr, g11, g16, g17⟩ | ⟨hfr, g11⟩
              · refine jm_run ok_M_vanishes [154] 90 (fun kk hk => ?_)
                conv => whnf
                refine b_z (b := false) g11 (fun _ => ?_) (fun h => by cases h)
                conv => whnf
                rw [show (f1, σ.2).1 m 16 = sp_i r1.1 from g16, show (f1, σ.2).1 m 17 = sp_i r1.2 from g17, nI_1]
                exact hk _ _ _ _ (ih3 (e + 1) (by omega) r1 f1 (rbd_fr hne hfr) hf1' f16 g11 (by rw [hm, hfr]; rfl))
              · rw [he, hxe, hm, hfr]
                refine jm_run ok_M_vanishes [] 90 (fun kk hk => ?_)
                conv => whnf
                refine b_z (b := true) g11 (fun h => by cases h) (fun _ => ?_)
                conv => whnf
                exact hk _ _ _ _ (r_M_vanishes_204 (hf1'.md hR))
          refine jm_run ok_M_vanishes [154] 90 (fun kk hk => ?_)
          conv => whnf
          refine b_le (hn0 f' hf') rfl (fun h => by omega) (fun _ => ?_)
          conv => whnf
          exact hk _ _ _ _ (inner (sp_ex t.2.2 v) 0 (by omega) x f' hx hf' f6' f11' rfl)
      have row := (hP f hf).2 _ _ hti
      refine jm_run ok_M_vanishes [142] 90 (fun kk hk => ?_)
      conv => whnf
      refine jg hM.size ?_
      conv => whnf
      refine ja rfl hM.l4 (hP f hf).1 ?_
      conv => whnf
      refine b_le (b := i) rfl rfl (fun h => by omega) (fun _ => ?_)
      conv => whnf
      refine jg hM.num ?_
      conv => whnf
      refine ja (ix k i) hM.l1 row.1 ?_
      conv => whnf
      refine jg hM.den ?_
      conv => whnf
      refine ja (ix k i) hM.l2 row.2.1 ?_
      conv => whnf
      exact hk _ _ _ _ (mid (hv S) 0 (by omega) (t.1, t.2.1) f _ ⟨tw.2.1, tw.2.2.1, tw.2.2.2.1⟩ hf f6 f11 rfl)
  exact outer (pg S k) 0 rfl (Nat.zero_le _) F (0, 1) _ _ _ _ ⟨by decide, by decide, by decide⟩ hFv rfl F11 rfl
set_option maxRecDepth 8000 in
theorem c_mvanishes {x a b c dd : Int32} (hR : MR g σ m S) (hG : GS S) : J g (d + 2) 99 0 [some (aR 6 m), some (aI x), some (aI a), some (aI b), some (aI c), some (aI dd), none, none, none, none, none, none, none] [] σ (jMd g σ m (op_vanishes S x a b c dd).1 (op_vanishes S x a b c dd).2) := by
  have hM := hR.1
  have hF := hR.2.1
  have hv4 := hG.1.2
  refine jm_run ok_M_vanishes [] 90 (fun kk hk => ?_)
  conv => whnf
  refine hk _ _ _ _ (k_M_vanishes_1 rfl c_misPlace (fun u hu => ?_))
  subst hu
  show J g (d + 2) 99 4 _ _ σ _
  unfold op_vanishes
  cases hx : sp_ip x with
  | false =>
    rw [if_neg (by decide)]
    refine jm_run ok_M_vanishes [] 90 (fun kk hk => ?_)
    conv => whnf
    refine b_nz (b := false) rfl (fun h => by cases h) (fun _ => ?_)
    conv => whnf
    exact hk _ _ _ _ (r_M_vanishes_8 (jMd_same hR))
  | true =>
    rw [if_pos rfl]
    obtain ⟨k, hk40, rfl⟩ := sp_ip_t hx
    rw [nI_clamp (by omega)]
    have hst : jm_wi (jm_wi (jm_wi (jm_wi σ (m + 6) 0 a) (m + 6) 1 b) (m + 6) 2 c) (m + 6) 3 dd = ((jm_wi (jm_wi (jm_wi (jm_wi σ (m + 6) 0 a) (m + 6) 1 b) (m + 6) 2 c) (m + 6) 3 dd).1, σ.2) := rfl
    have Fk : ∀ v, (jm_wi (jm_wi (jm_wi (jm_wi σ (m + 6) 0 a) (m + 6) 1 b) (m + 6) 2 c) (m + 6) 3 dd).1 (m + 6) v = if v = 3 then dd else if v = 2 then c else if v = 1 then b else if v = 0 then a else σ.1 (m + 6) v := fun v => by simp only [jm_wi_1, true_and]
    have Fq : ∀ q, q ≠ m + 6 → (jm_wi (jm_wi (jm_wi (jm_wi σ (m + 6) 0 a) (m + 6) 1 b) (m + 6) 2 c) (m + 6) 3 dd).1 q = σ.1 q := fun q hq => by rw [jm_wi_q hq, jm_wi_q hq, jm_wi_q hq, jm_wi_q hq]
    have rng : ∀ F : Nat → Nat → Int32, (∀ q, q ≠ m + 6 → F q = σ.1 q) → (∀ v, v < 4 → F (m + 6) v = av4 a b c dd v) → ∀ n v, v + n = hv S → vg (s4 a b c dd) v = true → J g (d + 2) 99 42 [some (aR 6 m), some (aI (nI k)), some (aI a), some (aI b), some (aI c), some (aI dd), some (aI (nI v)), none, none, none, none, none, none] [] (F, σ.2) (jMd g σ m (if vg (s4 a b c dd) (hv S) = true then (vout (sp_vl (s4 a b c dd) (hv S) (pg S k) (0, 1))) else -2) S) := by
      intro F Fq Fv n
      have hFv : FV σ m F := ⟨fun q _ h => Fq q h, fun k _ _ _ => congrFun (Fq m (by omega)) k⟩
      have f0 : F m 0 = nI (hv S) := (congrFun (Fq m (by omega)) 0).trans hF.1
      induction n with
      | zero =>
        intro v hvn hg
        obtain rfl : v = hv S := by omega
        rw [if_pos hg]
        have hst2 : jm_wi (F, σ.2) m 11 0 = ((jm_wi (F, σ.2) m 11 0).1, σ.2) := rfl
        refine jm_run ok_M_vanishes [100] 90 (fun kk hk => ?_)
        conv => whnf
        refine b_le f0 rfl (fun _ => ?_) (fun h => by omega)
        conv => whnf
        refine ⟨Or.inl rfl, ?_⟩
        conv => whnf
        rw [hst2]
        exact hk _ _ _ _ (c_mval hR hG hk40 ⟨fun q h1 h2 => (jm_wi_q h1).trans (Fq q h2), fun k h1 h2 h3 => (jm_wi_k h1).trans (hFv.2 k h1 h2 h3)⟩ (fun v hv => (congrFun (jm_wi_q (by omega)) v).trans (Fv v hv)) hg jm_wi_at)
      | succ n ih =>
        intro v hvn hg
        have hs := av4_i a b c dd v
        have e1 : (-1000 : Int32).toInt = -1000 := rfl
        have e2 : (1000 : Int32).toInt = 1000 := rfl
        have no : ¬ (s4 a b c dd v).natAbs ≤ 1000 → ¬ vg (s4 a b c dd) (hv S) = true := fun h q => h (vg_le q (by omega))
        refine jm_run ok_M_vanishes [42] 90 (fun kk hk => ?_)
        conv => whnf
        refine b_le f0 rfl (fun h => by omega) (fun _ => ?_)
        conv => whnf
        refine jg hM.at4 ?_
        conv => whnf
        refine ja (i := v) rfl hM.l6 (Fv v (by omega)) ?_
        conv => whnf
        refine ⟨fun h1 => ?_, fun h1 => ?_⟩
        · have q1 := Int32.lt_iff_toInt_lt.mp h1
          rw [if_neg (no (by omega))] at hk
          conv => whnf
          exact hk _ _ _ _ (r_M_vanishes_79 (hFv.md hR))
        · have q1 : ¬ _ := fun q => h1 (Int32.lt_iff_toInt_lt.mpr q)
          conv => whnf
          refine jg hM.at4 ?_
          conv => whnf
          refine ja (i := v) rfl hM.l6 (Fv v (by omega)) ?_
          conv => whnf
          refine ⟨fun h2 => ?_, fun h2 => ?_⟩
          · have q2 := Int32.le_iff_toInt_le.mp h2
            conv => whnf
            rw [nI_1]
            refine hk _ _ _ _ (ih (v + 1) (by omega) ?_)
            rw [vg_s, hg, Bool.true_and]
            exact decide_eq_true (by omega)
          · have q2 : ¬ _ := fun q => h2 (Int32.le_iff_toInt_le.mpr q)
            rw [if_neg (no (by omega))] at hk
            conv => whnf
            exact hk _ _ _ _ (r_M_vanishes_79 (hFv.md hR))
    refine jm_run ok_M_vanishes [42] 90 (fun kk hk => ?_)
    conv => whnf
    refine b_nz (b := true) rfl (fun _ => ?_) (fun h => by cases h)
    conv => whnf
    refine jg hM.at4 ?_
    conv => whnf
    refine jw (i := 0) rfl hM.l6 ?_
    conv => whnf
    refine jg hM.at4 ?_
    conv => whnf
    refine jw (i := 1) rfl hM.l6 ?_
    conv => whnf
    refine jg hM.at4 ?_
    conv => whnf
    refine jw (i := 2) rfl hM.l6 ?_
    conv => whnf
    refine jg hM.at4 ?_
    conv => whnf
    refine jw (i := 3) rfl hM.l6 ?_
    conv => whnf
    rw [hst]
    refine hk _ _ _ _ (rng _ Fq (fun v hv => ?_) (hv S) 0 (by omega) rfl)
    rw [Fk]
    have : v = 0 ∨ v = 1 ∨ v = 2 ∨ v = 3 := by omega
    rcases this with e | e | e | e <;> subst e <;> rfl
end
