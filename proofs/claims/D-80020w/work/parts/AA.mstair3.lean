/-! THE MODEL: stairs -/
section
variable {g : jm_G} {d : Nat} {σ : jm_S} {m : Nat} {S : sp_H}
theorem psl_t {v : Nat} {b : Option Nat} {mo : sp_M} (h : mo = pvp v (sp_ex mo v)) : psl v b mo = some (sp_ex mo v) := if_pos h
theorem psl_f {v : Nat} {b : Option Nat} {mo : sp_M} (h : ¬ mo = pvp v (sp_ex mo v)) : psl v b mo = b := if_neg h
theorem pvp_ok {v e : Nat} (hv : v < 5) (he : e ≤ 30) : sp_ok (pvp v e) := sp_up_ok sp_zm_ok hv he
theorem c_mstE {T : Nat → sp_P} (hR : MR g σ m S) (hG : GS S) (hS : MS σ.1 m T) (hT : MT T S) (hb : hB S = true) : ∀ (N e : Nat), e + N = (hel S).length → ∀ (f : Nat → Nat → Int32) (B : Nat → Option Nat) (z2 z3 z4 z5 : Option jm_V), (∀ q, q ≠ m + 6 → f q = σ.1 q) → (∀ v, v < 4 → f (m + 6) v = pI (B v)) → (∀ v, hv S ≤ v → B v = some 1) → (∀ v x, B v = some x → x ≤ 30) → (∀ v, v < hv S → lstp v (LD (hel S)) none = lstp v ((LD (hel S)).drop e) (B v)) →
    J g (d + 3) 128 44 [some (aR 6 m), some (aI (nI e)), z2, z3, z4, z5] [] (f, σ.2) (jMd g σ m (stv S) S) := by
  have hM := hR.1
  have hF := hR.2.1
  have hgl := hG.2.2.2.1
  have hv4 := hG.1.2
  have h8 := hF.2.2.2.2.2.2 hb
  have hl24 := hG.el24 hb
  have hSE := (hG.2.2.2.2.2.2.1 hb).1
  have hND := (hG.2.2.2.2.2.2.1 hb).2.1
  have hMG : MG T 50 (hv S) (sp_G (hel S)) := SE_mg (hT.2.2.1 hb) hSE
  have hGl := sp_G_len (hel S)
  have hend : ∀ (f : Nat → Nat → Int32) (a : Int32), (∀ q, q ≠ m + 6 → f q = σ.1 q) → jMd g σ m a S ((f, σ.2), .inl (some (aI a))) := fun f a hf => jMd_mk hM (MF_fr hF (fun k _ => congrFun (hf m (by omega)) k)) (MD_fr hR.2.2.1 (hf _ (by omega))) (MS_fr hS (fun q a b => hf q (by omega))) hT (fun q hq => hf q (by omega))
  intro N
  induction N with
  | zero =>
    intro e he f B z2 z3 z4 z5 hf hrow hBn hB30 hrel
    have fm : f m = σ.1 m := hf m (by omega)
    have f8 : f m 8 = nI (hel S).length := (congrFun fm 8).trans h8
    rw [List.drop_of_length_le (by unfold LD; rw [List.length_map]; omega)] at hrel
    have hBv : ∀ v, v < hv S → sp_pure v (LD (hel S)) none = B v := fun v hvv => by
      rw [← lstp_pure (l := LD (hel S)) (by omega) hND (fun h => absurd rfl h)]
      exact hrel v hvv
    have no : ∀ v, B v = none → stv S = -8 := fun v h0 => by
      have hvv : v < hv S := by
        by_cases q : v < hv S
        · exact q
        · rw [hBn v (by omega)] at h0; cases h0
      unfold stv
      rw [if_neg]
      intro q
      have := bxk_at q hvv
      rw [hBv v hvv, h0] at this
      cases this
    have bad : ∀ z1 z2 z3 z4 z5 : Option jm_V, stv S = -8 → J g (d + 3) 128 149 [some (aR 6 m), z1, z2, z3, z4, z5] [] (f, σ.2) (jMd g σ m (stv S) S) := by
      intro z1 z2 z3 z4 z5 h
      rw [h]
      refine jm_run ok_M_stairs [] 90 (fun kk hk => ?_)
      conv => whnf
      exact hk _ _ _ _ (r_M_stairs_151 (hend f _ hf))
    have r0 := hrow 0 (by decide)
    have r1 := hrow 1 (by decide)
    have r2 := hrow 2 (by decide)
    have r3 := hrow 3 (by decide)
    refine jm_run ok_M_stairs [149, 152] 90 (fun kk hk => ?_)
    conv => whnf
    refine b_le f8 rfl (fun _ => ?_) (fun h => by omega)
    conv => whnf
    refine jg hM.at4 ?_
    conv => whnf
    refine ja (i := 0) rfl hM.l6 r0 ?_
    conv => whnf
    cases h0 : B 0 with
    | none =>
      refine ⟨fun _ => ?_, fun h => absurd (by decide) h⟩
      conv => whnf
      exact hk _ _ _ _ (bad _ _ _ _ _ (no 0 h0))
    | some x0 =>
      refine b_lt (a := x0) (b := 0) rfl rfl (fun h => by omega) (fun _ => ?_) (by have := hB30 0 x0 h0; omega)
      conv => whnf
      refine jg hM.at4 ?_
      conv => whnf
      refine ja (i := 1) rfl hM.l6 r1 ?_
      conv => whnf
      cases h1 : B 1 with
      | none =>
        refine ⟨fun _ => ?_, fun h => absurd (by decide) h⟩
        conv => whnf
        exact hk _ _ _ _ (bad _ _ _ _ _ (no 1 h1))
      | some x1 =>
        refine b_lt (a := x1) (b := 0) rfl rfl (fun h => by omega) (fun _ => ?_) (by have := hB30 1 x1 h1; omega)
        conv => whnf
        refine jg hM.at4 ?_
        conv => whnf
        refine ja (i := 2) rfl hM.l6 r2 ?_
        conv => whnf
        cases h2 : B 2 with
        | none =>
          refine ⟨fun _ => ?_, fun h => absurd (by decide) h⟩
          conv => whnf
          exact hk _ _ _ _ (bad _ _ _ _ _ (no 2 h2))
        | some x2 =>
          refine b_lt (a := x2) (b := 0) rfl rfl (fun h => by omega) (fun _ => ?_) (by have := hB30 2 x2 h2; omega)
          conv => whnf
          refine jg hM.at4 ?_
          conv => whnf
          refine ja (i := 3) rfl hM.l6 r3 ?_
          conv => whnf
          cases h3 : B 3 with
          | none =>
            refine ⟨fun h => absurd h (by decide), fun _ => ?_⟩
            conv => whnf
            exact hk _ _ _ _ (bad _ _ _ _ _ (no 3 h3))
          | some x3 =>
            refine b_le (a := 0) (b := x3) rfl rfl (fun _ => ?_) (fun h => by omega) (by decide) (by have := hB30 3 x3 h3; omega)
            conv => whnf
            have hsome : ∀ v, v < 4 → B v = some ((B v).getD 0) := fun v hv => by
              have : v = 0 ∨ v = 1 ∨ v = 2 ∨ v = 3 := by omega
              rcases this with q | q | q | q <;> subst q
              · rw [h0]; rfl
              · rw [h1]; rfl
              · rw [h2]; rfl
              · rw [h3]; rfl
            refine hk _ _ _ _ (c_mstC (w := fun v => (B v).getD 0) hR hG hS hT hb hf (fun v hv => ?_) (fun v hv => hB30 v _ (hsome v hv)) ?_)
            · rw [hrow v hv, hsome v hv]; rfl
            · have hk1 : bxk (hel S) (hv S) = true := List.all_eq_true.mpr (fun v hvr => by
                have hvr := List.mem_range.mp hvr
                rw [hBv v hvr, hsome v (by omega)]; rfl)
              unfold stv
              rw [if_pos hk1, ns_dec]
              refine congrArg nI ?_
              have := ns_ext (w := fun v => (B v).getD 0) (bx := bxs (hel S)) (hv S) (4 - hv S) 0 (fun x => Fst (LD (hel S)) x) (by omega) (fun u _ h2 => ?_) (fun u h1 _ => ?_)
              · rw [show hv S + (4 - hv S) = 4 by omega] at this
                exact this.symm
              · show (B u).getD 0 = bxs (hel S) u
                unfold bxs
                rw [hBv u (by omega)]
              · show (B u).getD 0 = 1
                rw [hBn u (by omega)]; rfl
  | succ N ih =>
    intro e he f B z2 z3 z4 z5 hf hrow hBn hB30 hrel
    have fm : f m = σ.1 m := hf m (by omega)
    have f8 : f m 8 = nI (hel S).length := (congrFun fm 8).trans h8
    obtain ⟨g1, g2, g3, g4⟩ := hMG.gl (i := e) (by omega)
    have hld := LD_at (els := hel S) (i := e) (by omega)
    have hmem := List.mem_of_getElem? hld
    rw [drop_cons hld] at hrel
    generalize gl (sp_G (hel S)) e = mo at g1 g3 g4 hld hmem hrel
    have h5 := sp_5_lt g3
    have inner : ∀ (n2 v : Nat), v + n2 = hv S → ∀ (f : Nat → Nat → Int32) (B : Nat → Option Nat), (∀ q, q ≠ m + 6 → f q = σ.1 q) → (∀ v, v < 4 → f (m + 6) v = pI (B v)) → (∀ v, hv S ≤ v → B v = some 1) → (∀ v x, B v = some x → x ≤ 30) → (∀ u, u < hv S → lstp u (LD (hel S)) none = lstp u ((LD (hel S)).drop (e + 1)) (if u < v then B u else psl u (B u) mo)) →
        J g (d + 3) 128 69 [some (aR 6 m), some (aI (nI e)), some (aI (sp_d mo)), some (aI (nI v)), z4, z5] [] (f, σ.2) (jMd g σ m (stv S) S) := by
      intro n2
      induction n2 with
      | zero =>
        intro v hvn f B hf hrow hBn hB30 hrel
        have f0 : f m 0 = nI (hv S) := (congrFun (hf m (by omega)) 0).trans hF.1
        refine jm_run ok_M_stairs [44] 90 (fun kk hk => ?_)
        conv => whnf
        refine b_le f0 rfl (fun _ => ?_) (fun h => by omega)
        conv => whnf
        rw [nI_1]
        exact hk _ _ _ _ (ih (e + 1) (by omega) f B _ _ _ _ hf hrow hBn hB30 (fun u hu => by rw [hrel u hu, if_pos (by omega)]))
      | succ n2 ih2 =>
        intro v hvn f B hf hrow hBn hB30 hrel
        have f0 : f m 0 = nI (hv S) := (congrFun (hf m (by omega)) 0).trans hF.1
        have hex := sp_ok_ex g3 v
        have hpo := pvp_ok (v := v) (e := sp_ex mo v) (by omega) hex
        have h5p := sp_5_lt hpo
        refine jm_run ok_M_stairs [69] 90 (fun kk hk => ?_)
        conv => whnf
        refine b_le f0 rfl (fun h => by omega) (fun _ => ?_)
        conv => whnf
        refine hk _ _ _ _ (k_M_stairs_80 rfl (c_mexp g3 (by omega)) (fun u hu => ?_))
        subst hu
        show J g (d + 3) 128 83 _ _ (f, σ.2) _
        refine jm_run ok_M_stairs [69] 90 (fun kk hk => ?_)
        conv => whnf
        rw [pvp_d (by omega) hex]
        refine b_ne (a := sp_5 mo) (b := sp_5 (pvp v (sp_ex mo v))) rfl rfl (fun hne => ?_) (fun heq => ?_)
        · have hnp : ¬ mo = pvp v (sp_ex mo v) := fun q => hne (congrArg sp_5 q)
          conv => whnf
          rw [nI_1]
          refine hk _ _ _ _ (ih2 (v + 1) (by omega) f B hf hrow hBn hB30 (fun u hu => ?_))
          rw [hrel u hu]
          by_cases q : u = v
          · subst q
            rw [if_neg (by omega), if_pos (by omega), psl_f hnp]
          · by_cases q2 : u < v
            · rw [if_pos q2, if_pos (by omega)]
            · rw [if_neg q2, if_neg (by omega)]
        · have hpp : mo = pvp v (sp_ex mo v) := sp_5_inj g3 hpo heq
          conv => whnf
          refine jg hM.at4 ?_
          conv => whnf
          refine hk _ _ _ _ (k_M_stairs_97 rfl (c_mexp g3 (by omega)) (fun u hu => ?_))
          subst hu
          show J g (d + 3) 128 100 _ _ (f, σ.2) _
          have hst : jm_wi (f, σ.2) (m + 6) v (nI (sp_ex mo v)) = ((jm_wi (f, σ.2) (m + 6) v (nI (sp_ex mo v))).1, σ.2) := rfl
          refine jm_run ok_M_stairs [69] 90 (fun kk hk => ?_)
          conv => whnf
          refine jw (i := v) rfl hM.l6 ?_
          conv => whnf
          rw [hst, nI_1]
          refine hk _ _ _ _ (ih2 (v + 1) (by omega) _ (fun u => if u = v then some (sp_ex mo v) else B u) (fun q hq => (jm_wi_q hq).trans (hf q hq)) (fun u hu => ?_) (fun u hu => ?_) (fun u x hx => ?_) (fun u hu => ?_))
          · by_cases q : u = v
            · subst q; rw [if_pos rfl]; exact jm_wi_at
            · rw [if_neg q]; exact (jm_wi_k q).trans (hrow u hu)
          · show (if u = v then some (sp_ex mo v) else B u) = some 1
            rw [if_neg (by omega)]; exact hBn u hu
          · have hx : (if u = v then some (sp_ex mo v) else B u) = some x := hx
            by_cases q : u = v
            · rw [if_pos q] at hx; cases hx; exact hex
            · rw [if_neg q] at hx; exact hB30 u x hx
          · show _ = lstp u ((LD (hel S)).drop (e + 1)) (if u < v + 1 then (if u = v then some (sp_ex mo v) else B u) else psl u (if u = v then some (sp_ex mo v) else B u) mo)
            rw [hrel u hu]
            by_cases q : u = v
            · subst q
              rw [if_neg (by omega), if_pos (by omega), if_pos rfl, psl_t hpp]
            · by_cases q2 : u < v
              · rw [if_pos q2, if_pos (by omega), if_neg q]
              · rw [if_neg q2, if_neg (by omega), if_neg q]
    refine jm_run ok_M_stairs [69] 90 (fun kk hk => ?_)
    conv => whnf
    refine b_le f8 rfl (fun h => by omega) (fun _ => ?_)
    conv => whnf
    rw [show (50 : Int32) + nI e = nI (50 + e) from nI_add 50 e]
    refine hk _ _ _ _ (k_M_stairs_57 rfl (c_mlead (σ := (f, σ.2)) hM (MS_fr hS (fun q a b => hf q (by omega))) (by omega) g2) (fun u hu => ?_))
    subst hu
    rw [g1]
    show J g (d + 3) 128 60 _ _ (f, σ.2) _
    refine jm_run ok_M_stairs [69] 90 (fun kk hk => ?_)
    conv => whnf
    refine b_ne (a := sp_5 mo) (b := 0) rfl rfl (fun _ => ?_) (fun h0 => ?_)
    · conv => whnf
      exact hk _ _ _ _ (inner (hv S) 0 (by omega) f B hf hrow hBn hB30 (fun u hu => by rw [if_neg (by omega)]; exact hrel u hu))
    · have hz : mo = sp_zm := (sp_d0 g3).mp h0
      rw [hz] at hmem
      have hs0 := stv_zm hG hmem
      conv => whnf
      refine hk _ _ _ _ (r_M_stairs_66 ?_)
      rw [hs0]
      exact hend f _ hf
theorem c_mstairs (hR : MR g σ m S) (hG : GS S) : J g (d + 3) 128 0 [some (aR 6 m), none, none, none, none, none] [] σ (jMd g σ m (op_stairs S).1 (op_stairs S).2) := by
  have hM := hR.1
  obtain ⟨T, hS, hT⟩ := id hR.2.2.2
  have hF := hR.2.1
  have hv4 := hG.1.2
  unfold op_stairs
  cases hb : hB S with
  | false =>
    rw [if_neg (by decide)]
    have h9 : σ.1 m 9 = sp_bi false := by rw [hF.2.2.2.2.1, hb]
    refine jm_run ok_M_stairs [] 90 (fun kk hk => ?_)
    conv => whnf
    refine b_nz h9 (fun h => by cases h) (fun _ => ?_)
    conv => whnf
    exact hk _ _ _ _ (r_M_stairs_9 (jMd_same hR))
  | true =>
    rw [if_pos rfl]
    show J g (d + 3) 128 0 _ _ σ (jMd g σ m (stv S) S)
    have h9 : σ.1 m 9 = sp_bi true := by rw [hF.2.2.2.2.1, hb]
    have loop : ∀ (n v : Nat), v + n = 4 → ∀ f : Nat → Nat → Int32, (∀ q, q ≠ m + 6 → f q = σ.1 q) → (∀ u, u < v → f (m + 6) u = pI (if u < hv S then none else some 1)) → J g (d + 3) 128 12 [some (aR 6 m), some (aI (nI v)), none, none, none, none] [] (f, σ.2) (jMd g σ m (stv S) S) := by
      intro n
      induction n with
      | zero =>
        intro v hvn f hf hrow
        obtain rfl : v = 4 := by omega
        refine jm_run ok_M_stairs [44] 90 (fun kk hk => ?_)
        conv => whnf
        refine b_le (a := 4) (b := 4) rfl rfl (fun _ => ?_) (fun h => by omega)
        conv => whnf
        refine hk _ _ _ _ (c_mstE hR hG hS hT hb (hel S).length 0 (by omega) f (fun u => if u < hv S then none else some 1) _ _ _ _ hf hrow (fun u hu => if_neg (by omega)) (fun u x hx => ?_) (fun u hu => ?_))
        · have hx : (if u < hv S then none else some 1) = some x := hx
          by_cases q : u < hv S
          · rw [if_pos q] at hx; cases hx
          · rw [if_neg q] at hx; cases hx; decide
        · show _ = lstp u (LD (hel S)) (if u < hv S then none else some 1)
          rw [if_pos hu]
      | succ n ih =>
        intro v hvn f hf hrow
        have f0 : f m 0 = nI (hv S) := (congrFun (hf m (by omega)) 0).trans hF.1
        have nx : ∀ x : Int32, x = pI (if v < hv S then none else some 1) → J g (d + 3) 128 35 [some (aR 6 m), some (aI (nI v)), none, none, none, none] [aI x, aI (nI v), aR 8 (m + 6)] (f, σ.2) (jMd g σ m (stv S) S) := by
          intro x hx
          have hst : jm_wi (f, σ.2) (m + 6) v x = ((jm_wi (f, σ.2) (m + 6) v x).1, σ.2) := rfl
          refine jm_run ok_M_stairs [12] 90 (fun kk hk => ?_)
          conv => whnf
          refine jw (i := v) rfl hM.l6 ?_
          conv => whnf
          rw [hst, nI_1]
          refine hk _ _ _ _ (ih (v + 1) (by omega) _ (fun q hq => (jm_wi_q hq).trans (hf q hq)) (fun u hu => ?_))
          by_cases q : u = v
          · subst q; exact jm_wi_at.trans hx
          · exact (jm_wi_k q).trans (hrow u (by omega))
        refine jm_run ok_M_stairs [35] 90 (fun kk hk => ?_)
        conv => whnf
        refine b_le (a := 4) (b := v) rfl rfl (fun h => by omega) (fun _ => ?_)
        conv => whnf
        refine jg hM.at4 ?_
        conv => whnf
        refine b_le f0 rfl (fun hc => ?_) (fun hc => ?_)
        · conv => whnf
          exact hk _ _ _ _ (nx 1 (by rw [if_neg (by omega)]; rfl))
        · conv => whnf
          exact hk _ _ _ _ (nx (-1) (by rw [if_pos (by omega)]; rfl))
    refine jm_run ok_M_stairs [12] 90 (fun kk hk => ?_)
    conv => whnf
    refine b_nz h9 (fun _ => ?_) (fun h => by cases h)
    conv => whnf
    exact hk _ _ _ _ (loop 4 0 rfl σ.1 (fun _ _ => rfl) (fun u hu => absurd hu (Nat.not_lt_zero _)))
end
