/-! THE MODEL: lessShares, waiting pairs, isPassed -/
section
variable {g : jm_G} {d : Nat} {σ : jm_S} {m : Nat}
theorem c_mless {T : Nat → sp_P} {p k n j : Nat} {sg : Int} {qs cs : List sp_P} (hM : ML g σ m) (hC : MC σ.1 m n j) (hT : MS σ.1 m T) (hp : 150 ≤ p ∧ p < 170) (hk8 : k < 8) (hsg : sg = 1 ∨ sg = -1) (h20 : σ.1 m 20 = nI qs.length) (hl24 : qs.length ≤ 24) (hl : cs.length = qs.length)
    (hqs : ∀ i q, qs[i]? = some q → T (100 + i) = q ∧ sp_pw q ∧ HVp n q) (hcs : ∀ i q, cs[i]? = some q → T (170 + 8 * i + k) = q ∧ sp_pw q ∧ HVp n q) (hw : sp_pw (T p)) (hv : HVp n (T p)) (h11 : σ.1 m 11 = 0) :
    J g (d + 5) 115 0 [some (aR 6 m), some (aI (nI p)), some (aI (nI k)), some (aI (sp_i sg)), none, none, none] [] σ (jP σ m T p (sp_sh j sg qs cs (T p))) := by
  have outer : ∀ (N e : Nat), e + N = qs.length → ∀ (f : Nat → Nat → Int32) (l : sp_P) (z5 z6 : Option jm_V), FM σ m f → MS f m (tU T p l) → f m 11 = 0 → sp_pw l → HVp n l → sp_sh j sg qs cs (T p) = sp_sh j sg (qs.drop e) (cs.drop e) l →
      J g (d + 5) 115 3 [some (aR 6 m), some (aI (nI p)), some (aI (nI k)), some (aI (sp_i sg)), some (aI (nI e)), z5, z6] [] (f, σ.2) (jP σ m T p (sp_sh j sg qs cs (T p))) := by
    intro N
    induction N with
    | zero =>
      intro e heN f l z5 z6 hf hS f11 lw lv hO
      rw [List.drop_of_length_le (by omega), List.drop_of_length_le (by omega)] at hO
      have hO : _ = some l := hO
      have f20 : f m 20 = nI qs.length := (hf.2 20 (by decide) (by decide) (by decide)).trans h20
      refine jm_run ok_M_lessShares [] 90 (fun kk hk => ?_)
      conv => whnf
      refine b_le f20 rfl (fun _ => ?_) (fun h => by omega)
      conv => whnf
      exact hk _ _ _ _ (r_M_lessShares_104 ⟨f, l, hf, hS, Or.inl ⟨hO, f11⟩, rfl⟩)
    | succ N ih =>
      intro e heN f l z5 z6 hf hS f11 lw lv hO
      have f20 : f m 20 = nI qs.length := (hf.2 20 (by decide) (by decide) (by decide)).trans h20
      have gq : qs[e]? = some qs[e] := List.getElem?_eq_getElem (by omega)
      have gc : cs[e]? = some cs[e] := List.getElem?_eq_getElem (by omega)
      have hq := hqs e _ gq
      have hc := hcs e _ gc
      generalize qs[e] = q at gq hq
      generalize cs[e] = c at gc hc
      have hql := hq.2.1.1
      rw [drop_cons gq, drop_cons gc, sp_sh] at hO
      have qsl : ∀ (f : Nat → Nat → Int32) (l : sp_P), MS f m (tU T p l) → MP f m (100 + e) q := fun f l h => by
        have := (h (100 + e) (by omega)).2
        rw [tU_ne (by omega), hq.1] at this
        exact this
      have inner : ∀ (r : sp_P) (t : Nat), q.drop t = r → t ≤ q.length → ∀ (f : Nat → Nat → Int32) (l : sp_P) (z6 : Option jm_V), FM σ m f → MS f m (tU T p l) → f m 11 = 0 → sp_pw l → HVp n l → sp_sh j sg qs cs (T p) = (sp_st j sg c l r).bind (sp_sh j sg (qs.drop (e + 1)) (cs.drop (e + 1))) →
          J g (d + 5) 115 22 [some (aR 6 m), some (aI (nI p)), some (aI (nI k)), some (aI (sp_i sg)), some (aI (nI e)), some (aI (nI t)), z6] [] (f, σ.2) (jP σ m T p (sp_sh j sg qs cs (T p))) := by
        intro r
        induction r with
        | nil =>
          intro t ht htl f l z6 hf hS f11 lw lv hO
          have hi2 : q.length ≤ t := List.drop_eq_nil_iff.mp ht
          refine jm_run ok_M_lessShares [3] 90 (fun kk hk => ?_)
          conv => whnf
          refine jg hM.size ?_
          conv => whnf
          refine ja (nI_add 100 e) hM.l4 (qsl f l hS).1 ?_
          conv => whnf
          refine b_le rfl rfl (fun _ => ?_) (fun h => by omega)
          conv => whnf
          rw [nI_1]
          exact hk _ _ _ _ (ih (e + 1) (by omega) f l _ _ hf hS f11 lw lv hO)
        | cons tt r ih2 =>
          intro t ht htl f l z6 hf hS f11 lw lv hO
          have hti : q[t]? = some tt := by rw [← Nat.add_zero t, ← List.getElem?_drop, ht]; rfl
          have hi2 : t < q.length := (List.getElem?_eq_some_iff.mp hti).1
          have hdr : q.drop (t + 1) = r := by rw [← List.drop_drop, ht]; rfl
          have tw := sp_pw_at hq.2.1 hti
          have tv := hq.2.2 tt (List.mem_of_getElem? hti)
          have row := (qsl f l hS).2 _ _ hti
          have hcf := sp_sg_cf hsg tw
          have hTc : tU T p l (170 + 8 * e + k) = c := by rw [tU_ne (by omega)]; exact hc.1
          rw [sp_st] at hO
          refine jm_run ok_M_lessShares [3, 22] 90 (fun kk hk => ?_)
          conv => whnf
          refine jg hM.size ?_
          conv => whnf
          refine ja (nI_add 100 e) hM.l4 (qsl f l hS).1 ?_
          conv => whnf
          refine b_le rfl rfl (fun h => by omega) (fun _ => ?_)
          conv => whnf
          refine b_nz (b := false) f11 (fun h => by cases h) (fun _ => ?_)
          conv => whnf
          rw [show (100 : Int32) + nI e = nI (100 + e) from nI_add 100 e, ix]
          refine jg hM.num ?_
          conv => whnf
          refine ja rfl hM.l1 row.1 ?_
          conv => whnf
          refine jg hM.den ?_
          conv => whnf
          refine ja rfl hM.l2 row.2.1 ?_
          conv => whnf
          refine jg hM.mono ?_
          conv => whnf
          refine ja rfl hM.l3 row.2.2 ?_
          conv => whnf
          rw [sp_imul]
          refine hk _ _ _ _ (k_M_lessShares_86 rfl c_mcof (fun u hu => ?_))
          subst hu
          refine k_M_lessShares_89 rfl (c_madds (σ := (f, σ.2)) (fs := p) (gs := 170 + 8 * e + k) hM (hf.mc hC) hS (by omega) (by omega) (by omega) (by rw [tU_at]; exact lw) (by rw [tU_at]; exact lv) (by rw [hTc]; exact hc.2.1) (by rw [hTc]; exact hc.2.2) hcf tw.2.2.2.2 tv f11) (fun u hu => ?_)
          obtain ⟨f3, l3, hf3, hS3, h4, hu⟩ := hu
          subst hu
          rw [tU_tU] at hS3
          rw [tU_at, hTc] at h4
          have hfm3 := hf.trans hf3
          show J g (d + 5) 115 92 _ _ (f3, σ.2) _
          rcases h4 with ⟨h4, f311⟩ | ⟨h4, f311⟩
          · rw [h4] at hO
            refine jm_run ok_M_lessShares [3, 22] 90 (fun kk hk => ?_)
            conv => whnf
            rw [nI_1]
            exact hk _ _ _ _ (ih2 (t + 1) hdr (by omega) f3 l3 _ hfm3 hS3 f311 (sp_plus_w hcf lw hc.2.1.2 h4) (HVp_plus tv lv hc.2.2 h4) hO)
          · rw [h4] at hO
            have hO : _ = none := hO
            have f320 : f3 m 20 = nI qs.length := (hfm3.2 20 (by decide) (by decide) (by decide)).trans h20
            have hend : jP σ m T p (sp_sh j sg qs cs (T p)) ((f3, σ.2), .inl none) := ⟨f3, l3, hfm3, hS3, Or.inr ⟨hO, f311⟩, rfl⟩
            have fin : ∀ (z5 z6 : Option jm_V), J g (d + 5) 115 98 [some (aR 6 m), some (aI (nI p)), some (aI (nI k)), some (aI (sp_i sg)), some (aI (nI e)), z5, z6] [] (f3, σ.2) (jP σ m T p (sp_sh j sg qs cs (T p))) := by
              intro z5 z6
              refine jm_run ok_M_lessShares [] 90 (fun kk hk => ?_)
              conv => whnf
              rw [nI_1]
              refine b_le f320 rfl (fun _ => ?_) (fun _ => ?_)
              · conv => whnf
                exact hk _ _ _ _ (r_M_lessShares_104 hend)
              · conv => whnf
                refine b_nz (b := true) f311 (fun _ => ?_) (fun h => by cases h)
                conv => whnf
                exact hk _ _ _ _ (r_M_lessShares_104 hend)
            refine jm_run ok_M_lessShares [98] 90 (fun kk hk => ?_)
            conv => whnf
            rw [nI_1]
            refine jg hM.size ?_
            conv => whnf
            refine ja (nI_add 100 e) hM.l4 (qsl f3 l3 hS3).1 ?_
            conv => whnf
            refine b_le (b := t + 1) rfl rfl (fun _ => ?_) (fun _ => ?_)
            · conv => whnf
              exact hk _ _ _ _ (fin _ _)
            · conv => whnf
              refine b_nz (b := true) f311 (fun _ => ?_) (fun h => by cases h)
              conv => whnf
              exact hk _ _ _ _ (fin _ _)
      refine jm_run ok_M_lessShares [22] 90 (fun kk hk => ?_)
      conv => whnf
      refine b_le f20 rfl (fun h => by omega) (fun _ => ?_)
      conv => whnf
      refine b_nz (b := false) f11 (fun h => by cases h) (fun _ => ?_)
      conv => whnf
      exact hk _ _ _ _ (inner q 0 rfl (Nat.zero_le _) f l _ hf hS f11 lw lv hO)
  refine jm_run ok_M_lessShares [3] 90 (fun kk hk => ?_)
  conv => whnf
  exact hk _ _ _ _ (outer qs.length 0 (by omega) σ.1 (T p) _ _ (FM.refl σ m) (by rw [tU_self]; exact hT) h11 hw hv rfl)
/-- which pairs wait -/
def EW5 (f : Nat → Nat → Int32) (m c : Nat) (w : Nat → Nat → Bool) : Prop := ∀ i k, i < k → k < c → f (m + 7) (25 * i + k) = sp_bi (w i k)
theorem c_mapairs {c : Nat} (hM : ML g σ m) (hc : c ≤ 24) : J g d 107 0 [some (aR 6 m), some (aI (nI c)), none] [] σ (fun u => ∃ f : Nat → Nat → Int32, (∀ q, q ≠ m + 7 → f q = σ.1 q) ∧ (∀ i k, k < 25 → f (m + 7) (25 * i + k) = if k = c ∧ i < c then 1 else σ.1 (m + 7) (25 * i + k)) ∧ u = ((f, σ.2), .inl none)) := by
  have loop : ∀ N i, i + N = c → ∀ f : Nat → Nat → Int32, (∀ q, q ≠ m + 7 → f q = σ.1 q) → (∀ i' k, k < 25 → f (m + 7) (25 * i' + k) = if k = c ∧ i' < i then 1 else σ.1 (m + 7) (25 * i' + k)) → J g d 107 2 [some (aR 6 m), some (aI (nI c)), some (aI (nI i))] [] (f, σ.2) (fun u => ∃ f : Nat → Nat → Int32, (∀ q, q ≠ m + 7 → f q = σ.1 q) ∧ (∀ i k, k < 25 → f (m + 7) (25 * i + k) = if k = c ∧ i < c then 1 else σ.1 (m + 7) (25 * i + k)) ∧ u = ((f, σ.2), .inl none)) := by
    intro N
    induction N with
    | zero =>
      intro i hi f hf hw
      obtain rfl : i = c := by omega
      refine jm_run ok_M_addPairs [2] 90 (fun kk hk => ?_)
      conv => whnf
      refine b_le (a := i) (b := i) rfl rfl (fun _ => ?_) (fun h => by omega)
      conv => whnf
      exact hk _ _ _ _ (r_M_addPairs_25 ⟨f, hf, hw, rfl⟩)
    | succ N ih =>
      intro i hi f hf hw
      have hst : jm_wi (f, σ.2) (m + 7) (25 * i + c) 1 = ((jm_wi (f, σ.2) (m + 7) (25 * i + c) 1).1, σ.2) := rfl
      have hix : (25 : Int32) * nI i + nI c = nI (25 * i + c) := by rw [show (25 : Int32) * nI i = nI (25 * i) from pk_mul 25 i, nI_add]
      refine jm_run ok_M_addPairs [2] 90 (fun kk hk => ?_)
      conv => whnf
      refine b_le (a := c) (b := i) rfl rfl (fun h => by omega) (fun _ => ?_)
      conv => whnf
      refine jg hM.waits ?_
      conv => whnf
      refine ⟨Or.inr rfl, ?_⟩
      refine jw hix hM.l7 ?_
      conv => whnf
      rw [nI_1, hst]
      refine hk _ _ _ _ (ih (i + 1) (by omega) _ (fun q hq => (jm_wi_q hq).trans (hf q hq)) (fun i' k hk25 => ?_))
      rw [jm_wi_1]
      by_cases h1 : k = c ∧ i' = i
      · rw [if_pos ⟨rfl, by rw [h1.1, h1.2]⟩, if_pos (by omega)]
      · rw [if_neg (fun q => h1 (by omega))]
        show f (m + 7) (25 * i' + k) = _
        rw [hw i' k hk25]
        by_cases h2 : k = c ∧ i' < i
        · rw [if_pos h2, if_pos (by omega)]
        · rw [if_neg h2, if_neg (by omega)]
  refine jm_run ok_M_addPairs [2] 90 (fun kk hk => ?_)
  conv => whnf
  refine hk _ _ _ _ (loop c 0 (by omega) σ.1 (fun _ _ => rfl) (fun i k _ => ?_))
  rw [if_neg (by omega)]
theorem c_miswait {i k c : Nat} {w : Nat → Nat → Bool} (hM : ML g σ m) (hw : EW5 σ.1 m c w) (hc : c ≤ 24) (hi : i < c) (hkc : k < c) (hne : k ≠ i) : J g d 113 0 [some (aR 6 m), some (aI (nI k)), some (aI (nI i))] [] σ (jR σ (aI (sp_bi (sp_wt w i k)))) := by
  have hix : ∀ a b : Nat, (25 : Int32) * nI a + nI b = nI (25 * a + b) := fun a b => by rw [show (25 : Int32) * nI a = nI (25 * a) from pk_mul 25 a, nI_add]
  by_cases h : i < k
  · have e : sp_wt w i k = w i k := if_pos h
    rw [e]
    refine jm_run ok_M_isWaiting [] 90 (fun kk hk => ?_)
    conv => whnf
    refine jg hM.waits ?_
    conv => whnf
    refine b_le (a := i) (b := k) rfl rfl (fun _ => ?_) (fun h => by omega)
    conv => whnf
    refine ja (hix i k) hM.l7 (hw i k h hkc) ?_
    conv => whnf
    exact hk _ _ _ _ (r_M_isWaiting_25 (sp_bi_01 _) rfl)
  · have e : sp_wt w i k = w k i := if_neg h
    rw [e]
    refine jm_run ok_M_isWaiting [] 90 (fun kk hk => ?_)
    conv => whnf
    refine jg hM.waits ?_
    conv => whnf
    refine b_le (a := i) (b := k) rfl rfl (fun h => by omega) (fun _ => ?_)
    conv => whnf
    refine ja (hix k i) hM.l7 (hw k i (by omega) hi) ?_
    conv => whnf
    exact hk _ _ _ _ (r_M_isWaiting_25 (sp_bi_01 _) rfl)
/-- whether two monomials share no variable of the first k -/
def apk (a b : sp_M) (k : Nat) : Bool := (List.range k).all (fun v => decide (sp_ex a v = 0 ∨ sp_ex b v = 0))
theorem apk_s (a b : sp_M) (k : Nat) : apk a b (k + 1) = (apk a b k && decide (sp_ex a k = 0 ∨ sp_ex b k = 0)) := by
  unfold apk
  rw [List.range_succ, List.all_append, List.all_cons, List.all_nil, Bool.and_true]
theorem apk_HV {a b : sp_M} {n : Nat} (ha : HV n a) (hn : n ≤ 5) : apk a b n = apk a b 5 := by
  have key : ∀ k, n + k ≤ 5 → apk a b (n + k) = apk a b n := by
    intro k
    induction k with
    | zero => intro _; rfl
    | succ k ih =>
      intro hk
      rw [show n + (k + 1) = (n + k) + 1 from rfl, apk_s, ih (by omega), decide_eq_true (Or.inl (ha (n + k) (by omega) (by omega))), Bool.and_true]
  have := key (5 - n) (by omega)
  rw [show n + (5 - n) = 5 by omega] at this
  exact this.symm
theorem apart_apk {a b : sp_M} (ha : sp_ok a) (hb : sp_ok b) : sp_apart a b = apk a b 5 := by
  unfold sp_apart
  have h5 : apk a b 5 = decide ((a.1 = 0 ∨ b.1 = 0) ∧ (a.2.1 = 0 ∨ b.2.1 = 0) ∧ (a.2.2.1 = 0 ∨ b.2.2.1 = 0) ∧ (a.2.2.2.1 = 0 ∨ b.2.2.2.1 = 0) ∧ (a.2.2.2.2 = 0 ∨ b.2.2.2.2 = 0)) := by
    apply Bool.eq_iff_iff.mpr
    rw [decide_eq_true_iff]
    unfold apk
    rw [List.all_eq_true]
    constructor
    · intro h
      exact ⟨of_decide_eq_true (h 0 (by decide)), of_decide_eq_true (h 1 (by decide)), of_decide_eq_true (h 2 (by decide)), of_decide_eq_true (h 3 (by decide)), of_decide_eq_true (h 4 (by decide))⟩
    · intro h v hv
      have hv := List.mem_range.mp hv
      rcases lt5 hv with e | e | e | e | e <;> subst e
      · exact decide_eq_true h.1
      · exact decide_eq_true h.2.1
      · exact decide_eq_true h.2.2.1
      · exact decide_eq_true h.2.2.2.1
      · exact decide_eq_true h.2.2.2.2
  rw [h5]
  obtain ⟨a0, a1, a2, a3, a4⟩ := ha
  obtain ⟨b0, b1, b2, b3, b4⟩ := hb
  apply Bool.eq_iff_iff.mpr
  rw [decide_eq_true_iff, decide_eq_true_iff]
  unfold sp_6 sp_cm
  dsimp only
  omega
/-- the row of the elements in the slots -/
def MG (T : Nat → sp_P) (base n : Nat) (G : List sp_P) : Prop := ∀ i p, G[i]? = some p → T (base + i) = p ∧ sp_pw p ∧ p ≠ [] ∧ HVp n p
theorem MG.gl {T : Nat → sp_P} {base n : Nat} {G : List sp_P} (h : MG T base n G) {i : Nat} (hi : i < G.length) : sp_ld (T (base + i)) = gl G i ∧ T (base + i) ≠ [] ∧ sp_ok (gl G i) ∧ HV n (gl G i) := by
  have gi : G[i]? = some G[i] := List.getElem?_eq_getElem hi
  have h1 := h i _ gi
  rw [gl_at gi, h1.1]
  exact ⟨rfl, h1.2.2.1, sp_ld_ok h1.2.1, HVp_ld h1.2.2.2⟩
theorem c_mpass {T : Nat → sp_P} {base n j i k : Nat} {G : List sp_P} {w : Nat → Nat → Bool} (hM : ML g σ m) (hC : MC σ.1 m n j) (hT : MS σ.1 m T) (hbase : base = 50 ∨ base = 75) (h19 : σ.1 m 19 = nI base) (h20 : σ.1 m 20 = nI G.length) (hG24 : G.length ≤ 24) (hG : MG T base n G) (hw : EW5 σ.1 m G.length w) (hi : i < G.length) (hkG : k < G.length) :
    J g (d + 2) 111 0 [some (aR 6 m), some (aI (nI i)), some (aI (nI k)), some (aI (sp_d (sp_cm (gl G i) (gl G k)))), none, none, none, none] [] σ (jR σ (aI (sp_bi (sp_pass G w i k)))) := by
  obtain ⟨li1, li2, li3, li4⟩ := hG.gl hi
  obtain ⟨lk1, lk2, lk3, lk4⟩ := hG.gl hkG
  have hcok := sp_cm_ok li3 lk3
  have hn := hC.2.2.1
  have h1 := hC.1
  have second : ∀ (N t : Nat) (b : Bool), t + N = G.length → sp_pass G w i k = (b || (List.range' t N).any (sp_pk G w i k (sp_cm (gl G i) (gl G k)))) → J g (d + 2) 111 80 [some (aR 6 m), some (aI (nI i)), some (aI (nI k)), some (aI (sp_d (sp_cm (gl G i) (gl G k)))), some (aI (sp_d (gl G i))), some (aI (sp_d (gl G k))), some (aI (sp_bi b)), some (aI (nI t))] [] σ (jR σ (aI (sp_bi (sp_pass G w i k)))) := by
    intro N
    induction N with
    | zero =>
      intro t b ht hO
      rw [List.range'_zero, List.any_nil, Bool.or_false] at hO
      rw [hO]
      refine jm_run ok_M_isPassed [80] 90 (fun kk hk => ?_)
      conv => whnf
      refine b_le h20 rfl (fun _ => ?_) (fun h => by omega)
      conv => whnf
      exact hk _ _ _ _ (r_M_isPassed_160 (sp_bi_01 _) rfl)
    | succ N ih =>
      intro t b ht hO
      cases b with
      | true =>
        rw [Bool.true_or] at hO
        rw [hO]
        refine jm_run ok_M_isPassed [80] 90 (fun kk hk => ?_)
        conv => whnf
        refine b_le h20 rfl (fun h => by omega) (fun _ => ?_)
        conv => whnf
        refine b_nz (b := true) rfl (fun _ => ?_) (fun h => by cases h)
        conv => whnf
        exact hk _ _ _ _ (r_M_isPassed_160 (Or.inr rfl) rfl)
      | false =>
        rw [List.range'_succ, List.any_cons, Bool.false_or] at hO
        obtain ⟨lt1, lt2, lt3, lt4⟩ := hG.gl (i := t) (by omega)
        have hrec : ∀ z : Bool, z = sp_pk G w i k (sp_cm (gl G i) (gl G k)) t → J g (d + 2) 111 150 [some (aR 6 m), some (aI (nI i)), some (aI (nI k)), some (aI (sp_d (sp_cm (gl G i) (gl G k)))), some (aI (sp_d (gl G i))), some (aI (sp_d (gl G k))), some (aI (sp_bi false)), some (aI (nI t))] [aI (sp_bi z)] σ (jR σ (aI (sp_bi (sp_pass G w i k)))) := by
          intro z hz
          refine jm_run ok_M_isPassed [80] 90 (fun kk hk => ?_)
          conv => whnf
          rw [nI_1]
          refine hk _ _ _ _ (ih (t + 1) z (by omega) ?_)
          rw [hz]
          exact hO
        refine jm_run ok_M_isPassed [80, 150] 90 (fun kk hk => ?_)
        conv => whnf
        refine b_le h20 rfl (fun h => by omega) (fun _ => ?_)
        conv => whnf
        refine b_nz (b := false) rfl (fun h => by cases h) (fun _ => ?_)
        conv => whnf
        refine b_eq (a := t) (b := i) rfl rfl (fun h => ?_) (fun h1' => ?_)
        · conv => whnf
          exact hk _ _ _ _ (hrec false (by unfold sp_pk; rw [decide_eq_false (fun q => q h)]; rfl))
        · conv => whnf
          refine b_eq (a := t) (b := k) rfl rfl (fun h => ?_) (fun h2 => ?_)
          · conv => whnf
            exact hk _ _ _ _ (hrec false (by unfold sp_pk; rw [decide_eq_false (fun q : t ≠ k => q h), Bool.false_and, Bool.and_false]))
          · conv => whnf
            rw [h19, nI_add]
            refine hk _ _ _ _ (k_M_isPassed_115 rfl (c_mlead hM hT (by omega) lt2) (fun u hu => ?_))
            subst hu
            rw [lt1]
            show J g (d + 2) 111 118 _ _ σ _
            refine jm_run ok_M_isPassed [80, 150] 90 (fun kk hk => ?_)
            conv => whnf
            refine hk _ _ _ _ (k_M_isPassed_119 rfl (c_mdivides lt3 hcok lt4 h1 hn) (fun u hu => ?_))
            subst hu
            show J g (d + 2) 111 122 _ _ σ _
            have hpk : sp_pk G w i k (sp_cm (gl G i) (gl G k)) t = (sp_dv (gl G t) (sp_cm (gl G i) (gl G k)) && (!sp_wt w i t && !sp_wt w k t)) := by
              unfold sp_pk
              rw [decide_eq_true h1', decide_eq_true h2, Bool.true_and, Bool.true_and]
            cases hdv : sp_dv (gl G t) (sp_cm (gl G i) (gl G k)) with
            | false =>
              rw [hdv] at hpk
              refine jm_run ok_M_isPassed [80, 150] 90 (fun kk hk => ?_)
              conv => whnf
              refine b_z (b := false) rfl (fun _ => ?_) (fun h => by cases h)
              conv => whnf
              exact hk _ _ _ _ (hrec false (by rw [hpk]; rfl))
            | true =>
              rw [hdv, Bool.true_and] at hpk
              refine jm_run ok_M_isPassed [80, 150] 90 (fun kk hk => ?_)
              conv => whnf
              refine b_z (b := true) rfl (fun h => by cases h) (fun _ => ?_)
              conv => whnf
              refine hk _ _ _ _ (k_M_isPassed_129 rfl (c_miswait hM hw hG24 hi (by omega : t < G.length) h1') (fun u hu => ?_))
              subst hu
              show J g (d + 2) 111 132 _ _ σ _
              cases hw1 : sp_wt w i t with
              | true =>
                rw [hw1] at hpk
                refine jm_run ok_M_isPassed [80, 150] 90 (fun kk hk => ?_)
                conv => whnf
                refine b_nz (b := true) rfl (fun _ => ?_) (fun h => by cases h)
                conv => whnf
                exact hk _ _ _ _ (hrec false (by rw [hpk]; rfl))
              | false =>
                rw [hw1] at hpk
                refine jm_run ok_M_isPassed [80, 150] 90 (fun kk hk => ?_)
                conv => whnf
                refine b_nz (b := false) rfl (fun h => by cases h) (fun _ => ?_)
                conv => whnf
                refine hk _ _ _ _ (k_M_isPassed_139 rfl (c_miswait hM hw hG24 hkG (by omega : t < G.length) h2) (fun u hu => ?_))
                subst hu
                show J g (d + 2) 111 142 _ _ σ _
                cases hw2 : sp_wt w k t with
                | true =>
                  rw [hw2] at hpk
                  refine jm_run ok_M_isPassed [80, 150] 90 (fun kk hk => ?_)
                  conv => whnf
                  refine b_nz (b := true) rfl (fun _ => ?_) (fun h => by cases h)
                  conv => whnf
                  exact hk _ _ _ _ (hrec false (by rw [hpk]; rfl))
                | false =>
                  rw [hw2] at hpk
                  refine jm_run ok_M_isPassed [80, 150] 90 (fun kk hk => ?_)
                  conv => whnf
                  refine b_nz (b := false) rfl (fun h => by cases h) (fun _ => ?_)
                  conv => whnf
                  exact hk _ _ _ _ (hrec true (by rw [hpk]; rfl))
  have first : ∀ (N v : Nat), v + N = n → J g (d + 2) 111 30 [some (aR 6 m), some (aI (nI i)), some (aI (nI k)), some (aI (sp_d (sp_cm (gl G i) (gl G k)))), some (aI (sp_d (gl G i))), some (aI (sp_d (gl G k))), some (aI (sp_bi (apk (gl G i) (gl G k) v))), some (aI (nI v))] [] σ (jR σ (aI (sp_bi (sp_pass G w i k)))) := by
    intro N
    induction N with
    | zero =>
      intro v hv
      obtain rfl : v = n := by omega
      refine jm_run ok_M_isPassed [80] 90 (fun kk hk => ?_)
      conv => whnf
      refine b_le h1 rfl (fun _ => ?_) (fun h => by omega)
      conv => whnf
      refine hk _ _ _ _ (second G.length 0 _ (by omega) ?_)
      unfold sp_pass
      rw [apart_apk li3 lk3, apk_HV li4 hn, List.range_eq_range']
    | succ N ih =>
      intro v hv
      have ea := sp_ok_ex li3 v
      have eb := sp_ok_ex lk3 v
      have nx : ∀ z : Bool, z = apk (gl G i) (gl G k) (v + 1) → J g (d + 2) 111 69 [some (aR 6 m), some (aI (nI i)), some (aI (nI k)), some (aI (sp_d (sp_cm (gl G i) (gl G k)))), some (aI (sp_d (gl G i))), some (aI (sp_d (gl G k))), some (aI (sp_bi (apk (gl G i) (gl G k) v))), some (aI (nI v))] [aI (sp_bi z)] σ (jR σ (aI (sp_bi (sp_pass G w i k)))) := by
        intro z hz
        subst hz
        refine jm_run ok_M_isPassed [30] 90 (fun kk hk => ?_)
        conv => whnf
        rw [nI_1]
        exact hk _ _ _ _ (ih (v + 1) (by omega))
      cases hap : apk (gl G i) (gl G k) v with
      | false =>
        rw [hap] at nx
        refine jm_run ok_M_isPassed [69] 90 (fun kk hk => ?_)
        conv => whnf
        refine b_le h1 rfl (fun h => by omega) (fun _ => ?_)
        conv => whnf
        refine b_z (b := false) rfl (fun _ => ?_) (fun h => by cases h)
        conv => whnf
        exact hk _ _ _ _ (nx false (by rw [apk_s, hap]; rfl))
      | true =>
        rw [hap] at nx
        refine jm_run ok_M_isPassed [69] 90 (fun kk hk => ?_)
        conv => whnf
        refine b_le h1 rfl (fun h => by omega) (fun _ => ?_)
        conv => whnf
        refine b_z (b := true) rfl (fun h => by cases h) (fun _ => ?_)
        conv => whnf
        refine hk _ _ _ _ (k_M_isPassed_48 rfl (c_mexp li3 (by omega)) (fun u hu => ?_))
        subst hu
        show J g (d + 2) 111 51 _ _ σ _
        refine jm_run ok_M_isPassed [69] 90 (fun kk hk => ?_)
        conv => whnf
        refine b_eq (a := sp_ex (gl G i) v) (b := 0) rfl rfl (fun h0 => ?_) (fun h0 => ?_)
        · conv => whnf
          exact hk _ _ _ _ (nx true (by rw [apk_s, hap, decide_eq_true (Or.inl h0)]; rfl))
        · conv => whnf
          refine hk _ _ _ _ (k_M_isPassed_58 rfl (c_mexp lk3 (by omega)) (fun u hu => ?_))
          subst hu
          show J g (d + 2) 111 61 _ _ σ _
          refine jm_run ok_M_isPassed [69] 90 (fun kk hk => ?_)
          conv => whnf
          refine b_ne (a := sp_ex (gl G k) v) (b := 0) rfl rfl (fun h2 => ?_) (fun h2 => ?_)
          · conv => whnf
            exact hk _ _ _ _ (nx false (by rw [apk_s, hap, decide_eq_false (fun q => by omega)]; rfl))
          · conv => whnf
            exact hk _ _ _ _ (nx true (by rw [apk_s, hap, decide_eq_true (Or.inr h2)]; rfl))
  refine jm_run ok_M_isPassed [30] 90 (fun kk hk => ?_)
  conv => whnf
  rw [h19, nI_add]
  refine hk _ _ _ _ (k_M_isPassed_7 rfl (c_mlead hM hT (by omega) li2) (fun u hu => ?_))
  subst hu
  rw [li1]
  show J g (d + 2) 111 10 _ _ σ _
  refine jm_run ok_M_isPassed [30] 90 (fun kk hk => ?_)
  conv => whnf
  rw [h19, nI_add]
  refine hk _ _ _ _ (k_M_isPassed_19 rfl (c_mlead hM hT (by omega) lk2) (fun u hu => ?_))
  subst hu
  rw [lk1]
  show J g (d + 2) 111 22 _ _ σ _
  refine jm_run ok_M_isPassed [30] 90 (fun kk hk => ?_)
  conv => whnf
  exact hk _ _ _ _ (first n 0 (by omega))
end
