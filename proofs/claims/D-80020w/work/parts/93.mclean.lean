/-! THE MODEL: clean -/
/-- a row of elements in the slots -/
def PL5 (T : Nat → sp_P) (base sh : Nat) (l : List sp_E) : Prop := ∀ t E, l[t]? = some E → EA5 T base sh t E
def goneK (els : List sp_E) (i k : Nat) : Bool := decide (k ≠ i) && (sp_dv (gl (sp_G els) k) (gl (sp_G els) i) && (!decide (gl (sp_G els) k = gl (sp_G els) i) || decide (k < i)))
theorem sp_cmp_sym {a b : sp_M} (ha : sp_ok a) (hb : sp_ok b) (j : Nat) : 0 < sp_cmp j b a ↔ sp_cmp j a b < 0 := by
  rw [(sp_cmp_key hb ha j).1, (sp_cmp_key ha hb j).2]
/-- only slots of a basis -/
theorem mv_sl {base sh b q : Nat} (hb : b ≤ 24) (hsh : sh ≤ 8) (h : ¬ sl base sh q) : q ≠ base + b ∧ ¬ (170 + 8 * b ≤ q ∧ q < 170 + 8 * b + sh) := by
  refine ⟨fun e => h (Or.inl (by omega)), fun e => h (Or.inr (Or.inr (Or.inr ⟨by omega, by omega, by omega⟩)))⟩
section
variable {g : jm_G} {d : Nat} {σ : jm_S} {m : Nat}
def jTh5 (σ : jm_S) (m : Nat) (T : Nat → sp_P) (base sh : Nat) (els : List sp_E) : jm_O → Prop := fun u => ∃ f T', (∀ q, ¬ (m ≤ q ∧ q ≤ m + 4) → q ≠ m + 8 → f q = σ.1 q) ∧ (∀ k, k ≠ 20 → f m k = σ.1 m k) ∧ f m 20 = nI els.length ∧ MS f m T' ∧ PL5 T' base sh els ∧ (∀ q, ¬ sl base sh q → T' q = T q) ∧ u = ((f, σ.2), .inl none)
theorem c_mclean {T : Nat → sp_P} {base n j gens sh lim : Nat} {ws : Bool} {els : List sp_E} (hM : ML g σ m) (hMK : MK σ.1 m base n j gens ws sh lim) (hS : MS σ.1 m T) (hB : PL5 T base sh els) (h20 : σ.1 m 20 = nI els.length) (hSE : SE j n sh els) :
    J g (d + 3) 116 0 [some (aR 6 m), none, none, none, none] [] σ (jTh5 σ m T base sh (sp_thin j els)) := by
  obtain ⟨mC, m19, m21, m7, m22, m14, hbase, hg8, hsh, hlim⟩ := id hMK
  have hsh8 := hMK.sh8
  have hl24 := hSE.2.1
  have hGl := sp_G_len els
  have memw : ∀ (E : sp_E), E ∈ els → sp_ok (sp_ld E.1) ∧ HV n (sp_ld E.1) ∧ E.1 ≠ [] := fun E hE => ⟨sp_ld_ok (hSE.1 E hE).2.1.1, HVp_ld (hSE.2.2 E hE).2.1.1, (hSE.1 E hE).2.2⟩
  have glw : ∀ k, k < els.length → T (base + k) ≠ [] ∧ sp_ld (T (base + k)) = gl (sp_G els) k ∧ sp_ok (gl (sp_G els) k) ∧ HV n (gl (sp_G els) k) := fun k hk => by
    have gk : els[k]? = some els[k] := List.getElem?_eq_getElem hk
    have hE := hB k _ gk
    have hw := memw _ (List.mem_of_getElem? gk)
    rw [hE.1, gl_G gk]
    exact ⟨hw.2.2, rfl, hw.1, hw.2.1⟩
  -- the insertion of one element
  have sortI : ∀ (f0 : Nat → Nat → Int32), (∀ k, k ≠ 20 → f0 m k = σ.1 m k) → ∀ (acc v : List sp_E) (E : sp_E) (K : jm_O → Prop) (y1 y2 : Int32), (∀ x ∈ acc, x ∈ els) → E ∈ els → acc.length + v.length + 1 ≤ 24 → ∀ (f : Nat → Nat → Int32) (T1 : Nat → sp_P), (∀ q, ¬ (m + 1 ≤ q ∧ q ≤ m + 4) → f q = f0 q) → MS f m T1 → PL5 T1 base sh (acc.reverse ++ E :: v) →
      (∀ (f' : Nat → Nat → Int32) (T' : Nat → sp_P) (z3 z4 : Option jm_V), (∀ q, ¬ (m + 1 ≤ q ∧ q ≤ m + 4) → f' q = f0 q) → MS f' m T' → PL5 T' base sh ((sp_ei j E acc).reverse ++ v) → (∀ q, ¬ sl base sh q → T' q = T1 q) → J g (d + 3) 116 224 [some (aR 6 m), some (aI y1), some (aI y2), z3, z4] [] (f', σ.2) K) →
      ∀ z4 : Option jm_V, J g (d + 3) 116 161 [some (aR 6 m), some (aI y1), some (aI y2), some (aI (nI acc.length)), z4] [] (f, σ.2) K := by
    intro f0 hf0 acc
    induction acc with
    | nil =>
      intro v E K y1 y2 hacc hE hlen f T1 hf hS1 hP hnx z4
      refine jm_run ok_M_clean [224] 90 (fun kk hk => ?_)
      conv => whnf
      refine b_le (a := 0) (b := 0) rfl rfl (fun _ => ?_) (fun h => by omega)
      conv => whnf
      exact hk _ _ _ _ (hnx f T1 _ _ hf hS1 hP (fun _ _ => rfl))
    | cons x acc ih =>
      intro v E K y1 y2 hacc hE hlen f T1 hf hS1 hP hnx z4
      have fm : f m = f0 m := hf m (by omega)
      have f19 : f m 19 = nI base := (congrFun fm 19).trans ((hf0 19 (by decide)).trans m19)
      have f7 : f m 7 = nI gens := (congrFun fm 7).trans ((hf0 7 (by decide)).trans m7)
      have f22 : f m 22 = sp_bi ws := (congrFun fm 22).trans ((hf0 22 (by decide)).trans m22)
      have fC : MC f m n j := ⟨(congrFun fm 1).trans ((hf0 1 (by decide)).trans mC.1), (congrFun fm 2).trans ((hf0 2 (by decide)).trans mC.2.1), mC.2.2⟩
      rw [List.length_cons] at hlen
      have hxw := memw x (hacc x (List.mem_cons_self ..))
      have hEw := memw E hE
      have rl : acc.reverse.length = acc.length := List.length_reverse ..
      have hl1 : (x :: acc).reverse ++ E :: v = acc.reverse ++ x :: E :: v := by rw [List.reverse_cons, List.append_assoc]; rfl
      rw [hl1] at hP
      have gx : (acc.reverse ++ x :: E :: v)[acc.length]? = some x := by rw [List.getElem?_append_right (by omega), rl, Nat.sub_self]; rfl
      have gE : (acc.reverse ++ x :: E :: v)[acc.length + 1]? = some E := by rw [List.getElem?_append_right (by omega), rl, show acc.length + 1 - acc.length = 1 by omega]; rfl
      have hPx := hP _ _ gx
      have hPE := hP _ _ gE
      have i1 : nI base + nI (acc.length + 1) - 1 = nI (base + acc.length) := by rw [nI_add]; exact nI_pred (base + acc.length)
      refine jm_run ok_M_clean [224] 90 (fun kk hk => ?_)
      conv => whnf
      refine b_le (a := acc.length + 1) (b := 0) rfl rfl (fun h => by omega) (fun _ => ?_)
      conv => whnf
      rw [show (f, σ.2).1 m 19 = nI base from f19, show nI (x :: acc).length = nI (acc.length + 1) from rfl, i1]
      refine hk _ _ _ _ (k_M_clean_175 rfl (c_mlead (σ := (f, σ.2)) hM hS1 (by omega) (by rw [hPx.1]; exact hxw.2.2)) (fun u hu => ?_))
      subst hu
      rw [hPx.1]
      show J g (d + 3) 116 178 _ _ (f, σ.2) _
      refine jm_run ok_M_clean [224] 90 (fun kk hk => ?_)
      conv => whnf
      rw [show (f, σ.2).1 m 19 = nI base from f19, nI_add]
      refine hk _ _ _ _ (k_M_clean_185 rfl (c_mlead (σ := (f, σ.2)) hM hS1 (by omega) (by rw [hPE.1]; exact hEw.2.2)) (fun u hu => ?_))
      subst hu
      rw [hPE.1]
      refine k_M_clean_188 rfl (c_mcmp (σ := (f, σ.2)) hxw.1 hEw.1 hxw.2.1 hEw.2.1 fC) (fun u hu => ?_)
      subst hu
      show J g (d + 3) 116 191 _ _ (f, σ.2) _
      have hsym := sp_cmp_sym (j := j) hEw.1 hxw.1
      refine jm_run ok_M_clean [224] 90 (fun kk hk => ?_)
      conv => whnf
      refine sg_le (fun h => ?_) (fun h => ?_)
      · have hei : sp_ei j E (x :: acc) = E :: x :: acc := by
          unfold sp_ei
          rw [if_neg (fun q => by have := hsym.mpr q; omega)]
        conv => whnf
        refine hk _ _ _ _ (hnx f T1 _ _ hf hS1 ?_ (fun _ _ => rfl))
        rw [hei, List.reverse_cons, List.append_assoc]
        show PL5 T1 base sh ((x :: acc).reverse ++ E :: v)
        rw [hl1]
        exact hP
      · have hei : sp_ei j E (x :: acc) = x :: sp_ei j E acc := by
          conv => lhs; unfold sp_ei
          rw [if_pos (hsym.mp h)]
        conv => whnf
        refine hk _ _ _ _ (k_M_clean_198 rfl (c_mmove (σ := (f, σ.2)) (a := acc.length + 1) (b := 24) hM hS1 f19 hbase f7 hg8 f22 hsh (by omega) (by omega) hPE) (fun u hu => ?_))
        obtain ⟨f2, T2, hf2, hS2, hE2, hq2, hu⟩ := hu
        subst hu
        have f2m : f2 m = f m := hf2 m (by omega)
        have hPx2 : EA5 T2 base sh acc.length x := EA5_fr hPx (hq2 _ (by omega) (by omega)) (fun k hk => hq2 _ (by omega) (by omega))
        show J g (d + 3) 116 201 _ _ (f2, σ.2) _
        refine jm_run ok_M_clean [161] 90 (fun kk hk => ?_)
        conv => whnf
        rw [show nI (acc.length + 1) - 1 = nI acc.length from nI_pred acc.length]
        refine hk _ _ _ _ (k_M_clean_206 rfl (c_mmove (σ := (f2, σ.2)) (a := acc.length) (b := acc.length + 1) hM hS2 ((congrFun f2m 19).trans f19) hbase ((congrFun f2m 7).trans f7) hg8 ((congrFun f2m 22).trans f22) hsh (by omega) (by omega) hPx2) (fun u hu => ?_))
        obtain ⟨f3, T3, hf3, hS3, hE3, hq3, hu⟩ := hu
        subst hu
        have f3m : f3 m = f m := (hf3 m (by omega)).trans f2m
        have hE23 : EA5 T3 base sh 24 E := EA5_fr hE2 (hq3 _ (by omega) (by omega)) (fun k hk => hq3 _ (by omega) (by omega))
        show J g (d + 3) 116 209 _ _ (f3, σ.2) _
        refine jm_run ok_M_clean [161] 90 (fun kk hk => ?_)
        conv => whnf
        rw [show nI (acc.length + 1) - 1 = nI acc.length from nI_pred acc.length]
        refine hk _ _ _ _ (k_M_clean_215 rfl (c_mmove (σ := (f3, σ.2)) (a := 24) (b := acc.length) hM hS3 ((congrFun f3m 19).trans f19) hbase ((congrFun f3m 7).trans f7) hg8 ((congrFun f3m 22).trans f22) hsh (by omega) (by omega) hE23) (fun u hu => ?_))
        obtain ⟨f4, T4, hf4, hS4, hE4, hq4, hu⟩ := hu
        subst hu
        have hf40 : ∀ q, ¬ (m + 1 ≤ q ∧ q ≤ m + 4) → f4 q = f0 q := fun q hq => (hf4 q hq).trans ((hf3 q hq).trans ((hf2 q hq).trans (hf q hq)))
        have hP4 : PL5 T4 base sh (acc.reverse ++ E :: x :: v) := by
          intro t E' ht
          by_cases h1 : t < acc.length
          · rw [List.getElem?_append_left (by omega)] at ht
            have h0 := hP t E' (by rw [List.getElem?_append_left (by omega)]; exact ht)
            refine EA5_fr h0 ?_ (fun k hk => ?_)
            · rw [hq4 _ (by omega) (by omega), hq3 _ (by omega) (by omega), hq2 _ (by omega) (by omega)]
            · rw [hq4 _ (by omega) (by omega), hq3 _ (by omega) (by omega), hq2 _ (by omega) (by omega)]
          · rw [List.getElem?_append_right (by omega), rl] at ht
            by_cases h2 : t = acc.length
            · subst h2
              rw [Nat.sub_self] at ht
              cases ht
              exact hE4
            · by_cases h3 : t = acc.length + 1
              · subst h3
                rw [show acc.length + 1 - acc.length = 1 by omega] at ht
                cases ht
                exact EA5_fr hE3 (hq4 _ (by omega) (by omega)) (fun k hk => hq4 _ (by omega) (by omega))
              · obtain ⟨i, hi⟩ : ∃ i, t - acc.length = i + 2 := ⟨t - acc.length - 2, by omega⟩
                rw [hi] at ht
                have hvl := (List.getElem?_eq_some_iff.mp (show v[i]? = some E' from ht)).1
                have h0 := hP t E' (by rw [List.getElem?_append_right (by omega), rl, hi]; exact ht)
                refine EA5_fr h0 ?_ (fun k hk => ?_)
                · rw [hq4 _ (by omega) (by omega), hq3 _ (by omega) (by omega), hq2 _ (by omega) (by omega)]
                · rw [hq4 _ (by omega) (by omega), hq3 _ (by omega) (by omega), hq2 _ (by omega) (by omega)]
        show J g (d + 3) 116 218 _ _ (f4, σ.2) _
        refine jm_run ok_M_clean [161] 90 (fun kk hk => ?_)
        conv => whnf
        rw [show nI (acc.length + 1) + -1 = nI acc.length from pk_m1 acc.length]
        refine hk _ _ _ _ (ih (x :: v) E K y1 y2 (fun y hy => hacc y (List.mem_cons_of_mem _ hy)) hE (by rw [List.length_cons]; omega) f4 T4 hf40 hS4 hP4 (fun f' T' z3 z4 a1 a2 a3 a4 => hnx f' T' z3 z4 a1 a2 ?_ (fun q hq => ?_)) _)
        · rw [hei, List.reverse_cons, List.append_assoc]
          exact a3
        · have b1 := mv_sl (b := acc.length) (by omega) hsh8 hq
          have b2 := mv_sl (b := acc.length + 1) (by omega) hsh8 hq
          have b3 := mv_sl (b := 24) (by omega) hsh8 hq
          rw [a4 q hq, hq4 q b1.1 b1.2, hq3 q b2.1 b2.2, hq2 q b3.1 b3.2]
  have sortO : ∀ (f0 : Nat → Nat → Int32), (∀ q, ¬ (m ≤ q ∧ q ≤ m + 4) → q ≠ m + 8 → f0 q = σ.1 q) → (∀ k, k ≠ 20 → f0 m k = σ.1 m k) → f0 m 20 = nI (sp_thin j els).length → ∀ (r acc : List sp_E) (y1 : Int32), (∀ x ∈ acc, x ∈ els) → (∀ x ∈ r, x ∈ els) → acc.length + r.length = (sp_thin j els).length → (sp_thin j els).length ≤ 24 → sp_thin j els = (sp_eo j acc r).reverse → ∀ (f : Nat → Nat → Int32) (T1 : Nat → sp_P) (z3 z4 : Option jm_V), (∀ q, ¬ (m + 1 ≤ q ∧ q ≤ m + 4) → f q = f0 q) → MS f m T1 → PL5 T1 base sh (acc.reverse ++ r) → (∀ q, ¬ sl base sh q → T1 q = T q) →
      J g (d + 3) 116 151 [some (aR 6 m), some (aI y1), some (aI (nI acc.length)), z3, z4] [] (f, σ.2) (jTh5 σ m T base sh (sp_thin j els)) := by
    intro f0 g1 g2 g3 r
    induction r with
    | nil =>
      intro acc y1 hacc hr hlen hl24' hth f T1 z3 z4 hf hS1 hP hq
      have fm : f m = f0 m := hf m (by omega)
      rw [List.append_nil] at hP
      rw [show sp_eo j acc [] = acc from rfl] at hth
      refine jm_run ok_M_clean [] 90 (fun kk hk => ?_)
      conv => whnf
      refine b_le (a := (sp_thin j els).length) (b := acc.length) ((congrFun fm 20).trans g3) rfl (fun _ => ?_) (fun h => by rw [List.length_nil] at hlen; omega)
      conv => whnf
      refine hk _ _ _ _ (r_M_clean_230 ⟨f, T1, fun q a b => (hf q (by omega)).trans (g1 q a b), fun k hk => (congrFun fm k).trans (g2 k hk), (congrFun fm 20).trans g3, hS1, by rw [hth]; exact hP, hq, rfl⟩)
    | cons E r ih =>
      intro acc y1 hacc hr hlen hl24' hth f T1 z3 z4 hf hS1 hP hq
      have fm : f m = f0 m := hf m (by omega)
      rw [List.length_cons] at hlen
      have sI := sortI f0 g2 acc r E (jTh5 σ m T base sh (sp_thin j els)) y1 (nI acc.length) hacc (hr E (List.mem_cons_self ..)) (by omega) f T1 hf hS1 hP (fun f' T' z3 z4 a1 a2 a3 a4 => by
        have el := sp_ei_len j E acc
        refine jm_run ok_M_clean [151] 90 (fun kk hk => ?_)
        conv => whnf
        rw [nI_1, ← el]
        refine hk _ _ _ _ (ih (sp_ei j E acc) y1 (fun x hx => ?_) (fun x hx => hr x (List.mem_cons_of_mem _ hx)) (by omega) hl24' hth f' T' _ _ a1 a2 a3 (fun q hq' => (a4 q hq').trans (hq q hq')))
        rcases sp_ei_mem hx with e | e
        · rw [e]; exact hr E (List.mem_cons_self ..)
        · exact hacc x e)
      refine jm_run ok_M_clean [161] 90 (fun kk hk => ?_)
      conv => whnf
      refine b_le (a := (sp_thin j els).length) (b := acc.length) ((congrFun fm 20).trans g3) rfl (fun h => by omega) (fun _ => ?_)
      conv => whnf
      exact hk _ _ _ _ (sI _)
  have tlen : (sp_thin j els).length = (sp_kp els els.length).length := (sp_thin_perm j els).length_eq
  have kpl := sp_kp_len els els.length
  -- those that stay move up
  have keep : ∀ (f0 : Nat → Nat → Int32), (∀ q, q ≠ m + 8 → f0 q = σ.1 q) → (∀ i, i < els.length → f0 (m + 8) i = sp_bi (sp_gone els i)) → ∀ (N i : Nat), i + N = els.length → ∀ (f : Nat → Nat → Int32) (T1 : Nat → sp_P) (z3 z4 : Option jm_V), (∀ q, ¬ (m + 1 ≤ q ∧ q ≤ m + 4) → f q = f0 q) → MS f m T1 → PL5 T1 base sh (sp_kp els i) → (∀ t E, i ≤ t → els[t]? = some E → EA5 T1 base sh t E) → (∀ q, ¬ sl base sh q → T1 q = T q) →
      J g (d + 3) 116 112 [some (aR 6 m), some (aI (nI (sp_kp els i).length)), some (aI (nI i)), z3, z4] [] (f, σ.2) (jTh5 σ m T base sh (sp_thin j els)) := by
    intro f0 g1 g2 N
    induction N with
    | zero =>
      intro i hiN f T1 z3 z4 hf hS1 hP hrest hq
      obtain rfl : i = els.length := by omega
      have fm : f m = σ.1 m := (hf m (by omega)).trans (g1 m (by omega))
      have hst : jm_wi (f, σ.2) m 20 (nI (sp_kp els els.length).length) = ((jm_wi (f, σ.2) m 20 (nI (sp_kp els els.length).length)).1, σ.2) := rfl
      have Fq : ∀ q, q ≠ m → (jm_wi (f, σ.2) m 20 (nI (sp_kp els els.length).length)).1 q = f q := fun q hq => jm_wi_q hq
      have Fk : ∀ k, k ≠ 20 → (jm_wi (f, σ.2) m 20 (nI (sp_kp els els.length).length)).1 m k = σ.1 m k := fun k hk => (jm_wi_k hk).trans (congrFun fm k)
      have F20 : (jm_wi (f, σ.2) m 20 (nI (sp_kp els els.length).length)).1 m 20 = nI (sp_kp els els.length).length := jm_wi_at
      refine jm_run ok_M_clean [151] 90 (fun kk hk => ?_)
      conv => whnf
      refine b_le ((congrFun fm 20).trans h20) rfl (fun _ => ?_) (fun h => by omega)
      conv => whnf
      rw [hst]
      generalize (jm_wi (f, σ.2) m 20 (nI (sp_kp els els.length).length)).1 = F at Fq Fk F20
      have hSF : MS F m T1 := MS_fr hS1 (fun q a b => Fq q (by omega))
      have gF : ∀ q, ¬ (m ≤ q ∧ q ≤ m + 4) → q ≠ m + 8 → F q = σ.1 q := fun q a b => (Fq q (by omega)).trans ((hf q (by omega)).trans (g1 q b))
      cases hkp : sp_kp els els.length with
      | nil =>
        rw [hkp] at F20 tlen
        have ht0 : sp_thin j els = [] := List.length_eq_zero_iff.mp tlen
        refine hk _ _ _ _ ?_
        refine jm_run ok_M_clean [] 90 (fun kk hk => ?_)
        conv => whnf
        refine b_le (a := 0) (b := 1) F20 rfl (fun _ => ?_) (fun h => by omega)
        conv => whnf
        refine hk _ _ _ _ (r_M_clean_230 ⟨F, T1, gF, Fk, by rw [ht0]; exact F20, hSF, by rw [ht0]; exact fun t E h => (by cases h), hq, rfl⟩)
      | cons E r =>
        rw [hkp] at F20 tlen hP
        have hmem : ∀ x ∈ E :: r, x ∈ els := fun x hx => sp_kp_mem (Nat.le_refl _) (by rw [hkp]; exact hx)
        have hth : sp_thin j els = (sp_eo j [E] r).reverse := by unfold sp_thin; rw [hkp]; rfl
        refine hk _ _ _ _ (sortO F gF Fk (by rw [tlen]; exact F20) r [E] _ (fun x hx => ?_) (fun x hx => hmem x (List.mem_cons_of_mem _ hx)) (by rw [tlen, List.length_cons]; show 1 + r.length = r.length + 1; omega) (by rw [tlen, ← hkp]; omega) hth F T1 _ _ (fun _ _ => rfl) hSF hP hq)
        rw [List.mem_singleton] at hx
        rw [hx]
        exact hmem E (List.mem_cons_self ..)
    | succ N ih =>
      intro i hiN f T1 z3 z4 hf hS1 hP hrest hq
      have fm : f m = σ.1 m := (hf m (by omega)).trans (g1 m (by omega))
      have f8 : f (m + 8) i = sp_bi (sp_gone els i) := by rw [hf _ (by omega)]; exact g2 i (by omega)
      have gi : els[i]? = some els[i] := List.getElem?_eq_getElem (by omega)
      have hEi := hrest i _ (Nat.le_refl _) gi
      have ha0 := sp_at0_at gi
      generalize els[i] = E at gi hEi ha0
      have kl := sp_kp_len els i
      cases hgo : sp_gone els i with
      | true =>
        rw [hgo] at f8
        have hkp : sp_kp els (i + 1) = sp_kp els i := by
          conv => lhs; unfold sp_kp
          rw [if_pos hgo]
        rw [← hkp] at hP ⊢
        refine jm_run ok_M_clean [112] 90 (fun kk hk => ?_)
        conv => whnf
        refine b_le ((congrFun fm 20).trans h20) rfl (fun h => by omega) (fun _ => ?_)
        conv => whnf
        refine jg hM.goes ?_
        conv => whnf
        refine ja (i := i) rfl hM.l8 f8 ?_
        conv => whnf
        refine b_nz (b := true) rfl (fun _ => ?_) (fun h => by cases h)
        conv => whnf
        rw [nI_1]
        exact hk _ _ _ _ (ih (i + 1) (by omega) f T1 _ _ hf hS1 hP (fun t E' h1 h2 => hrest t E' (by omega) h2) hq)
      | false =>
        rw [hgo] at f8
        have hkp : sp_kp els (i + 1) = sp_kp els i ++ [E] := by
          conv => lhs; unfold sp_kp
          rw [if_neg (by rw [hgo]; decide), ha0]
        have hkl : (sp_kp els (i + 1)).length = (sp_kp els i).length + 1 := by rw [hkp, List.length_append]; rfl
        refine jm_run ok_M_clean [112] 90 (fun kk hk => ?_)
        conv => whnf
        refine b_le ((congrFun fm 20).trans h20) rfl (fun h => by omega) (fun _ => ?_)
        conv => whnf
        refine jg hM.goes ?_
        conv => whnf
        refine ja (i := i) rfl hM.l8 f8 ?_
        conv => whnf
        refine b_nz (b := false) rfl (fun h => by cases h) (fun _ => ?_)
        conv => whnf
        refine hk _ _ _ _ (k_M_clean_132 rfl (c_mmove (σ := (f, σ.2)) (a := i) (b := (sp_kp els i).length) hM hS1 ((congrFun fm 19).trans m19) hbase ((congrFun fm 7).trans m7) hg8 ((congrFun fm 22).trans m22) hsh (by omega) (by omega) hEi) (fun u hu => ?_))
        obtain ⟨f2, T2, hf2, hS2, hE2, hq2, hu⟩ := hu
        subst hu
        show J g (d + 3) 116 135 _ _ (f2, σ.2) _
        refine jm_run ok_M_clean [112] 90 (fun kk hk => ?_)
        conv => whnf
        rw [nI_1, nI_1, ← hkl]
        refine hk _ _ _ _ (ih (i + 1) (by omega) f2 T2 _ _ (fun q hq => (hf2 q hq).trans (hf q hq)) hS2 (fun t E' ht => ?_) (fun t E' h1 h2 => ?_) (fun q hq' => ?_))
        · rw [hkp] at ht
          by_cases h1 : t < (sp_kp els i).length
          · rw [List.getElem?_append_left h1] at ht
            exact EA5_fr (hP t E' ht) (hq2 _ (by omega) (by omega)) (fun k hk => hq2 _ (by omega) (by omega))
          · have hlt := (List.getElem?_eq_some_iff.mp ht).1
            rw [List.length_append] at hlt
            have hlt : t < (sp_kp els i).length + 1 := hlt
            obtain rfl : t = (sp_kp els i).length := by omega
            rw [List.getElem?_append_right (Nat.le_refl _), Nat.sub_self] at ht
            cases ht
            exact hE2
        · have := (List.getElem?_eq_some_iff.mp h2).1
          exact EA5_fr (hrest t E' (by omega) h2) (hq2 _ (by omega) (by omega)) (fun k hk => hq2 _ (by omega) (by omega))
        · have b1 := mv_sl (b := (sp_kp els i).length) (by omega) hsh8 hq'
          rw [hq2 q b1.1 b1.2]
          exact hq q hq'
  -- who goes
  have mark : ∀ (N i : Nat), i + N = els.length → ∀ (f : Nat → Nat → Int32) (z2 z3 z4 : Option jm_V), (∀ q, q ≠ m + 8 → f q = σ.1 q) → (∀ i', i' < i → f (m + 8) i' = sp_bi (sp_gone els i')) → J g (d + 3) 116 2 [some (aR 6 m), some (aI (nI i)), z2, z3, z4] [] (f, σ.2) (jTh5 σ m T base sh (sp_thin j els)) := by
    intro N
    induction N with
    | zero =>
      intro i hiN f z2 z3 z4 hf hg
      obtain rfl : i = els.length := by omega
      have fm : f m = σ.1 m := hf m (by omega)
      refine jm_run ok_M_clean [112] 90 (fun kk hk => ?_)
      conv => whnf
      refine b_le ((congrFun fm 20).trans h20) rfl (fun _ => ?_) (fun h => by omega)
      conv => whnf
      exact hk _ _ _ _ (keep f hf hg els.length 0 (by omega) f T _ _ (fun _ _ => rfl) (MS_fr hS (fun q a b => hf q (by omega))) (fun t E h => (by cases h)) (fun t E _ h => hB t E h) (fun _ _ => rfl))
    | succ N ih =>
      intro i hiN f z2 z3 z4 hf hg
      have fm : f m = σ.1 m := hf m (by omega)
      obtain ⟨li0, li1, li2, li3⟩ := glw i (by omega)
      have b1 := sp_5_lt li2
      have inner : ∀ (N2 k : Nat) (b : Bool), k + N2 = els.length → b = (List.range k).any (goneK els i) → ∀ (f : Nat → Nat → Int32) (z3 z4 : Option jm_V), (∀ q, q ≠ m + 8 → f q = σ.1 q) → (∀ i', i' < i → f (m + 8) i' = sp_bi (sp_gone els i')) → f (m + 8) i = sp_bi b → J g (d + 3) 116 19 [some (aR 6 m), some (aI (nI i)), some (aI (nI k)), z3, z4] [] (f, σ.2) (jTh5 σ m T base sh (sp_thin j els)) := by
        intro N2
        induction N2 with
        | zero =>
          intro k b hkN hb f z3 z4 hf hg hgi
          obtain rfl : k = els.length := by omega
          have fm : f m = σ.1 m := hf m (by omega)
          refine jm_run ok_M_clean [2] 90 (fun kk hk => ?_)
          conv => whnf
          refine b_le ((congrFun fm 20).trans h20) rfl (fun _ => ?_) (fun h => by omega)
          conv => whnf
          rw [nI_1]
          refine hk _ _ _ _ (ih (i + 1) (by omega) f _ _ _ hf (fun i' hi' => ?_))
          by_cases q : i' = i
          · subst q
            rw [hgi, hb]
            rfl
          · exact hg i' (by omega)
        | succ N2 ih2 =>
          intro k b hkN hb f z3 z4 hf hg hgi
          have fm : f m = σ.1 m := hf m (by omega)
          have f19 : f m 19 = nI base := (congrFun fm 19).trans m19
          have hSf : MS f m T := MS_fr hS (fun q a b => hf q (by omega))
          obtain ⟨lk0, lk1, lk2, lk3⟩ := glw k (by omega)
          have b2 := sp_5_lt lk2
          have nx : ∀ (z : Bool) (z3 z4 : Option jm_V), z = (b || goneK els i k) → J g (d + 3) 116 95 [some (aR 6 m), some (aI (nI i)), some (aI (nI k)), z3, z4] [aI (sp_bi z), aI (nI i), aR 9 (m + 8)] (f, σ.2) (jTh5 σ m T base sh (sp_thin j els)) := by
            intro z z3 z4 hz
            have hst : jm_wi (f, σ.2) (m + 8) i (sp_bi z) = ((jm_wi (f, σ.2) (m + 8) i (sp_bi z)).1, σ.2) := rfl
            refine jm_run ok_M_clean [19] 90 (fun kk hk => ?_)
            conv => whnf
            refine ⟨sp_bi_01 z, ?_⟩
            refine jw (i := i) rfl hM.l8 ?_
            conv => whnf
            rw [nI_1, hst]
            exact hk _ _ _ _ (ih2 (k + 1) z (by omega) (by rw [sp_any_s (α := Nat), ← hb, hz]) _ _ _ (fun q hq => (jm_wi_q hq).trans (hf q hq)) (fun i' hi' => (jm_wi_k (by omega)).trans (hg i' hi')) jm_wi_at)
          refine jm_run ok_M_clean [95] 90 (fun kk hk => ?_)
          conv => whnf
          refine b_le ((congrFun fm 20).trans h20) rfl (fun h => by omega) (fun _ => ?_)
          conv => whnf
          rw [show (f, σ.2).1 m 19 = nI base from f19, nI_add]
          refine hk _ _ _ _ (k_M_clean_34 rfl (c_mlead (σ := (f, σ.2)) hM hSf (by omega) lk0) (fun u hu => ?_))
          subst hu
          rw [lk1]
          show J g (d + 3) 116 37 _ _ (f, σ.2) _
          refine jm_run ok_M_clean [95] 90 (fun kk hk => ?_)
          conv => whnf
          rw [show (f, σ.2).1 m 19 = nI base from f19, nI_add]
          refine hk _ _ _ _ (k_M_clean_45 rfl (c_mlead (σ := (f, σ.2)) hM hSf (by omega) li0) (fun u hu => ?_))
          subst hu
          rw [li1]
          show J g (d + 3) 116 48 _ _ (f, σ.2) _
          refine jm_run ok_M_clean [95] 90 (fun kk hk => ?_)
          conv => whnf
          refine jg hM.goes ?_
          conv => whnf
          refine jg hM.goes ?_
          conv => whnf
          refine ja (i := i) rfl hM.l8 hgi ?_
          conv => whnf
          cases b with
          | true =>
            refine b_nz (b := true) rfl (fun _ => ?_) (fun h => by cases h)
            conv => whnf
            exact hk _ _ _ _ (nx true _ _ (Bool.true_or _).symm)
          | false =>
            have nx' : ∀ (z : Bool) (z3 z4 : Option jm_V), z = goneK els i k → J g (d + 3) 116 95 [some (aR 6 m), some (aI (nI i)), some (aI (nI k)), z3, z4] [aI (sp_bi z), aI (nI i), aR 9 (m + 8)] (f, σ.2) (jTh5 σ m T base sh (sp_thin j els)) := fun z z3 z4 hz => nx z z3 z4 (by rw [Bool.false_or]; exact hz)
            refine b_nz (b := false) rfl (fun h => by cases h) (fun _ => ?_)
            conv => whnf
            refine b_eq (a := k) (b := i) rfl rfl (fun h => ?_) (fun h1 => ?_)
            · conv => whnf
              exact hk _ _ _ _ (nx' false _ _ (by unfold goneK; rw [decide_eq_false (fun q => q h)]; rfl))
            · conv => whnf
              refine hk _ _ _ _ (k_M_clean_73 rfl (c_mdivides (σ := (f, σ.2)) lk2 li2 lk3 ((congrFun fm 1).trans mC.1) mC.2.2.1) (fun u hu => ?_))
              subst hu
              show J g (d + 3) 116 76 _ _ (f, σ.2) _
              cases hdv : sp_dv (gl (sp_G els) k) (gl (sp_G els) i) with
              | false =>
                refine jm_run ok_M_clean [95] 90 (fun kk hk => ?_)
                conv => whnf
                refine b_z (b := false) rfl (fun _ => ?_) (fun h => by cases h)
                conv => whnf
                exact hk _ _ _ _ (nx' false _ _ (by unfold goneK; rw [hdv, Bool.false_and, Bool.and_false]))
              | true =>
                have hgk : goneK els i k = (!decide (gl (sp_G els) k = gl (sp_G els) i) || decide (k < i)) := by unfold goneK; rw [hdv, decide_eq_true h1, Bool.true_and, Bool.true_and]
                refine jm_run ok_M_clean [95] 90 (fun kk hk => ?_)
                conv => whnf
                refine b_z (b := true) rfl (fun h => by cases h) (fun _ => ?_)
                conv => whnf
                refine b_ne (a := sp_5 (gl (sp_G els) k)) (b := sp_5 (gl (sp_G els) i)) rfl rfl (fun h2 => ?_) (fun h2 => ?_)
                · conv => whnf
                  exact hk _ _ _ _ (nx' true _ _ (by rw [hgk, decide_eq_false (fun q => h2 (by rw [q]))]; rfl))
                · have h2 := sp_5_inj lk2 li2 h2
                  conv => whnf
                  refine b_le (a := i) (b := k) rfl rfl (fun h3 => ?_) (fun h3 => ?_)
                  · conv => whnf
                    exact hk _ _ _ _ (nx' false _ _ (by rw [hgk, decide_eq_true h2, decide_eq_false (by omega)]; rfl))
                  · conv => whnf
                    exact hk _ _ _ _ (nx' true _ _ (by rw [hgk, decide_eq_true h3, Bool.or_true]))
      have hst : jm_wi (f, σ.2) (m + 8) i 0 = ((jm_wi (f, σ.2) (m + 8) i 0).1, σ.2) := rfl
      refine jm_run ok_M_clean [19] 90 (fun kk hk => ?_)
      conv => whnf
      refine b_le ((congrFun fm 20).trans h20) rfl (fun h => by omega) (fun _ => ?_)
      conv => whnf
      refine jg hM.goes ?_
      conv => whnf
      refine ⟨Or.inl rfl, ?_⟩
      refine jw (i := i) rfl hM.l8 ?_
      conv => whnf
      rw [hst]
      exact hk _ _ _ _ (inner els.length 0 false (by omega) rfl _ _ _ (fun q hq => (jm_wi_q hq).trans (hf q hq)) (fun i' hi' => (jm_wi_k (by omega)).trans (hg i' hi')) jm_wi_at)
  refine jm_run ok_M_clean [2] 90 (fun kk hk => ?_)
  conv => whnf
  exact hk _ _ _ _ (mark els.length 0 (by omega) σ.1 _ _ _ (fun _ _ => rfl) (fun i' h => absurd h (Nat.not_lt_zero _)))
end
