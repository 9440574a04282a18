/-! THE MODEL: sorted, order -/
theorem getq_mid {α : Type} (u : List α) (a b : α) (v : List α) (n : Nat) : (u ++ a :: b :: v)[n]? = if n = u.length then some a else if n = u.length + 1 then some b else (u ++ b :: a :: v)[n]? := by
  by_cases h1 : n = u.length
  · subst h1
    rw [if_pos rfl, List.getElem?_append_right (Nat.le_refl _), Nat.sub_self]
    rfl
  · rw [if_neg h1]
    by_cases h2 : n = u.length + 1
    · subst h2
      rw [if_pos rfl, List.getElem?_append_right (by omega), show u.length + 1 - u.length = 1 by omega]
      rfl
    · rw [if_neg h2]
      by_cases h3 : n < u.length
      · rw [List.getElem?_append_left h3, List.getElem?_append_left h3]
      · obtain ⟨k, rfl⟩ : ∃ k, n = u.length + (k + 2) := ⟨n - u.length - 2, by omega⟩
        rw [List.getElem?_append_right (by omega), List.getElem?_append_right (by omega), show u.length + (k + 2) - u.length = k + 2 by omega]
        rfl
theorem MP_swap {f W : Nat → Nat → Int32} {m p : Nat} {u v : sp_P} {x t : sp_T} (h : MP f m p (u ++ x :: t :: v)) (W4 : W (m + 4) p = f (m + 4) p) (Wr : ∀ r, r = m + 1 ∨ r = m + 2 ∨ r = m + 3 → ∀ i, W r (100 * p + i) = if i = u.length then f r (100 * p + (u.length + 1)) else if i = u.length + 1 then f r (100 * p + u.length) else f r (100 * p + i)) : MP W m p (u ++ t :: x :: v) := by
  refine ⟨W4.trans (h.1.trans (congrArg nI (by simp only [List.length_append, List.length_cons]))), fun n s hs => ?_⟩
  rw [getq_mid] at hs
  rw [Wr _ (Or.inl rfl), Wr _ (Or.inr (Or.inl rfl)), Wr _ (Or.inr (Or.inr rfl))]
  by_cases h1 : n = u.length
  · rw [if_pos h1] at hs
    cases hs
    rw [if_pos h1, if_pos h1, if_pos h1]
    exact h.2 (u.length + 1) t (by rw [getq_mid, if_neg (by omega), if_pos rfl])
  · rw [if_neg h1] at hs
    rw [if_neg h1, if_neg h1, if_neg h1]
    by_cases h2 : n = u.length + 1
    · rw [if_pos h2] at hs
      cases hs
      rw [if_pos h2, if_pos h2, if_pos h2]
      exact h.2 u.length x (by rw [getq_mid, if_pos rfl])
    · rw [if_neg h2] at hs
      rw [if_neg h2, if_neg h2, if_neg h2]
      exact h.2 n s hs
section
variable {g : jm_G} {d : Nat} {σ : jm_S} {m : Nat} {S : sp_H}
set_option maxRecDepth 8000 in
theorem c_msorted {T : Nat → sp_P} {p j n : Nat} (hM : ML g σ m) (hC : MC σ.1 m n j) (hT : MS σ.1 m T) (hp : p < 372) (hw : sp_pw (T p)) (hv : HVp n (T p)) :
    J g (d + 3) 78 0 [some (aR 6 m), some (aI (nI p)), none, none, none, none, none, none] [] σ (fun u => ∃ f, (∀ q, ¬ (m + 1 ≤ q ∧ q ≤ m + 3) → f q = σ.1 q) ∧ MS f m (tU T p (sp_sort j (T p))) ∧ u = ((f, σ.2), .inl none)) := by
  have hw1 := hw.1
  have outer : ∀ (r acc : sp_P) (f : Nat → Nat → Int32) (z3 z4 z5 z6 z7 : Option jm_V), (∀ q, ¬ (m + 1 ≤ q ∧ q ≤ m + 3) → f q = σ.1 q) → MS f m (tU T p (acc.reverse ++ r)) → (∀ s ∈ acc, sp_ok s.2.2 ∧ HV n s.2.2) → (∀ s ∈ r, sp_ok s.2.2 ∧ HV n s.2.2) → sp_so j [] (T p) = sp_so j acc r → acc.length + r.length ≤ 100 → ∀ k : Nat, (k = acc.length ∨ (r = [] ∧ acc.length ≤ k ∧ k ≤ 100)) →
      J g (d + 3) 78 2 [some (aR 6 m), some (aI (nI p)), some (aI (nI k)), z3, z4, z5, z6, z7] [] (f, σ.2) (fun u => ∃ f, (∀ q, ¬ (m + 1 ≤ q ∧ q ≤ m + 3) → f q = σ.1 q) ∧ MS f m (tU T p (sp_sort j (T p))) ∧ u = ((f, σ.2), .inl none)) := by
    intro r
    induction r with
    | nil =>
      intro acc f z3 z4 z5 z6 z7 hf hS ha hr he hlen k hkk
      have hz := hS.sz hp
      rw [tU_at, List.append_nil, List.length_reverse] at hz
      rw [List.length_nil] at hlen
      have hak : acc.length ≤ k := by rcases hkk with e | e <;> omega
      have hk1 : k ≤ 100 := by rcases hkk with e | e <;> omega
      refine jm_run ok_M_sorted [2] 90 (fun kk hk => ?_)
      conv => whnf
      refine jg hM.size ?_
      conv => whnf
      refine ja rfl hM.l4 hz ?_
      conv => whnf
      refine b_le (a := acc.length) (b := k) rfl rfl (fun _ => ?_) (fun h => by omega)
      conv => whnf
      refine hk _ _ _ _ (r_M_sorted_177 ⟨f, hf, ?_, rfl⟩)
      have : sp_sort j (T p) = acc.reverse := by unfold sp_sort; rw [he]; rfl
      rw [this]
      rw [List.append_nil] at hS
      exact hS
    | cons t r ih =>
      intro acc0 f z3 z4 z5 z6 z7 hf hS ha hr he hlen k hkk
      obtain rfl : k = acc0.length := by
        rcases hkk with e | e
        · exact e
        · cases e.1
      have ht := hr t (List.mem_cons_self ..)
      rw [List.length_cons] at hlen
      have hz := hS.sz hp
      rw [tU_at, List.length_append, List.length_reverse, List.length_cons] at hz
      have inner : ∀ (acc pas : sp_P) (f : Nat → Nat → Int32) (z4 z5 z6 z7 : Option jm_V), acc0.length = acc.length + pas.length → (∀ s ∈ acc, sp_ok s.2.2 ∧ HV n s.2.2) → (∀ q, ¬ (m + 1 ≤ q ∧ q ≤ m + 3) → f q = σ.1 q) → MS f m (tU T p (acc.reverse ++ t :: (pas ++ r))) → sp_iv j t acc0 = pas.reverse ++ sp_iv j t acc →
          J g (d + 3) 78 14 [some (aR 6 m), some (aI (nI p)), some (aI (nI acc0.length)), some (aI (nI acc.length)), z4, z5, z6, z7] [] (f, σ.2) (fun u => ∃ f, (∀ q, ¬ (m + 1 ≤ q ∧ q ≤ m + 3) → f q = σ.1 q) ∧ MS f m (tU T p (sp_sort j (T p))) ∧ u = ((f, σ.2), .inl none)) := by
        intro acc
        have done : ∀ (acc pas : sp_P) (f : Nat → Nat → Int32) (z3 z4 z5 z6 z7 : Option jm_V), acc0.length = acc.length + pas.length → (∀ q, ¬ (m + 1 ≤ q ∧ q ≤ m + 3) → f q = σ.1 q) → MS f m (tU T p (acc.reverse ++ t :: (pas ++ r))) → sp_iv j t acc0 = pas.reverse ++ t :: acc →
            J g (d + 3) 78 171 [some (aR 6 m), some (aI (nI p)), some (aI (nI acc0.length)), z3, z4, z5, z6, z7] [] (f, σ.2) (fun u => ∃ f, (∀ q, ¬ (m + 1 ≤ q ∧ q ≤ m + 3) → f q = σ.1 q) ∧ MS f m (tU T p (sp_sort j (T p))) ∧ u = ((f, σ.2), .inl none)) := by
          intro acc pas f z3 z4 z5 z6 z7 hl hf hS hiv
          have hlv : (sp_iv j t acc0).length = acc0.length + 1 := by
            rw [hiv, List.length_append, List.length_reverse, List.length_cons]; omega
          refine jm_run ok_M_sorted [2] 90 (fun kk hk => ?_)
          conv => whnf
          rw [nI_1]
          refine hk _ _ _ _ (ih (sp_iv j t acc0) f _ _ _ _ _ hf ?_ (fun s hs => ?_) (fun s hs => hr s (List.mem_cons_of_mem _ hs)) he (by omega) _ (Or.inl hlv.symm))
          · rw [hiv, List.reverse_append, List.reverse_reverse, List.reverse_cons, List.append_assoc, List.append_assoc]
            exact hS
          · rcases sp_iv_mem hs with e | e
            · subst e; exact ht
            · exact ha s e
        induction acc with
        | nil =>
          intro pas f z4 z5 z6 z7 hl ha' hf hS hiv
          refine jm_run ok_M_sorted [171] 90 (fun kk hk => ?_)
          conv => whnf
          refine b_le (a := 0) (b := 0) rfl rfl (fun _ => ?_) (fun h => by omega)
          conv => whnf
          exact hk _ _ _ _ (done [] pas f _ _ _ _ _ hl hf hS hiv)
        | cons x acc ih2 =>
          intro pas f z4 z5 z6 z7 hl ha' hf hS hiv
          rw [List.length_cons] at hl
          have hx := ha' x (List.mem_cons_self ..)
          have hSp := (hS p hp).2
          have hSl := (hS p hp).1
          rw [tU_at] at hSp hSl
          have hlr : (x :: acc).reverse ++ t :: (pas ++ r) = acc.reverse ++ x :: t :: (pas ++ r) := by rw [List.reverse_cons, List.append_assoc]; rfl
          rw [hlr] at hSp hSl
          have hrl : acc.reverse.length = acc.length := List.length_reverse
          have rx := hSp.2 acc.length x (by rw [getq_mid, if_pos hrl.symm])
          have rt := hSp.2 (acc.length + 1) t (by rw [getq_mid, if_neg (by omega), if_pos (by omega)])
          have i1 : (100 : Int32) * nI p + nI (acc.length + 1) - 1 = nI (100 * p + acc.length) := by
            rw [ix, show (1 : Int32) = nI 1 from rfl, pk_sub (by omega)]
            exact congrArg nI (by omega)
          have i0 : (100 : Int32) * nI p + nI (acc.length + 1) = nI (100 * p + (acc.length + 1)) := ix p (acc.length + 1)
          have i2 : nI (100 * p + (acc.length + 1)) - 1 = nI (100 * p + acc.length) := by
            rw [show (1 : Int32) = nI 1 from rfl, pk_sub (by omega)]
            exact congrArg nI (by omega)
          have mC : MC f m n j := ⟨(congrFun (hf m (by omega)) 1).trans hC.1, (congrFun (hf m (by omega)) 2).trans hC.2.1, hC.2.2⟩
          have hiv1 : sp_iv j t (x :: acc) = if 0 < sp_cmp j t.2.2 x.2.2 then x :: sp_iv j t acc else t :: x :: acc := rfl
          refine jm_run ok_M_sorted [14, 171] 90 (fun kk hk => ?_)
          conv => whnf
          refine b_le (a := acc.length + 1) (b := 0) rfl rfl (fun h => by omega) (fun _ => ?_)
          conv => whnf
          refine jg hM.mono ?_
          conv => whnf
          refine ja i1 hM.l3 rx.2.2 ?_
          conv => whnf
          refine jg hM.mono ?_
          conv => whnf
          refine ja i0 hM.l3 rt.2.2 ?_
          conv => whnf
          refine hk _ _ _ _ (k_M_sorted_43 rfl (c_mcmp (σ := (f, σ.2)) (d := d) hx.1 ht.1 hx.2 ht.2 mC) (fun u hu => ?_))
          subst hu
          show J g (d + 3) 78 46 _ _ (f, σ.2) _
          by_cases hc : sp_cmp j x.2.2 t.2.2 < 0
          · rw [hiv1, if_pos ((sp_cmp_sym hx.1 ht.1 j).mpr hc)] at hiv
            have hst : jm_wi (jm_wi (jm_wi (jm_wi (jm_wi (jm_wi (f, σ.2) (m + 1) (100 * p + (acc.length + 1)) (sp_i x.1)) (m + 2) (100 * p + (acc.length + 1)) (sp_i x.2.1)) (m + 3) (100 * p + (acc.length + 1)) (sp_d x.2.2)) (m + 1) (100 * p + acc.length) (sp_i t.1)) (m + 2) (100 * p + acc.length) (sp_i t.2.1)) (m + 3) (100 * p + acc.length) (sp_d t.2.2) = ((wM (wM (f, σ.2) m (100 * p + (acc.length + 1)) (sp_i x.1) (sp_i x.2.1) (sp_d x.2.2)) m (100 * p + acc.length) (sp_i t.1) (sp_i t.2.1) (sp_d t.2.2)).1, σ.2) := rfl
            have W1 : ∀ k, (wM (wM (f, σ.2) m (100 * p + (acc.length + 1)) (sp_i x.1) (sp_i x.2.1) (sp_d x.2.2)) m (100 * p + acc.length) (sp_i t.1) (sp_i t.2.1) (sp_d t.2.2)).1 (m + 1) k = if k = (100 * p + acc.length) then sp_i t.1 else if k = (100 * p + (acc.length + 1)) then sp_i x.1 else f (m + 1) k := fun k => by rw [wM_1, wM_1]
            have W2 : ∀ k, (wM (wM (f, σ.2) m (100 * p + (acc.length + 1)) (sp_i x.1) (sp_i x.2.1) (sp_d x.2.2)) m (100 * p + acc.length) (sp_i t.1) (sp_i t.2.1) (sp_d t.2.2)).1 (m + 2) k = if k = (100 * p + acc.length) then sp_i t.2.1 else if k = (100 * p + (acc.length + 1)) then sp_i x.2.1 else f (m + 2) k := fun k => by rw [wM_2, wM_2]
            have W3 : ∀ k, (wM (wM (f, σ.2) m (100 * p + (acc.length + 1)) (sp_i x.1) (sp_i x.2.1) (sp_d x.2.2)) m (100 * p + acc.length) (sp_i t.1) (sp_i t.2.1) (sp_d t.2.2)).1 (m + 3) k = if k = (100 * p + acc.length) then sp_d t.2.2 else if k = (100 * p + (acc.length + 1)) then sp_d x.2.2 else f (m + 3) k := fun k => by rw [wM_3, wM_3]
            have Wq : ∀ q, ¬ (m + 1 ≤ q ∧ q ≤ m + 3) → (wM (wM (f, σ.2) m (100 * p + (acc.length + 1)) (sp_i x.1) (sp_i x.2.1) (sp_d x.2.2)) m (100 * p + acc.length) (sp_i t.1) (sp_i t.2.1) (sp_d t.2.2)).1 q = f q := fun q hq => (wM_q (by omega)).trans (wM_q (by omega))
            refine jm_run ok_M_sorted [14] 90 (fun kk hk => ?_)
            conv => whnf
            refine sg_ge (fun h => by omega) (fun _ => ?_)
            conv => whnf
            refine jg hM.num ?_
            conv => whnf
            refine ja i0 hM.l1 rt.1 ?_
            conv => whnf
            refine jg hM.den ?_
            conv => whnf
            refine ja i0 hM.l2 rt.2.1 ?_
            conv => whnf
            refine jg hM.mono ?_
            conv => whnf
            refine ja i0 hM.l3 rt.2.2 ?_
            conv => whnf
            refine jg hM.num ?_
            conv => whnf
            refine jg hM.num ?_
            conv => whnf
            refine ja i1 hM.l1 rx.1 ?_
            conv => whnf
            refine jw i0 hM.l1 ?_
            conv => whnf
            refine jg hM.den ?_
            conv => whnf
            refine jg hM.den ?_
            conv => whnf
            refine ja i1 hM.l2 ((congrFun (jm_wi_q (by omega)) _).trans rx.2.1) ?_
            conv => whnf
            refine jw i0 hM.l2 ?_
            conv => whnf
            refine jg hM.mono ?_
            conv => whnf
            refine jg hM.mono ?_
            conv => whnf
            refine ja i1 hM.l3 ((congrFun (jm_wi_q (by omega)) _).trans ((congrFun (jm_wi_q (by omega)) _).trans rx.2.2)) ?_
            conv => whnf
            refine jw i0 hM.l3 ?_
            conv => whnf
            refine jg hM.num ?_
            conv => whnf
            refine jw i1 hM.l1 ?_
            conv => whnf
            refine jg hM.den ?_
            conv => whnf
            refine jw i1 hM.l2 ?_
            conv => whnf
            refine jg hM.mono ?_
            conv => whnf
            refine jw i1 hM.l3 ?_
            conv => whnf
            rw [show nI (x :: acc).length + -1 = nI acc.length from pk_m1 acc.length, hst]
            generalize (wM (wM (f, σ.2) m (100 * p + (acc.length + 1)) (sp_i x.1) (sp_i x.2.1) (sp_d x.2.2)) m (100 * p + acc.length) (sp_i t.1) (sp_i t.2.1) (sp_d t.2.2)).1 = V at W1 W2 W3 Wq
            have hMP : MP V m p (acc.reverse ++ t :: x :: (pas ++ r)) := by
              refine MP_swap hSp (congrFun (Wq _ (by omega)) p) (fun r hr i => ?_)
              rw [hrl]
              rcases hr with e | e | e <;> subst e
              · rw [W1]
                by_cases c1 : i = acc.length
                · rw [if_pos (by omega), if_pos c1]; exact rt.1.symm
                · rw [if_neg (by omega), if_neg c1]
                  by_cases c2 : i = acc.length + 1
                  · rw [if_pos (by omega), if_pos c2]; exact rx.1.symm
                  · rw [if_neg (by omega), if_neg c2]
              · rw [W2]
                by_cases c1 : i = acc.length
                · rw [if_pos (by omega), if_pos c1]; exact rt.2.1.symm
                · rw [if_neg (by omega), if_neg c1]
                  by_cases c2 : i = acc.length + 1
                  · rw [if_pos (by omega), if_pos c2]; exact rx.2.1.symm
                  · rw [if_neg (by omega), if_neg c2]
              · rw [W3]
                by_cases c1 : i = acc.length
                · rw [if_pos (by omega), if_pos c1]; exact rt.2.2.symm
                · rw [if_neg (by omega), if_neg c1]
                  by_cases c2 : i = acc.length + 1
                  · rw [if_pos (by omega), if_pos c2]; exact rx.2.2.symm
                  · rw [if_neg (by omega), if_neg c2]
            have hMS : MS V m (tU T p (acc.reverse ++ t :: (x :: pas ++ r))) := by
              have := MS_set (l := acc.reverse ++ t :: x :: (pas ++ r)) hS (by simp only [List.length_append, List.length_cons] at hSl ⊢; omega) hMP (fun q _ => congrFun (Wq _ (by omega)) q) (fun r hr i hi => ?_)
              · rw [tU_tU] at this
                exact this
              · simp only [List.length_append, List.length_cons] at hSl
                rcases hr with e | e | e <;> subst e
                · rw [W1, if_neg (by omega), if_neg (by omega)]
                · rw [W2, if_neg (by omega), if_neg (by omega)]
                · rw [W3, if_neg (by omega), if_neg (by omega)]
            exact hk _ _ _ _ (ih2 (x :: pas) V _ _ _ _ (by rw [List.length_cons]; omega) (fun s hs => ha' s (List.mem_cons_of_mem _ hs)) (fun q hq => (Wq q hq).trans (hf q hq)) hMS (by rw [hiv, List.reverse_cons, List.append_assoc]; rfl))
          · rw [hiv1, if_neg (fun q => hc ((sp_cmp_sym hx.1 ht.1 j).mp q))] at hiv
            refine jm_run ok_M_sorted [171] 90 (fun kk hk => ?_)
            conv => whnf
            refine sg_ge (fun _ => ?_) (fun h => by omega)
            conv => whnf
            exact hk _ _ _ _ (done (x :: acc) pas f _ _ _ _ _ (by rw [List.length_cons]; omega) hf hS hiv)
      refine jm_run ok_M_sorted [14] 90 (fun kk hk => ?_)
      conv => whnf
      refine jg hM.size ?_
      conv => whnf
      refine ja rfl hM.l4 hz ?_
      conv => whnf
      refine b_le (b := acc0.length) rfl rfl (fun h => by omega) (fun _ => ?_)
      conv => whnf
      exact hk _ _ _ _ (inner acc0 [] f _ _ _ _ rfl ha hf hS rfl)
  refine jm_run ok_M_sorted [2] 90 (fun kk hk => ?_)
  conv => whnf
  cases hTp : T p with
  | nil =>
    have hT0 : MS σ.1 m (tU T p (([] : sp_P).reverse ++ [])) := by
      have := tU_self T p
      rw [hTp] at this
      rw [show ([] : sp_P).reverse ++ [] = [] from rfl, this]
      exact hT
    exact hk _ _ _ _ (outer [] [] σ.1 none none none none none (fun _ _ => rfl) hT0 (fun s hs => (by cases hs)) (fun s hs => (by cases hs)) (by rw [hTp]) (by decide) 1 (Or.inr ⟨rfl, by decide, by decide⟩))
  | cons t0 r =>
    have hT0 : MS σ.1 m (tU T p ([t0].reverse ++ r)) := by
      have := tU_self T p
      rw [hTp] at this
      rw [show [t0].reverse ++ r = t0 :: r from rfl, this]
      exact hT
    have okk : ∀ s ∈ T p, sp_ok s.2.2 ∧ HV n s.2.2 := fun s hs => ⟨(hw.2 s hs).2.2.2.2, hv s hs⟩
    rw [hTp] at okk hw1
    exact hk _ _ _ _ (outer r [t0] σ.1 none none none none none (fun _ _ => rfl) hT0 (fun s hs => by rw [List.mem_singleton.mp hs]; exact okk t0 (List.mem_cons_self ..)) (fun s hs => okk s (List.mem_cons_of_mem _ hs)) (by rw [hTp]; rfl) (by rw [List.length_cons] at hw1; show 1 + r.length ≤ 100; omega) 1 (Or.inl rfl))
/-- the first slots in another order -/
def srt (j : Nat) (T : Nat → sp_P) (p : Nat) : Nat → sp_P := fun q => if q < p then sp_sort j (T q) else T q
theorem srt_s (j : Nat) (T : Nat → sp_P) (p : Nat) : tU (srt j T p) p (sp_sort j (srt j T p p)) = srt j T (p + 1) := by
  funext q
  by_cases e : q = p
  · subst e
    rw [tU_at]
    unfold srt
    rw [if_neg (by omega), if_pos (by omega)]
  · rw [tU_ne e]
    unfold srt
    by_cases c : q < p
    · rw [if_pos c, if_pos (by omega)]
    · rw [if_neg c, if_neg (by omega)]
theorem c_morder {x : Int32} (hR : MR g σ m S) (hG : GS S) : J g (d + 4) 77 0 [some (aR 6 m), some (aI x), none, none] [] σ (jMd g σ m (op_order S x).1 (op_order S x).2) := by
  have hM := hR.1
  obtain ⟨T, hS, hT⟩ := id hR.2.2.2
  have hF := hR.2.1
  have hgl := hG.2.2.2.1
  have hv4 := hG.1.2
  have e0 : (0 : Int32).toInt = 0 := rfl
  have e2 : (2 : Int32).toInt = 2 := rfl
  unfold op_order
  by_cases hx : 0 ≤ x.toInt ∧ x.toInt < 3
  · rw [if_pos hx]
    obtain ⟨j, hj3, rfl⟩ := vp_in_of (n := 3) (vp_in_iff.mpr hx) (by decide)
    rw [nI_clamp (by omega)]
    have hst : jm_wi σ m 2 (nI j) = ((jm_wi σ m 2 (nI j)).1, σ.2) := rfl
    have Ak : ∀ k, k ≠ 2 → (jm_wi σ m 2 (nI j)).1 m k = σ.1 m k := fun k h => jm_wi_k h
    have A2 : (jm_wi σ m 2 (nI j)).1 m 2 = nI j := jm_wi_at
    have Aq : ∀ q, q ≠ m → (jm_wi σ m 2 (nI j)).1 q = σ.1 q := fun q h => jm_wi_q h
    have go : ∀ A : Nat → Nat → Int32, (∀ k, k ≠ 2 → A m k = σ.1 m k) → A m 2 = nI j → (∀ q, q ≠ m → A q = σ.1 q) → ∀ (n p : Nat), p + n = 40 + (hgn S).length → ∀ f : Nat → Nat → Int32, (∀ q, ¬ (m + 1 ≤ q ∧ q ≤ m + 3) → f q = A q) → MS f m (srt j T p) → J g (d + 4) 77 24 [some (aR 6 m), some (aI (nI j)), some (aI (nI (hkd S))), some (aI (nI p))] [] (f, σ.2) (jMd g σ m (nI (hkd S)) (sp_ord S j)) := by
      intro A Ak A2 Aq n
      induction n with
      | zero =>
        intro p hpn f hf hSf
        have fm : f m = A m := hf m (by omega)
        have f7 : f m 7 = nI (hgn S).length := (congrFun fm 7).trans ((Ak 7 (by decide)).trans hF.2.2.2.1)
        have hst2 : jm_wi (f, σ.2) m 9 0 = ((jm_wi (f, σ.2) m 9 0).1, σ.2) := rfl
        have Bk : ∀ k, k ≠ 9 → k ≠ 2 → (jm_wi (f, σ.2) m 9 0).1 m k = σ.1 m k := fun k h h2 => (jm_wi_k h).trans ((congrFun fm k).trans (Ak k h2))
        have Bq : ∀ q, q ≠ m → (jm_wi (f, σ.2) m 9 0).1 q = f q := fun q h => jm_wi_q h
        refine jm_run ok_M_order [24] 90 (fun kk hk => ?_)
        conv => whnf
        rw [show (f, σ.2).1 m 7 = nI (hgn S).length from f7]
        refine b_le (nI_add 40 (hgn S).length) rfl (fun _ => ?_) (fun h => by omega)
        conv => whnf
        refine ⟨Or.inl rfl, ?_⟩
        conv => whnf
        rw [hst2]
        refine hk _ _ _ _ (r_M_order_52 (jMd_mk hM ⟨(Bk 0 (by decide) (by decide)).trans hF.1, (Bk 1 (by decide) (by decide)).trans hF.2.1, (jm_wi_k (by decide)).trans ((congrFun fm 2).trans A2), ?_, jm_wi_at, (Bk 10 (by decide) (by decide)).trans hF.2.2.2.2.2.1, fun hb => (by cases hb)⟩ (MD_fr (S := S) hR.2.2.1 ((Bq _ (by omega)).trans ((hf _ (by omega)).trans (Aq _ (by omega))))) (MS_fr hSf (fun q a b => Bq q (by omega))) ⟨fun k hk => ?_, fun i q hiq => ?_, fun hb => (by cases hb), fun hb => (by cases hb)⟩ (fun q hq => (Bq q (by omega)).trans ((hf q (by omega)).trans (Aq q (by omega))))))
        · show (jm_wi (f, σ.2) m 9 0).1 m 7 = nI ((hgn S).map (sp_sort j)).length
          rw [List.length_map]
          exact (Bk 7 (by decide) (by decide)).trans hF.2.2.2.1
        · show srt j T p k = ((hpl S).map (sp_sort j)).getD k []
          unfold srt
          rw [if_pos (by omega), hT.at hk, List.getD_eq_getElem?_getD, List.getElem?_map, pg_at hG hk]
          rfl
        · have hiq : ((hgn S).map (sp_sort j))[i]? = some q := hiq
          rw [List.getElem?_map] at hiq
          cases hgi : (hgn S)[i]? with
          | none => rw [hgi] at hiq; cases hiq
          | some q0 =>
            rw [hgi] at hiq
            cases hiq
            have hi := (List.getElem?_eq_some_iff.mp hgi).1
            unfold srt
            rw [if_pos (by omega), hT.2.1 i q0 hgi]
      | succ n ih =>
        intro p hpn f hf hSf
        have fm : f m = A m := hf m (by omega)
        have f7 : f m 7 = nI (hgn S).length := (congrFun fm 7).trans ((Ak 7 (by decide)).trans hF.2.2.2.1)
        have hpk : sp_pw (srt j T p p) ∧ HVp (hv S) (srt j T p p) := by
          unfold srt
          rw [if_neg (by omega)]
          by_cases h40 : p < 40
          · rw [hT.at h40]
            exact ⟨(pg_ok hG h40).1, (pg_ok hG h40).2.2⟩
          · have gi : (hgn S)[p - 40]? = some (hgn S)[p - 40] := List.getElem?_eq_getElem (by omega)
            have h1 := hT.2.1 _ _ gi
            rw [show 40 + (p - 40) = p by omega] at h1
            have h2 := hG.2.2.2.2.2.1 _ (List.mem_of_getElem? gi)
            rw [h1]
            exact ⟨h2.1, h2.2.2⟩
        refine jm_run ok_M_order [24] 90 (fun kk hk => ?_)
        conv => whnf
        rw [show (f, σ.2).1 m 7 = nI (hgn S).length from f7]
        refine b_le (nI_add 40 (hgn S).length) rfl (fun h => by omega) (fun _ => ?_)
        conv => whnf
        refine hk _ _ _ _ (k_M_order_37 rfl (c_msorted (σ := (f, σ.2)) (d := d) (n := hv S) (j := j) hM ⟨(congrFun fm 1).trans ((Ak 1 (by decide)).trans hF.2.1), (congrFun fm 2).trans A2, by omega, hj3⟩ hSf (by omega) hpk.1 hpk.2) (fun u hu => ?_))
        obtain ⟨f2, hf2, hS2, hu⟩ := hu
        subst hu
        rw [srt_s] at hS2
        show J g (d + 4) 77 40 _ _ (f2, σ.2) _
        refine jm_run ok_M_order [24] 90 (fun kk hk => ?_)
        conv => whnf
        rw [nI_1]
        exact hk _ _ _ _ (ih (p + 1) (by omega) f2 (fun q hq => (hf2 q hq).trans (hf q hq)) hS2)
    refine jm_run ok_M_order [24] 90 (fun kk hk => ?_)
    conv => whnf
    refine b_lt (a := j) (b := 0) rfl rfl (fun h => by omega) (fun _ => ?_)
    conv => whnf
    refine b_le (a := j) (b := 2) rfl rfl (fun _ => ?_) (fun h => by omega)
    conv => whnf
    rw [hF.2.2.1, hst]
    refine hk _ _ _ _ (go _ Ak A2 Aq (40 + (hgn S).length) 0 (by omega) _ (fun _ _ => rfl) ?_)
    have : srt j T 0 = T := by funext q; exact if_neg (by omega)
    rw [this]
    exact MS_fr hS (fun q a b => Aq q (by omega))
  · rw [if_neg hx]
    refine jm_run ok_M_order [24] 90 (fun kk hk => ?_)
    conv => whnf
    refine ⟨fun h1 => ?_, fun h1 => ?_⟩
    · conv => whnf
      exact hk _ _ _ _ (r_M_order_11 (jMd_same hR))
    · have q1 : ¬ x.toInt < (0 : Int32).toInt := fun q => h1 (Int32.lt_iff_toInt_lt.mpr q)
      conv => whnf
      refine ⟨fun h2 => ?_, fun h2 => ?_⟩
      · have q2 := Int32.le_iff_toInt_le.mp h2
        exact absurd ⟨by omega, by omega⟩ hx
      · conv => whnf
        exact hk _ _ _ _ (r_M_order_11 (jMd_same hR))
end
