/-! THE MODEL: comes -/
section
variable {g : jm_G} {d : Nat} {σ : jm_S} {m : Nat}
/-- a term is taken out of a slot -/
theorem MP_rem {f : Nat → Nat → Int32} {p k n : Nat} {l : sp_P} (h4 : f (m + 4) p = nI n) (h : ∀ i t, i ≠ k → l[i]? = some t → f (m + 1) (100 * p + i) = sp_i t.1 ∧ f (m + 2) (100 * p + i) = sp_i t.2.1 ∧ f (m + 3) (100 * p + i) = sp_d t.2.2) (hk : k ≤ n) (hn : l.length = n + 1) : MP (shD f m (100 * p + k) (100 * p + n)) m p (l.eraseIdx k) := by
  refine ⟨?_, fun i s hs => ?_⟩
  · unfold shD
    rw [if_neg (by omega), h4, List.length_eraseIdx, if_pos (by omega), hn]
    rfl
  · have hil : i < (l.eraseIdx k).length := (List.getElem?_eq_some_iff.mp hs).1
    rw [List.length_eraseIdx, if_pos (by omega)] at hil
    rw [List.getElem?_eraseIdx] at hs
    have hx : ∀ q, q = m + 1 ∨ q = m + 2 ∨ q = m + 3 → shD f m (100 * p + k) (100 * p + n) q (100 * p + i) = f q (100 * p + (if i < k then i else i + 1)) := by
      intro q hq
      unfold shD
      by_cases h1 : i < k
      · rw [if_neg (by omega), if_pos h1]
      · rw [if_pos ⟨hq, by omega, by omega⟩, if_neg h1]; rfl
    rw [hx _ (Or.inl rfl), hx _ (Or.inr (Or.inl rfl)), hx _ (Or.inr (Or.inr rfl))]
    by_cases h1 : i < k
    · rw [if_pos h1] at hs ⊢
      exact h _ _ (by omega) hs
    · rw [if_neg h1] at hs ⊢
      exact h _ _ (by omega) hs
/-- a term is put into a slot -/
def insM (f : Nat → Nat → Int32) (ρ : (Nat → Nat → Nat) × (Nat × Nat)) (m p k n : Nat) (x y z : Int32) : jm_S := jm_wi (wM (shU f m (100 * p + k) (100 * p + n), ρ) m (100 * p + k) x y z) (m + 4) p (nI (n + 1))
theorem insM_r {f : Nat → Nat → Int32} {ρ : (Nat → Nat → Nat) × (Nat × Nat)} {p k n r i : Nat} {x y z : Int32} (hr : r = m + 1 ∨ r = m + 2 ∨ r = m + 3) (hi : i ≠ 100 * p + k) : (insM f ρ m p k n x y z).1 r i = shU f m (100 * p + k) (100 * p + n) r i := by
  unfold insM
  rw [jm_wi_q (by omega)]
  rcases hr with e | e | e <;> subst e
  · rw [wM_1, if_neg hi]
  · rw [wM_2, if_neg hi]
  · rw [wM_3, if_neg hi]
theorem insM_q {f : Nat → Nat → Int32} {ρ : (Nat → Nat → Nat) × (Nat × Nat)} {p k n q : Nat} {x y z : Int32} (h : ¬ (m + 1 ≤ q ∧ q ≤ m + 4)) : (insM f ρ m p k n x y z).1 q = f q := by
  unfold insM
  rw [jm_wi_q (by omega), wM_q (by omega)]
  funext i
  show shU f m (100 * p + k) (100 * p + n) q i = f q i
  unfold shU
  rw [if_neg (by omega)]
theorem insM_4 {f : Nat → Nat → Int32} {ρ : (Nat → Nat → Nat) × (Nat × Nat)} {p k n q : Nat} {x y z : Int32} : (insM f ρ m p k n x y z).1 (m + 4) q = if q = p then nI (n + 1) else f (m + 4) q := by
  unfold insM
  by_cases h : q = p
  · subst h; rw [if_pos rfl]; exact jm_wi_at
  · rw [if_neg h, jm_wi_k h, wM_q (by omega)]
    show shU f m (100 * p + k) (100 * p + n) (m + 4) q = _
    unfold shU
    rw [if_neg (by omega)]
theorem MP_ins {f : Nat → Nat → Int32} {ρ : (Nat → Nat → Nat) × (Nat × Nat)} {p k : Nat} {l : sp_P} {t : sp_T} (h : MP f m p l) (hk : k ≤ l.length) : MP (insM f ρ m p k l.length (sp_i t.1) (sp_i t.2.1) (sp_d t.2.2)).1 m p (l.insertIdx k t) := by
  refine ⟨?_, fun i s hs => ?_⟩
  · rw [insM_4, if_pos rfl, List.length_insertIdx, if_pos hk]
  · have hil : i < (l.insertIdx k t).length := (List.getElem?_eq_some_iff.mp hs).1
    rw [List.length_insertIdx, if_pos hk] at hil
    rw [List.getElem?_insertIdx] at hs
    by_cases hik : i = k
    · subst hik
      rw [if_neg (by omega), if_pos rfl, if_pos hk] at hs
      cases hs
      unfold insM
      rw [jm_wi_q (by omega), jm_wi_q (by omega), jm_wi_q (by omega), wM_1, wM_2, wM_3, if_pos rfl, if_pos rfl, if_pos rfl]
      exact ⟨rfl, rfl, rfl⟩
    · have hx : ∀ q, q = m + 1 ∨ q = m + 2 ∨ q = m + 3 → shU f m (100 * p + k) (100 * p + l.length) q (100 * p + i) = f q (100 * p + (if i < k then i else i - 1)) := by
        intro q hq
        unfold shU
        by_cases h1 : i < k
        · rw [if_neg (by omega), if_pos h1]
        · rw [if_pos ⟨hq, by omega, by omega⟩, if_neg h1, show 100 * p + i - 1 = 100 * p + (i - 1) by omega]
      rw [insM_r (Or.inl rfl) (by omega), insM_r (Or.inr (Or.inl rfl)) (by omega), insM_r (Or.inr (Or.inr rfl)) (by omega), hx _ (Or.inl rfl), hx _ (Or.inr (Or.inl rfl)), hx _ (Or.inr (Or.inr rfl))]
      by_cases h1 : i < k
      · rw [if_pos h1] at hs ⊢
        exact h.2 _ _ hs
      · rw [if_neg h1, if_neg hik] at hs
        rw [if_neg h1]
        exact h.2 _ _ hs
theorem c_mcomes1 {L : List (Option jm_V)} (h11 : σ.1 m 11 = 1) {x1 x2 x3 x4 : Int32} : J g d 86 0 [some (aR 6 m), some (aI x1), some (aI x2), some (aI x3), some (aI x4), none, none, none] [] σ (jV σ) := by
  refine jm_run ok_M_comes [] 90 (fun kk hk => ?_)
  conv => whnf
  refine b_z (b := true) h11 (fun h => by cases h) (fun _ => ?_)
  conv => whnf
  exact hk _ _ _ _ (r_M_comes_7 rfl)
set_option maxRecDepth 8000 in
theorem c_mcomes {T : Nat → sp_P} {p j n : Nat} {A B : Int} {mo : sp_M} (hM : ML g σ m) (hC : MC σ.1 m n j) (hT : MS σ.1 m T) (hp : p < 372) (hw : sp_pw (T p)) (hv : HVp n (T p)) (hA : A.natAbs ≤ 1000000000) (hB : 1 ≤ B ∧ B ≤ 1000000000) (hm : sp_ok mo) (hmv : HV n mo) (h11 : σ.1 m 11 = 0) :
    J g (d + 3) 86 0 [some (aR 6 m), some (aI (nI p)), some (aI (sp_i A)), some (aI (sp_i B)), some (aI (sp_d mo)), none, none, none] [] σ (jP σ m T p (sp_come j (T p) A B mo)) := by
  have hTp := hT p hp
  have hP := hTp.2
  have hle := sp_at_le j mo (T p)
  have hlen := hw.1
  generalize hl : T p = l at hTp hP hle hlen hw hv
  -- putting a term in
  have ins : sp_come j l A B mo = sp_ins l (sp_at j mo l) (A, (B, mo)) → ∀ z7 : Option jm_V, J g (d + 3) 86 267 [some (aR 6 m), some (aI (nI p)), some (aI (sp_i A)), some (aI (sp_i B)), some (aI (sp_d mo)), some (aI (nI (100 * p))), some (aI (nI (sp_at j mo l))), z7] [] σ (jP σ m T p (sp_come j l A B mo)) := by
    intro he z7
    by_cases h100 : l.length = 100
    · have hst : jm_wi σ m 11 1 = ((jm_wi σ m 11 1).1, σ.2) := rfl
      refine jm_run ok_M_comes [] 90 (fun kk hk => ?_)
      conv => whnf
      refine jg hM.size ?_
      conv => whnf
      refine ja rfl hM.l4 hP.1 ?_
      conv => whnf
      refine b_ne (b := 100) rfl rfl (fun q => absurd h100 q) (fun _ => ?_)
      conv => whnf
      refine ⟨Or.inr rfl, ?_⟩
      conv => whnf
      rw [hst]
      refine hk _ _ _ _ (r_M_comes_283 ⟨_, T p, ⟨fun q hq => jm_wi_q (by omega), fun k a _ _ => jm_wi_k a⟩, ?_, Or.inr ⟨by rw [he, sp_ins, if_pos h100], jm_wi_at⟩, rfl⟩)
      rw [tU_self]
      exact MS_fr hT (fun q h1 _ => jm_wi_q (by omega))
    · have last : ∀ z7 : Option jm_V, J g (d + 3) 86 371 [some (aR 6 m), some (aI (nI p)), some (aI (sp_i A)), some (aI (sp_i B)), some (aI (sp_d mo)), some (aI (nI (100 * p))), some (aI (nI (sp_at j mo l))), z7] [] (shU σ.1 m (100 * p + sp_at j mo l) (100 * p + l.length), σ.2) (jP σ m T p (sp_come j l A B mo)) := by
        intro z7
        have f4 : (jm_wi (jm_wi (jm_wi (shU σ.1 m (100 * p + sp_at j mo l) (100 * p + l.length), σ.2) (m + 1) (100 * p + sp_at j mo l) (sp_i A)) (m + 2) (100 * p + sp_at j mo l) (sp_i B)) (m + 3) (100 * p + sp_at j mo l) (sp_d mo)).1 (m + 4) p = nI l.length := by
          rw [jm_wi_q (by omega), jm_wi_q (by omega), jm_wi_q (by omega)]
          show shU σ.1 m _ _ (m + 4) p = _
          unfold shU
          rw [if_neg (by omega)]; exact hP.1
        have hst : jm_wi (jm_wi (jm_wi (jm_wi (shU σ.1 m (100 * p + sp_at j mo l) (100 * p + l.length), σ.2) (m + 1) (100 * p + sp_at j mo l) (sp_i A)) (m + 2) (100 * p + sp_at j mo l) (sp_i B)) (m + 3) (100 * p + sp_at j mo l) (sp_d mo)) (m + 4) p (nI (l.length + 1)) = ((insM σ.1 σ.2 m p (sp_at j mo l) l.length (sp_i A) (sp_i B) (sp_d mo)).1, σ.2) := rfl
        refine jm_run ok_M_comes [] 90 (fun kk hk => ?_)
        conv => whnf
        refine jg hM.num ?_
        conv => whnf
        refine jw (nI_add _ _) hM.l1 ?_
        conv => whnf
        refine jg hM.den ?_
        conv => whnf
        refine jw (nI_add _ _) hM.l2 ?_
        conv => whnf
        refine jg hM.mono ?_
        conv => whnf
        refine jw (nI_add _ _) hM.l3 ?_
        conv => whnf
        refine jg hM.size ?_
        conv => whnf
        refine ja rfl hM.l4 f4 ?_
        conv => whnf
        rw [nI_1]
        refine jw rfl hM.l4 ?_
        conv => whnf
        rw [hst]
        refine hk _ _ _ _ (r_M_comes_415 ⟨_, l.insertIdx (sp_at j mo l) (A, (B, mo)), ⟨fun q hq => insM_q (by omega), fun k _ _ _ => by rw [insM_q (by omega)]⟩, MS_set hT ?_ (MP_ins (t := (A, (B, mo))) hP hle) (fun q hq => by rw [insM_4, if_neg hq]) (fun r hr i hi => ?_), Or.inl ⟨by rw [he, sp_ins, if_neg h100], by rw [insM_q (by omega)]; exact h11⟩, rfl⟩)
        · rw [List.length_insertIdx, if_pos hle]; omega
        · rw [insM_r hr (by omega)]
          unfold shU
          rw [if_neg (by omega)]
      have loop : ∀ c i, i = sp_at j mo l + c → i ≤ l.length → J g (d + 3) 86 292 [some (aR 6 m), some (aI (nI p)), some (aI (sp_i A)), some (aI (sp_i B)), some (aI (sp_d mo)), some (aI (nI (100 * p))), some (aI (nI (sp_at j mo l))), some (aI (nI i))] [] (shU σ.1 m (100 * p + i) (100 * p + l.length), σ.2) (jP σ m T p (sp_come j l A B mo)) := by
        intro c
        induction c with
        | zero =>
          intro i hi hil
          rw [Nat.add_zero] at hi
          subst hi
          refine jm_run ok_M_comes [371] 90 (fun kk hk => ?_)
          conv => whnf
          refine b_le rfl rfl (fun _ => ?_) (fun h => by omega)
          conv => whnf
          exact hk _ _ _ _ (last _)
        | succ c ih =>
          intro i hi hil
          obtain ⟨i, rfl⟩ : ∃ i', i = i' + 1 := ⟨i - 1, by omega⟩
          have hv1 : ∀ r, r = m + 1 ∨ r = m + 2 ∨ r = m + 3 → shU σ.1 m (100 * p + (i + 1)) (100 * p + l.length) r (100 * p + i) = σ.1 r (100 * p + i) := fun r hr => by
            unfold shU
            rw [if_neg (by omega)]
          have hidx : nI (100 * p) + nI (i + 1) - 1 = nI (100 * p + i) := by rw [nI_add]; exact nI_pred (100 * p + i)
          have hstep := shU_s (f := σ.1) (r := σ.2) (a := m) (n := 100 * p + l.length) (i := 100 * p + i) (by omega)
          refine jm_run ok_M_comes [292, 371] 90 (fun kk hk => ?_)
          conv => whnf
          refine b_le rfl rfl (fun h => by omega) (fun _ => ?_)
          conv => whnf
          refine jg hM.num ?_
          conv => whnf
          refine jg hM.num ?_
          conv => whnf
          refine ja hidx hM.l1 (hv1 _ (Or.inl rfl)) ?_
          conv => whnf
          refine jw (nI_add _ _) hM.l1 ?_
          conv => whnf
          refine jg hM.den ?_
          conv => whnf
          refine jg hM.den ?_
          conv => whnf
          refine ja hidx hM.l2 ((congrFun (jm_wi_q (by omega)) _).trans (hv1 _ (Or.inr (Or.inl rfl)))) ?_
          conv => whnf
          refine jw (nI_add _ _) hM.l2 ?_
          conv => whnf
          refine jg hM.mono ?_
          conv => whnf
          refine jg hM.mono ?_
          conv => whnf
          refine ja hidx hM.l3 ((congrFun (jm_wi_q (by omega)) _).trans ((congrFun (jm_wi_q (by omega)) _).trans (hv1 _ (Or.inr (Or.inr rfl))))) ?_
          conv => whnf
          refine jw (nI_add _ _) hM.l3 ?_
          conv => whnf
          rw [show nI (i + 1) + -1 = nI i from pk_m1 i]
          refine hk _ _ _ _ ?_
          rw [show 100 * p + (i + 1) = 100 * p + i + 1 from rfl, hstep]
          exact ih i (by omega) (by omega)
      have h0 := loop (l.length - sp_at j mo l) l.length (by omega) (Nat.le_refl _)
      rw [shU_0] at h0
      refine jm_run ok_M_comes [292] 90 (fun kk hk => ?_)
      conv => whnf
      refine jg hM.size ?_
      conv => whnf
      refine ja rfl hM.l4 hP.1 ?_
      conv => whnf
      refine b_ne (b := 100) rfl rfl (fun _ => ?_) (fun q => absurd q h100)
      conv => whnf
      refine jg hM.size ?_
      conv => whnf
      refine ja rfl hM.l4 hP.1 ?_
      conv => whnf
      exact hk _ _ _ _ h0
  have tail : ∀ i, i = sp_at j mo l → J g (d + 3) 86 53 [some (aR 6 m), some (aI (nI p)), some (aI (sp_i A)), some (aI (sp_i B)), some (aI (sp_d mo)), some (aI (nI (100 * p))), some (aI (nI i)), none] [] σ (jP σ m T p (sp_come j l A B mo)) := by
    intro i hi
    subst hi
    cases ht : l[sp_at j mo l]? with
    | none =>
      have hn := List.getElem?_eq_none_iff.mp ht
      refine jm_run ok_M_comes [267] 90 (fun kk hk => ?_)
      conv => whnf
      refine jg hM.size ?_
      conv => whnf
      refine ja rfl hM.l4 hP.1 ?_
      conv => whnf
      refine b_le rfl rfl (fun _ => ?_) (fun h => by omega)
      conv => whnf
      exact hk _ _ _ _ (ins (by unfold sp_come; rw [ht]) _)
    | some t =>
      have hn := (List.getElem?_eq_some_iff.mp ht).1
      have tw := sp_pw_at hw ht
      obtain ⟨t0, t1, t2, t3, t4⟩ := tw
      have row := hP.2 _ _ ht
      have b1 := sp_5_lt t4
      have b2 := sp_5_lt hm
      refine jm_run ok_M_comes [267, 79] 90 (fun kk hk => ?_)
      conv => whnf
      refine jg hM.size ?_
      conv => whnf
      refine ja rfl hM.l4 hP.1 ?_
      conv => whnf
      refine b_le rfl rfl (fun h => by omega) (fun _ => ?_)
      conv => whnf
      refine jg hM.mono ?_
      conv => whnf
      refine ja (nI_add _ _) hM.l3 row.2.2 ?_
      conv => whnf
      refine b_ne rfl rfl (fun h => ?_) (fun h => ?_)
      · conv => whnf
        exact hk _ _ _ _ (ins (by unfold sp_come; rw [ht]; dsimp only; rw [if_neg (fun q => h (by rw [q]))]) _)
      · have hmm := sp_5_inj t4 hm h
        have he : sp_come j l A B mo = (sp_fr (t.1 * B + A * t.2.1) (t.2.1 * B)).map (sp_put l (sp_at j mo l) mo) := by unfold sp_come; rw [ht]; dsimp only; rw [if_pos hmm]
        conv => whnf
        refine hk _ _ _ _ ?_
        have m1 := sp_mulb (a := t.1) (b := B) (n := 1000000000) t1 (by omega)
        have m2 := sp_mulb (a := A) (b := t.2.1) (n := 1000000000) hA (by omega)
        have m3 := sp_mulb (a := t.2.1) (b := B) (m := 1000000000) (n := 1000000000) (by omega) (by omega)
        have m4 : 0 < t.2.1 * B := Int.mul_pos (by omega) (by omega)
        refine jm_run ok_M_comes [] 90 (fun kk hk => ?_)
        conv => whnf
        refine jg hM.num ?_
        conv => whnf
        refine ja (nI_add _ _) hM.l1 row.1 ?_
        conv => whnf
        refine jg hM.den ?_
        conv => whnf
        refine ja (nI_add _ _) hM.l2 row.2.1 ?_
        conv => whnf
        refine jg hM.den ?_
        conv => whnf
        refine ja (nI_add _ _) hM.l2 row.2.1 ?_
        conv => whnf
        rw [sp_il (by omega), sp_il (by omega), sp_il (by omega), sp_il (by omega), sp_lmul, sp_lmul, sp_lmul, sp_ladd]
        refine hk _ _ _ _ (k_M_comes_123 rfl (c_mlowest (by omega) (by omega) m4 h11) (fun u hu => ?_))
        obtain ⟨f, hf, h3, hu⟩ := hu
        subst hu
        show J g (d + 3) 86 126 _ _ (f, σ.2) _
        have hTf := hf.ms hT
        have hPf : MP f m p l := by have := (hTf p hp).2; rw [hl] at this; exact this
        rcases h3 with ⟨r, hr, f11, f16, f17⟩ | ⟨hnone, f11⟩
        · have rb := sp_fr_b (by omega) hr
          rw [hr] at he
          have he : sp_come j l A B mo = some (sp_put l (sp_at j mo l) mo r) := he
          -- the numbers are put
          have v16 : ∀ x i, (jm_wi (f, σ.2) (m + 1) i x).1 m 17 = sp_i r.2 := fun x i => (congrFun (jm_wi_q (by omega)) _).trans f17
          have hF : (jm_wi (jm_wi (f, σ.2) (m + 1) (100 * p + sp_at j mo l) (sp_i r.1)) (m + 2) (100 * p + sp_at j mo l) (sp_i r.2)) = ((jm_wi (jm_wi (f, σ.2) (m + 1) (100 * p + sp_at j mo l) (sp_i r.1)) (m + 2) (100 * p + sp_at j mo l) (sp_i r.2)).1, σ.2) := rfl
          have F1 : ∀ i, (jm_wi (jm_wi (f, σ.2) (m + 1) (100 * p + sp_at j mo l) (sp_i r.1)) (m + 2) (100 * p + sp_at j mo l) (sp_i r.2)).1 (m + 1) i = if i = 100 * p + sp_at j mo l then sp_i r.1 else f (m + 1) i := fun i => by
            rw [jm_wi_q (by omega), jm_wi_1]
            by_cases q : i = 100 * p + sp_at j mo l
            · rw [if_pos ⟨rfl, q⟩, if_pos q]
            · rw [if_neg (fun h => q h.2), if_neg q]
          have F2 : ∀ i, (jm_wi (jm_wi (f, σ.2) (m + 1) (100 * p + sp_at j mo l) (sp_i r.1)) (m + 2) (100 * p + sp_at j mo l) (sp_i r.2)).1 (m + 2) i = if i = 100 * p + sp_at j mo l then sp_i r.2 else f (m + 2) i := fun i => by
            rw [jm_wi_1, jm_wi_q (show m + 2 ≠ m + 1 by omega)]
            by_cases q : i = 100 * p + sp_at j mo l
            · rw [if_pos ⟨rfl, q⟩, if_pos q]
            · rw [if_neg (fun h => q h.2), if_neg q]
          have Fq : ∀ q, q ≠ m + 1 → q ≠ m + 2 → (jm_wi (jm_wi (f, σ.2) (m + 1) (100 * p + sp_at j mo l) (sp_i r.1)) (m + 2) (100 * p + sp_at j mo l) (sp_i r.2)).1 q = f q := fun q h1 h2 => (jm_wi_q h2).trans (jm_wi_q h1)
          refine jm_run ok_M_comes [162] 90 (fun kk hk => ?_)
          conv => whnf
          refine b_z (b := false) f11 (fun _ => ?_) (fun h => by cases h)
          conv => whnf
          refine jg hM.num ?_
          conv => whnf
          rw [show (f, σ.2).1 m 16 = sp_i r.1 from f16]
          refine jw (nI_add _ _) hM.l1 ?_
          conv => whnf
          refine jg hM.den ?_
          conv => whnf
          rw [v16]
          refine jw (nI_add _ _) hM.l2 ?_
          conv => whnf
          rw [hF]
          refine hk _ _ _ _ ?_
          generalize (jm_wi (jm_wi (f, σ.2) (m + 1) (100 * p + sp_at j mo l) (sp_i r.1)) (m + 2) (100 * p + sp_at j mo l) (sp_i r.2)).1 = F at F1 F2 Fq
          have F16 : F m 16 = sp_i r.1 := by rw [Fq m (by omega) (by omega)]; exact f16
          have Ffm : FM σ m F := ⟨fun q hq => (Fq q (by omega) (by omega)).trans (hf.1 q (by omega)), fun k a b c => by rw [Fq m (by omega) (by omega)]; exact hf.2 k a b c⟩
          by_cases h0 : r.1 = 0
          · have he : sp_come j l A B mo = some (l.eraseIdx (sp_at j mo l)) := by rw [he]; unfold sp_put; rw [if_pos h0]
            rw [he]
            obtain ⟨n', hn1⟩ : ∃ n', l.length = n' + 1 := ⟨l.length - 1, by omega⟩
            have F4 : F (m + 4) p = nI (n' + 1) := by rw [Fq _ (by omega) (by omega), hPf.1, hn1]
            have hst : jm_wi (F, σ.2) (m + 4) p (nI n') = ((jm_wi (F, σ.2) (m + 4) p (nI n')).1, σ.2) := rfl
            have G4 : (jm_wi (F, σ.2) (m + 4) p (nI n')).1 (m + 4) p = nI n' := jm_wi_at
            have G4' : ∀ q, q ≠ p → (jm_wi (F, σ.2) (m + 4) p (nI n')).1 (m + 4) q = F (m + 4) q := fun q hq => jm_wi_k hq
            have Gq : ∀ q, q ≠ m + 4 → (jm_wi (F, σ.2) (m + 4) p (nI n')).1 q = F q := fun q hq => jm_wi_q hq
            generalize (jm_wi (F, σ.2) (m + 4) p (nI n')).1 = G at hst G4 G4' Gq
            have hMP : MP (shD G m (100 * p + sp_at j mo l) (100 * p + n')) m p (l.eraseIdx (sp_at j mo l)) := MP_rem G4 (fun i t' hik hti => by
              rw [Gq _ (by omega), Gq _ (by omega), Gq _ (by omega), F1, F2, if_neg (by omega), if_neg (by omega), Fq _ (by omega) (by omega)]
              exact hPf.2 i t' hti) (by omega) hn1
            have hend : jP σ m T p (some (l.eraseIdx (sp_at j mo l))) ((shD G m (100 * p + sp_at j mo l) (100 * p + n'), σ.2), .inl none) := by
              have hsq : ∀ q, ¬ (m + 1 ≤ q ∧ q ≤ m + 3) → shD G m (100 * p + sp_at j mo l) (100 * p + n') q = G q := fun q hq => by
                funext i
                unfold shD
                rw [if_neg (by omega)]
              refine ⟨_, _, ⟨fun q hq => by rw [hsq q (by omega), Gq q (by omega)]; exact Ffm.1 q hq, fun k a b c => by rw [hsq m (by omega), Gq m (by omega)]; exact Ffm.2 k a b c⟩, MS_set hTf ?_ hMP (fun q hq => ?_) (fun r' hr' i hi => ?_), Or.inl ⟨rfl, ?_⟩, rfl⟩
              · rw [List.length_eraseIdx, if_pos hn]; omega
              · rw [hsq _ (by omega), G4' q hq, Fq _ (by omega) (by omega)]
              · unfold shD
                rw [if_neg (by omega), Gq r' (by omega)]
                rcases hr' with e | e | e <;> subst e
                · rw [F1, if_neg (by omega)]
                · rw [F2, if_neg (by omega)]
                · rw [Fq _ (by omega) (by omega)]
              · rw [hsq m (by omega), Gq m (by omega), Fq m (by omega) (by omega)]; exact f11
            have loop : ∀ c i, i + c = n' → sp_at j mo l ≤ i → J g (d + 3) 86 183 [some (aR 6 m), some (aI (nI p)), some (aI (sp_i A)), some (aI (sp_i B)), some (aI (sp_d mo)), some (aI (nI (100 * p))), some (aI (nI (sp_at j mo l))), some (aI (nI i))] [] (shD G m (100 * p + sp_at j mo l) (100 * p + i), σ.2) (jP σ m T p (some (l.eraseIdx (sp_at j mo l)))) := by
              intro c
              induction c with
              | zero =>
                intro i hi hil
                obtain rfl : i = n' := by omega
                have s4 : shD G m (100 * p + sp_at j mo l) (100 * p + i) (m + 4) p = nI i := by
                  unfold shD
                  rw [if_neg (by omega)]; exact G4
                refine jm_run ok_M_comes [183] 90 (fun kk hk => ?_)
                conv => whnf
                refine jg hM.size ?_
                conv => whnf
                refine ja rfl hM.l4 s4 ?_
                conv => whnf
                refine b_le rfl rfl (fun _ => ?_) (fun h => by omega)
                conv => whnf
                exact hk _ _ _ _ (r_M_comes_266 hend)
              | succ c ih =>
                intro i hi hil
                have s4 : shD G m (100 * p + sp_at j mo l) (100 * p + i) (m + 4) p = nI n' := by
                  unfold shD
                  rw [if_neg (by omega)]; exact G4
                have hv1 : ∀ r, r = m + 1 ∨ r = m + 2 ∨ r = m + 3 → shD G m (100 * p + sp_at j mo l) (100 * p + i) r (100 * p + i + 1) = G r (100 * p + i + 1) := fun r hr => by
                  unfold shD
                  rw [if_neg (by omega)]
                have hidx : nI (100 * p) + nI i + 1 = nI (100 * p + i + 1) := by rw [nI_add, nI_1]
                have hstep := shD_s (f := G) (r := σ.2) (a := m) (k := 100 * p + sp_at j mo l) (i := 100 * p + i) (by omega)
                refine jm_run ok_M_comes [183] 90 (fun kk hk => ?_)
                conv => whnf
                refine jg hM.size ?_
                conv => whnf
                refine ja rfl hM.l4 s4 ?_
                conv => whnf
                refine b_le rfl rfl (fun h => by omega) (fun _ => ?_)
                conv => whnf
                refine jg hM.num ?_
                conv => whnf
                refine jg hM.num ?_
                conv => whnf
                refine ja hidx hM.l1 (hv1 _ (Or.inl rfl)) ?_
                conv => whnf
                refine jw (nI_add _ _) hM.l1 ?_
                conv => whnf
                refine jg hM.den ?_
                conv => whnf
                refine jg hM.den ?_
                conv => whnf
                refine ja hidx hM.l2 ((congrFun (jm_wi_q (by omega)) _).trans (hv1 _ (Or.inr (Or.inl rfl)))) ?_
                conv => whnf
                refine jw (nI_add _ _) hM.l2 ?_
                conv => whnf
                refine jg hM.mono ?_
                conv => whnf
                refine jg hM.mono ?_
                conv => whnf
                refine ja hidx hM.l3 ((congrFun (jm_wi_q (by omega)) _).trans ((congrFun (jm_wi_q (by omega)) _).trans (hv1 _ (Or.inr (Or.inr rfl))))) ?_
                conv => whnf
                refine jw (nI_add _ _) hM.l3 ?_
                conv => whnf
                rw [nI_1]
                refine hk _ _ _ _ ?_
                rw [hstep]
                exact ih (i + 1) (by omega) (by omega)
            have h0' := loop (n' - sp_at j mo l) (sp_at j mo l) (by omega) (Nat.le_refl _)
            rw [shD_0] at h0'
            refine jm_run ok_M_comes [183] 90 (fun kk hk => ?_)
            conv => whnf
            rw [sp_i0]
            refine bi_ne F16 rfl (fun q => absurd h0 q) (fun _ => ?_)
            conv => whnf
            refine jg hM.size ?_
            conv => whnf
            refine ja rfl hM.l4 F4 ?_
            conv => whnf
            rw [show nI (n' + 1) - 1 = nI n' from nI_pred n']
            refine jw rfl hM.l4 ?_
            conv => whnf
            rw [hst]
            exact hk _ _ _ _ h0'
          · have he : sp_come j l A B mo = some (l.set (sp_at j mo l) (r.1, (r.2, mo))) := by rw [he]; unfold sp_put; rw [if_neg h0]
            rw [he]
            refine jm_run ok_M_comes [] 90 (fun kk hk => ?_)
            conv => whnf
            rw [sp_i0]
            refine bi_ne F16 rfl (fun _ => ?_) (fun q => absurd q h0)
            conv => whnf
            refine hk _ _ _ _ (r_M_comes_266 ⟨F, _, Ffm, MS_set hTf ?_ ⟨?_, fun i s hs => ?_⟩ (fun q hq => by rw [Fq _ (by omega) (by omega)]) (fun r' hr' i hi => ?_), Or.inl ⟨rfl, by rw [Fq m (by omega) (by omega)]; exact f11⟩, rfl⟩)
            · rw [List.length_set]; exact hlen
            · rw [Fq _ (by omega) (by omega), hPf.1, List.length_set]
            · rw [List.getElem?_set] at hs
              rw [F1, F2, Fq _ (by omega) (by omega)]
              by_cases hi : sp_at j mo l = i
              · subst hi
                rw [if_pos rfl, if_pos hn] at hs
                cases hs
                rw [if_pos rfl, if_pos rfl]
                refine ⟨rfl, rfl, ?_⟩
                rw [(hPf.2 _ _ ht).2.2, hmm]
              · rw [if_neg hi] at hs
                rw [if_neg (by omega), if_neg (by omega)]
                exact hPf.2 _ _ hs
            · rcases hr' with e | e | e <;> subst e
              · rw [F1, if_neg (by omega)]
              · rw [F2, if_neg (by omega)]
              · rw [Fq _ (by omega) (by omega)]
        · rw [he, hnone]
          refine jm_run ok_M_comes [] 90 (fun kk hk => ?_)
          conv => whnf
          refine b_z (b := true) f11 (fun h => by cases h) (fun _ => ?_)
          conv => whnf
          exact hk _ _ _ _ (r_M_comes_133 ⟨f, T p, hf.fm, by rw [tU_self]; exact hTf, Or.inr ⟨rfl, f11⟩, rfl⟩)
  have loop : ∀ n' i, i + n' = l.length → sp_at j mo l = i + sp_at j mo (l.drop i) → J g (d + 3) 86 17 [some (aR 6 m), some (aI (nI p)), some (aI (sp_i A)), some (aI (sp_i B)), some (aI (sp_d mo)), some (aI (nI (100 * p))), some (aI (nI i)), none] [] σ (jP σ m T p (sp_come j l A B mo)) := by
    intro n'
    induction n' with
    | zero =>
      intro i hi he
      refine jm_run ok_M_comes [17, 53] 90 (fun kk hk => ?_)
      conv => whnf
      refine jg hM.size ?_
      conv => whnf
      refine ja rfl hM.l4 hP.1 ?_
      conv => whnf
      refine b_le rfl rfl (fun _ => ?_) (fun h => by omega)
      conv => whnf
      refine hk _ _ _ _ (tail i ?_)
      rw [he, List.drop_of_length_le (by omega)]; rfl
    | succ n' ih =>
      intro i hi he
      have hil : i < l.length := by omega
      have ht : l[i]? = some l[i] := List.getElem?_eq_getElem hil
      have tw := sp_pw_at hw ht
      have tv := hv _ (List.mem_of_getElem? ht)
      have row := hP.2 _ _ ht
      rw [List.drop_eq_getElem_cons hil, sp_at] at he
      refine jm_run ok_M_comes [17, 53] 90 (fun kk hk => ?_)
      conv => whnf
      refine jg hM.size ?_
      conv => whnf
      refine ja rfl hM.l4 hP.1 ?_
      conv => whnf
      refine b_le rfl rfl (fun h => by omega) (fun _ => ?_)
      conv => whnf
      refine jg hM.mono ?_
      conv => whnf
      refine ja (nI_add _ _) hM.l3 row.2.2 ?_
      conv => whnf
      refine hk _ _ _ _ (k_M_comes_41 rfl (c_mcmp tw.2.2.2.2 hm tv hmv hC) (fun u hu => ?_))
      subst hu
      show J g (d + 3) 86 44 _ _ σ _
      refine jm_run ok_M_comes [17, 53] 90 (fun kk hk => ?_)
      conv => whnf
      refine sg_le (fun h => ?_) (fun h => ?_)
      · conv => whnf
        refine hk _ _ _ _ (tail i ?_)
        rw [he, if_neg (by omega)]; rfl
      · conv => whnf
        rw [nI_1]
        refine hk _ _ _ _ (ih (i + 1) (by omega) ?_)
        rw [he, if_pos h]; omega
  refine jm_run ok_M_comes [17] 90 (fun kk hk => ?_)
  conv => whnf
  refine b_z (b := false) h11 (fun _ => ?_) (fun h => by cases h)
  conv => whnf
  rw [ix0]
  exact hk _ _ _ _ (loop _ 0 (Nat.zero_add _) (by rw [List.drop_zero, Nat.zero_add]))
end
