/-! Engine shares; Element monic -/
def sp_st (j : Nat) (sg : Int) (c : sp_P) : sp_P → sp_P → Option sp_P
  | to, [] => some to
  | to, t :: r => (sp_plus j (sg * t.1) t.2.1 t.2.2 to c).bind (fun to' => sp_st j sg c to' r)
def sp_sh (j : Nat) (sg : Int) : List sp_P → List sp_P → sp_P → Option sp_P
  | q :: qs, c :: cs, to => (sp_st j sg c to q).bind (sp_sh j sg qs cs)
  | _, _, to => some to
theorem sp_sg_cf {sg : Int} {t : sp_T} (hs : sg = 1 ∨ sg = -1) (ht : sp_tw t) : sp_cf (sg * t.1) t.2.1 := by
  obtain ⟨t0, t1, t2, t3, t4⟩ := ht
  rcases hs with rfl | rfl
  · rw [Int.one_mul]; exact ⟨t0, t1, t2, t3⟩
  · rw [Int.neg_one_mul]; exact ⟨by omega, by omega, t2, t3⟩
theorem sp_st_w {j : Nat} {sg : Int} {c : sp_P} (hs : sg = 1 ∨ sg = -1) (hc : sp_pw c) : ∀ {q to to' : sp_P}, sp_pw to → (∀ t ∈ q, sp_tw t) → sp_st j sg c to q = some to' → sp_pw to'
  | [], to, to', hw, _, h => by cases h; exact hw
  | t :: r, to, to', hw, hq, h => by
    unfold sp_st at h
    cases h1 : sp_plus j (sg * t.1) t.2.1 t.2.2 to c with
    | none => rw [h1] at h; cases h
    | some p1 =>
      rw [h1] at h
      exact sp_st_w hs hc (sp_plus_w (sp_sg_cf hs (hq t (List.mem_cons_self ..))) hw hc.2 h1) (fun s hs => hq s (List.mem_cons_of_mem _ hs)) h
theorem sp_sh_w {j : Nat} {sg : Int} (hs : sg = 1 ∨ sg = -1) : ∀ {qs cs : List sp_P} {to to' : sp_P}, sp_pw to → (∀ p ∈ qs, sp_pw p) → (∀ p ∈ cs, sp_pw p) → sp_sh j sg qs cs to = some to' → sp_pw to'
  | [], cs, to, to', hw, _, _, h => by cases cs <;> (cases h; exact hw)
  | q :: qs, [], to, to', hw, _, _, h => by cases h; exact hw
  | q :: qs, c :: cs, to, to', hw, h1, h2, h => by
    unfold sp_sh at h
    cases h3 : sp_st j sg c to q with
    | none => rw [h3] at h; cases h
    | some p1 =>
      rw [h3] at h
      exact sp_sh_w hs (sp_st_w hs (h2 c (List.mem_cons_self ..)) hw (h1 q (List.mem_cons_self ..)).2 h3) (fun p hp => h1 p (List.mem_cons_of_mem _ hp)) (fun p hp => h2 p (List.mem_cons_of_mem _ hp)) h
section
variable {g : jm_G} {d : Nat} {σ : jm_S} {e n j : Nat} {s : Nat → Nat}
theorem c_shares {ta k : Nat} {to : sp_P} {qs cs : List sp_P} (hE : EL g σ e n) (hS : EP g σ e n j s) (hk : k < n) (hn : n ≤ 8) (hcount : σ.1 e 10 = nI qs.length) (hl : cs.length = qs.length) (hl24 : qs.length ≤ 24) (htp : pl g σ ta) (hT : PA σ.1 ta to) (htw : sp_pw to) (hta : e + 108 < ta)
    (hQ : EQ σ.1 e qs) (hC : ∀ i q c, qs[i]? = some q → cs[i]? = some c → q = [] ∨ (PA σ.1 (eo e n (s i) + 6 + 4 * k) c ∧ sp_pw c ∧ dj ta (eo e n (s i) + 6 + 4 * k))) (hr : sp_rm g σ) :
    J g (d + 8) 59 0 [some (aR 2 e), some (aR 5 ta), some (aI (nI k)), none, none, none] [] σ (jO σ ta (e + 1) (sp_sh j (-1) qs cs to)) := by
  obtain ⟨⟨x0, x1, x2, x3, x4, x5, x16⟩, ⟨y2, y3, y4, y113⟩, qp, rp, wp, ep⟩ := id hE
  obtain ⟨hj, ho, hs, hinj⟩ := id hS
  have outer : ∀ (m i : Nat) (f : Nat → Nat → Int32) (to' : sp_P) (z4 z5 : Option jm_V), i + m = qs.length → (∀ q, ¬ (ta ≤ q ∧ q ≤ ta + 3) → q ≠ e + 1 → f q = σ.1 q) → PA f ta to' → sp_pw to' → sp_sh j (-1) qs cs to = sp_sh j (-1) (qs.drop i) (cs.drop i) to' →
      J g (d + 8) 59 2 [some (aR 2 e), some (aR 5 ta), some (aI (nI k)), some (aI (nI i)), z4, z5] [] (f, σ.2) (jO σ ta (e + 1) (sp_sh j (-1) qs cs to)) := by
    intro m
    induction m with
    | zero =>
      intro i f to' z4 z5 hi hf hP hw he
      have e10 : f e 10 = nI qs.length := by rw [hf e (by omega) (by omega)]; exact hcount
      refine jm_run ok_G_shares [2] 90 (fun kk hk => ?_)
      conv => whnf
      refine b_le e10 rfl (fun _ => ?_) (fun h => by omega)
      conv => whnf
      refine hk _ _ _ _ (r_G_shares_91 ⟨f, hf, Or.inl ⟨to', ?_, rfl, hP⟩⟩)
      rw [he, List.drop_of_length_le (by omega)]; rfl
    | succ m ih =>
      intro i f to' z4 z5 hi hf hP hw he
      have e10 : f e 10 = nI qs.length := by rw [hf e (by omega) (by omega)]; exact hcount
      have hiq : i < qs.length := by omega
      have hic : i < cs.length := by omega
      have gq : qs[i]? = some qs[i] := List.getElem?_eq_getElem hiq
      have gc : cs[i]? = some cs[i] := List.getElem?_eq_getElem hic
      have hqi := hQ i _ gq
      have hqw := hqi.2
      have hsi := hs i (by omega)
      have hei := ep (s i) hsi.1
      have hge := eo_ge e n (s i)
      have hek := hei.2.2.2.2 k hk
      rw [List.drop_eq_getElem_cons hiq, List.drop_eq_getElem_cons hic, sp_sh] at he
      have inner : ∀ (r : sp_P) (t : Nat) (f : Nat → Nat → Int32) (to2 : sp_P), qs[i].drop t = r → t ≤ qs[i].length → (∀ q, ¬ (ta ≤ q ∧ q ≤ ta + 3) → q ≠ e + 1 → f q = σ.1 q) → PA f ta to2 → sp_pw to2 → sp_st j (-1) cs[i] to' qs[i] = sp_st j (-1) cs[i] to2 r →
          J g (d + 8) 59 21 [some (aR 2 e), some (aR 5 ta), some (aI (nI k)), some (aI (nI i)), some (aR 5 (e + 5 + 4 * i)), some (aI (nI t))] [] (f, σ.2) (jO σ ta (e + 1) (sp_sh j (-1) qs cs to)) := by
        intro r
        induction r with
        | nil =>
          intro t f to2 ht htl hf hP hw he2
          have hfq : PA f (e + 5 + 4 * i) qs[i] := PA_frame hqi.1 (hf _ (by omega) (by omega)) (hf _ (by omega) (by omega)) (hf _ (by omega) (by omega)) (hf _ (by omega) (by omega))
          have h2 : qs[i].length ≤ t := List.drop_eq_nil_iff.mp ht
          have hql := hqw.1
          refine jm_run ok_G_shares [2, 21] 90 (fun kk hk => ?_)
          conv => whnf
          refine b_le hfq.1 rfl (fun _ => ?_) (fun h => by omega)
          conv => whnf
          rw [nI_1]
          refine hk _ _ _ _ (ih (i + 1) f to2 _ _ (by omega) hf hP hw ?_)
          rw [he, he2]; rfl
        | cons t0 r ihr =>
          intro t f to2 ht htl hf hP hw he2
          have hfq : PA f (e + 5 + 4 * i) qs[i] := PA_frame hqi.1 (hf _ (by omega) (by omega)) (hf _ (by omega) (by omega)) (hf _ (by omega) (by omega)) (hf _ (by omega) (by omega))
          have hti : qs[i][t]? = some t0 := by rw [← Nat.add_zero t, ← List.getElem?_drop, ht]; rfl
          have htl2 : t < qs[i].length := (List.getElem?_eq_some_iff.mp hti).1
          have hdr : qs[i].drop (t + 1) = r := by rw [← List.drop_drop, ht]; rfl
          have hql := hqw.1
          have row := hfq.2 _ _ hti
          have tw := sp_pw_at hqw hti
          have hqp := (qp i (by omega)).2
          rcases hC i _ _ gq gc with h0 | ⟨hcP, hcw, hcd⟩
          · rw [h0] at htl2; exact absurd htl2 (Nat.not_lt_zero _)
          have hcd' := hcd
          unfold dj at hcd'
          have hcf : PA f (eo e n (s i) + 6 + 4 * k) cs[i] := PA_frame hcP (hf _ (by omega) (by omega)) (hf _ (by omega) (by omega)) (hf _ (by omega) (by omega)) (hf _ (by omega) (by omega))
          rw [sp_st] at he2
          refine jm_run ok_G_shares [2, 21] 90 (fun kk hk => ?_)
          conv => whnf
          refine b_le hfq.1 rfl (fun h => by omega) (fun _ => ?_)
          conv => whnf
          refine jg ho ?_
          conv => whnf
          refine jg x0 ?_
          conv => whnf
          refine jg hqp.1 ?_
          conv => whnf
          refine ja rfl hqp.2.2.2.1 row.1 ?_
          conv => whnf
          refine jg hqp.2.1 ?_
          conv => whnf
          refine ja rfl hqp.2.2.2.2.1 row.2.1 ?_
          conv => whnf
          refine jg hqp.2.2.1 ?_
          conv => whnf
          refine ja rfl hqp.2.2.2.2.2 row.2.2 ?_
          conv => whnf
          refine jg x1 ?_
          conv => whnf
          refine jr rfl y2 hsi.2 ?_
          conv => whnf
          refine jg hei.2.1 ?_
          conv => whnf
          refine jr rfl hei.2.2.2.1 hek.1 ?_
          conv => whnf
          rw [sp_ineg, ← Int.neg_one_mul]
          refine hk _ _ _ _ (k_G_shares_76 rfl (c_plus (σ := (f, σ.2)) htp hP hw hek.2 hcf hcw hj (sp_sg_cf (Or.inr rfl) tw) tw.2.2.2.2 (by omega) (by omega) hcd hr) (fun u hu => ?_))
          obtain ⟨f3, hf3, h3⟩ := hu
          have hff : ∀ q, ¬ (ta ≤ q ∧ q ≤ ta + 3) → q ≠ e + 1 → f3 q = σ.1 q := fun q h1 h2 => (hf3 q h1 h2).trans (hf q h1 h2)
          rcases h3 with ⟨p2, hp2, hu, hPA⟩ | ⟨hn, hu⟩
          · subst hu
            show J g (d + 8) 59 79 _ _ (f3, σ.2) _
            refine jm_run ok_G_shares [2, 21] 90 (fun kk hk => ?_)
            conv => whnf
            rw [nI_1]
            refine hk _ _ _ _ (ihr (t + 1) f3 p2 hdr (by omega) hff hPA (sp_plus_w (sp_sg_cf (Or.inr rfl) tw) hw hcw.2 hp2) ?_)
            rw [he2, hp2]; rfl
          · subst hu
            refine ⟨f3, hff, Or.inr ⟨?_, rfl⟩⟩
            rw [he, he2, hn]; rfl
      refine jm_run ok_G_shares [2, 21] 90 (fun kk hk => ?_)
      conv => whnf
      refine b_le e10 rfl (fun h => by omega) (fun _ => ?_)
      conv => whnf
      refine jg x3 ?_
      conv => whnf
      refine jr rfl y4 (qp i (by omega)).1 ?_
      conv => whnf
      exact hk _ _ _ _ (inner qs[i] 0 f to' rfl (Nat.zero_le _) hf hP hw rfl)
  refine jm_run ok_G_shares [2] 90 (fun kk hk => ?_)
  conv => whnf
  exact hk _ _ _ _ (outer qs.length 0 σ.1 to none none (Nat.zero_add _) (fun _ _ _ => rfl) hT htw rfl)
end
/-- an element: its polynomial and its shares -/
abbrev sp_E : Type := sp_P × List sp_P
def EA (f : Nat → Nat → Int32) (o : Nat) (E : sp_E) : Prop := PA f (o + 1) E.1 ∧ ∀ k p, E.2[k]? = some p → PA f (o + 6 + 4 * k) p
def sp_ew (E : sp_E) : Prop := sp_pw E.1 ∧ ∀ p ∈ E.2, sp_pw p
def sp_mapS (a b : Int) : List sp_P → Option (List sp_P)
  | [] => some []
  | p :: r => (sp_scale a b p).bind (fun p' => (sp_mapS a b r).map (fun r' => p' :: r'))
/-- the factor that makes a polynomial monic -/
def sp_mf (p : sp_P) : Int × Int := (if (sp_hd p).1 < 0 then -(sp_hd p).2 else (sp_hd p).2, ((sp_hd p).1.natAbs : Int))
def sp_mon (E : sp_E) : Option sp_E := (sp_scale (sp_mf E.1).1 (sp_mf E.1).2 E.1).bind (fun p => (sp_mapS (sp_mf E.1).1 (sp_mf E.1).2 E.2).map (fun ss => (p, ss)))
def jM (σ : jm_S) (o m x : Nat) (r : Option sp_E) : jm_O → Prop := fun u => ∃ f : Nat → Nat → Int32, (∀ q, ¬ (o ≤ q ∧ q < o + 6 + 4 * m) → q ≠ x → f q = σ.1 q) ∧ ((∃ E, r = some E ∧ u = ((f, σ.2), .inl none) ∧ EA f o E ∧ sp_ew E ∧ E.2.length = m) ∨ (r = none ∧ u = jT σ f (-7)))
section
variable {g : jm_G} {d : Nat} {σ : jm_S}
theorem c_monic {o n x m : Nat} {E : sp_E} (h0 : σ.2.1 o 0 = o + 1 + 1) (h1 : σ.2.1 o 1 = o + 5 + 1) (hp : pl g σ (o + 1)) (hn : gln g (o + 5) = n) (hsp : ∀ k, k < n → σ.2.1 (o + 5) k = o + 6 + 4 * k + 1 ∧ pl g σ (o + 6 + 4 * k)) (hn8 : n ≤ 8) (hx : x < o) (hA : EA σ.1 o E) (hw : sp_ew E) (hne : E.1 ≠ []) (hm : E.2.length = m) (hmn : m ≤ n) (hr : sp_rm g σ) :
    J g (d + 7) 46 0 [some (aR 3 o), some (aR 4 x), some (aI (nI m)), none, none, none, none] [] σ (jM σ o m x (sp_mon E)) := by
  have hd := PA_hd hA.1 hne
  have hb := sp_hd_b hw.1
  have hcf : sp_cf (sp_mf E.1).1 (sp_mf E.1).2 := by
    refine ⟨?_, ?_, ?_, ?_⟩
    · show (if (sp_hd E.1).1 < 0 then -(sp_hd E.1).2 else (sp_hd E.1).2) ≠ 0
      split <;> omega
    · show (if (sp_hd E.1).1 < 0 then -(sp_hd E.1).2 else (sp_hd E.1).2).natAbs ≤ _
      split <;> omega
    · show 1 ≤ ((sp_hd E.1).1.natAbs : Int)
      omega
    · show ((sp_hd E.1).1.natAbs : Int) ≤ _
      omega
  have mid : ∀ sg, sg * sp_i (sp_hd E.1).2 = sp_i (sp_mf E.1).1 → sg * sp_i (sp_hd E.1).1 = sp_i (sp_mf E.1).2 → J g (d + 7) 46 31 [some (aR 3 o), some (aR 4 x), some (aI (nI m)), some (aI (sp_i (sp_hd E.1).2)), some (aI (sp_i (sp_hd E.1).1)), none, none] [aI sg] σ (jM σ o m x (sp_mon E)) := by
    intro sg g1 g2
    have loop : ∀ (r : List sp_P) (q : List sp_P) (p : sp_P) (f : Nat → Nat → Int32), q.length + r.length = m → (∀ q, ¬ (o ≤ q ∧ q < o + 6 + 4 * m) → q ≠ x → f q = σ.1 q) → PA f (o + 1) p → sp_pw p → (∀ k p, (q ++ r)[k]? = some p → PA f (o + 6 + 4 * k) p) → (∀ p ∈ q, sp_pw p) → (∀ p ∈ r, sp_pw p) → sp_mon E = (sp_mapS (sp_mf E.1).1 (sp_mf E.1).2 r).map (fun r' => (p, q ++ r')) →
        J g (d + 7) 46 53 [some (aR 3 o), some (aR 4 x), some (aI (nI m)), some (aI (sp_i (sp_hd E.1).2)), some (aI (sp_i (sp_hd E.1).1)), some (aI sg), some (aI (nI q.length))] [] (f, σ.2) (jM σ o m x (sp_mon E)) := by
      intro r
      induction r with
      | nil =>
        intro q p f hl hf hP hpw hQ hqw _ he
        rw [List.append_nil] at hQ
        have hl' : q.length = m := hl
        refine jm_run ok_E_monic [53] 90 (fun kk hk => ?_)
        conv => whnf
        refine b_le (a := m) rfl rfl (fun _ => ?_) (fun h => by omega)
        conv => whnf
        refine hk _ _ _ _ (r_E_monic_85 ⟨f, hf, Or.inl ⟨(p, q), by rw [he]; simp [sp_mapS], rfl, ⟨hP, hQ⟩, ⟨hpw, hqw⟩, hl'⟩⟩)
      | cons c r ih =>
        intro q p f hl hf hP hpw hQ hqw hrw he
        rw [List.length_cons] at hl
        have hql : q.length < n := by omega
        have hsk := hsp q.length hql
        have hti : (q ++ c :: r)[q.length]? = some c := by rw [List.getElem?_append_right (Nat.le_refl _), Nat.sub_self]; rfl
        have hcw := hrw c (List.mem_cons_self ..)
        rw [sp_mapS] at he
        refine jm_run ok_E_monic [53] 90 (fun kk hk => ?_)
        conv => whnf
        refine b_le (a := m) rfl rfl (fun h => by omega) (fun _ => ?_)
        conv => whnf
        refine jg h1 ?_
        conv => whnf
        refine jr rfl hn hsk.1 ?_
        conv => whnf
        rw [g1, g2]
        refine hk _ _ _ _ (k_E_monic_76 rfl (c_scale (σ := (f, σ.2)) hsk.2 (hQ _ _ hti) hcw hcf (by omega) hr) (fun u hu => ?_))
        obtain ⟨f3, hf3, h3⟩ := hu
        have hff : ∀ q, ¬ (o ≤ q ∧ q < o + 6 + 4 * m) → q ≠ x → f3 q = σ.1 q := fun y hy hyx => (hf3 y (by omega) hyx).trans (hf y hy hyx)
        rcases h3 with ⟨p2, hp2, hu, hPA⟩ | ⟨hnn, hu⟩
        · subst hu
          show J g (d + 7) 46 79 _ _ (f3, σ.2) _
          have h9 := sp_scale_w hcf hcw.2 hp2
          have hp2w : sp_pw p2 := ⟨by rw [h9.1]; exact hcw.1, h9.2⟩
          have := ih (q ++ [p2]) p f3 (by rw [List.length_append]; show q.length + 1 + _ = _; omega) hff (PA_frame hP (hf3 _ (by omega) (by omega)) (hf3 _ (by omega) (by omega)) (hf3 _ (by omega) (by omega)) (hf3 _ (by omega) (by omega))) hpw (fun k y hy => by
            by_cases hkq : k = q.length
            · subst hkq
              rw [List.append_assoc, List.getElem?_append_right (Nat.le_refl _), Nat.sub_self] at hy
              cases hy
              exact hPA
            · have hy2 : (q ++ c :: r)[k]? = some y := by
                rw [List.append_assoc] at hy
                by_cases hk2 : k < q.length
                · rw [List.getElem?_append_left hk2] at hy ⊢; exact hy
                · rw [List.getElem?_append_right (by omega)] at hy ⊢
                  obtain ⟨i, hi⟩ : ∃ i, k - q.length = i + 1 := ⟨k - q.length - 1, by omega⟩
                  rw [hi] at hy ⊢
                  exact hy
              exact PA_frame (hQ k y hy2) (hf3 _ (by omega) (by omega)) (hf3 _ (by omega) (by omega)) (hf3 _ (by omega) (by omega)) (hf3 _ (by omega) (by omega))) (fun y hy => by
            rcases List.mem_append.mp hy with h | h
            · exact hqw y h
            · rw [List.mem_singleton] at h; subst h; exact hp2w) (fun y hy => hrw y (List.mem_cons_of_mem _ hy)) (by
            rw [he, hp2]
            show Option.map _ (Option.map _ (sp_mapS _ _ r)) = _
            rw [Option.map_map]
            congr 1
            funext r'
            show (p, q ++ p2 :: r') = (p, q ++ [p2] ++ r')
            rw [List.append_assoc]; rfl)
          rw [List.length_append] at this
          refine jm_run ok_E_monic [53] 90 (fun kk hk => ?_)
          conv => whnf
          rw [nI_1]
          exact hk _ _ _ _ this
        · subst hu
          exact ⟨f3, hff, Or.inr ⟨by rw [he, hnn]; rfl, rfl⟩⟩
    refine jm_run ok_E_monic [53] 90 (fun kk hk => ?_)
    conv => whnf
    refine jg h0 ?_
    conv => whnf
    rw [g1, g2]
    refine hk _ _ _ _ (k_E_monic_47 rfl (c_scale (σ := σ) hp hA.1 hw.1 hcf (by omega) hr) (fun u hu => ?_))
    obtain ⟨f3, hf3, h3⟩ := hu
    have hff : ∀ q, ¬ (o ≤ q ∧ q < o + 6 + 4 * m) → q ≠ x → f3 q = σ.1 q := fun y hy hyx => hf3 y (by omega) hyx
    rcases h3 with ⟨p2, hp2, hu, hPA⟩ | ⟨hnn, hu⟩
    · subst hu
      show J g (d + 7) 46 50 _ _ (f3, σ.2) _
      have h9 := sp_scale_w hcf hw.1.2 hp2
      refine jm_run ok_E_monic [53] 90 (fun kk hk => ?_)
      conv => whnf
      exact hk _ _ _ _ (loop E.2 [] p2 f3 (by show 0 + _ = _; omega) hff hPA ⟨by rw [h9.1]; exact hw.1.1, h9.2⟩ (fun k y hy => PA_frame (hA.2 k y hy) (hf3 _ (by omega) (by omega)) (hf3 _ (by omega) (by omega)) (hf3 _ (by omega) (by omega)) (hf3 _ (by omega) (by omega))) (fun _ h => by cases h) hw.2 (by unfold sp_mon; rw [hp2]; rfl))
    · subst hu
      exact ⟨f3, hff, Or.inr ⟨by unfold sp_mon; rw [hnn]; rfl, rfl⟩⟩
  refine jm_run ok_E_monic [31] 90 (fun kk hk => ?_)
  conv => whnf
  refine jg h0 ?_
  conv => whnf
  refine jg hp.2.1 ?_
  conv => whnf
  refine ja (i := 0) rfl hp.2.2.2.2.1 hd.2 ?_
  conv => whnf
  refine jg h0 ?_
  conv => whnf
  refine jg hp.1 ?_
  conv => whnf
  refine ja (i := 0) rfl hp.2.2.2.1 hd.1 ?_
  conv => whnf
  refine bi_le sp_i0 rfl (fun hs => ?_) (fun hs => ?_)
  · conv => whnf
    exact hk _ _ _ _ (mid 1 (by rw [show (1 : Int32) = sp_i 1 from by decide, sp_imul, Int.one_mul]; unfold sp_mf; dsimp only; rw [if_neg (by omega)]) (by rw [show (1 : Int32) = sp_i 1 from by decide, sp_imul, Int.one_mul]; unfold sp_mf; dsimp only; congr 1; omega))
  · conv => whnf
    exact hk _ _ _ _ (mid (-1) (by rw [show (-1 : Int32) = sp_i (-1) from by decide, sp_imul, Int.neg_one_mul]; unfold sp_mf; dsimp only; rw [if_pos hs]) (by rw [show (-1 : Int32) = sp_i (-1) from by decide, sp_imul, Int.neg_one_mul]; unfold sp_mf; dsimp only; congr 1; omega))
end
