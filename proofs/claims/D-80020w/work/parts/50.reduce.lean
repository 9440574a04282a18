/-! Engine reduce -/
theorem sp_tw1 {m : sp_M} (h : sp_ok m) : sp_tw (1, (1, m)) := ⟨show (1 : Int) ≠ 0 by decide, show (1 : Int).natAbs ≤ 1000000000 by decide, show (1 : Int) ≤ 1 by decide, show (1 : Int) ≤ 1000000000 by decide, h⟩
theorem sp_dl_but {j : Nat} {G : List sp_P} {bt : Nat} : ∀ {n n' : Nat} {w rest rest' : sp_P} {qs qs' : List sp_P}, sp_dl j G bt n w qs rest = (n', .inr (qs', rest')) → qs'[bt]? = qs[bt]?
  | n, n', [], rest, rest', qs, qs', h => by
    rw [sp_dl] at h
    cases h; rfl
  | 0, n', t :: w, rest, rest', qs, qs', h => by
    rw [sp_dl] at h
    cases h
  | n + 1, n', t :: w, rest, rest', qs, qs', h => by
    rw [sp_dl] at h
    split at h
    · split at h
      · cases h
      · exact sp_dl_but h
    · rename_i gp hgp
      have hit := (sp_fd_hit bt t.2.2 0 G gp).2 (by rw [Nat.sub_zero]; exact hgp)
      split at h
      · cases h
      · split at h
        · cases h
        · split at h
          · cases h
          · have := sp_dl_but h
            rw [List.getElem?_set_ne hit.1] at this
            exact this
/-- an element, reduced by the others -/
def sp_red (j n : Nat) (els : List sp_E) (i : Nat) : Nat × (Int32 ⊕ List sp_E) := match sp_dl j (sp_G els) i n ((sp_at0 els i).1.drop 1) (List.replicate (sp_G els).length []) [] with
  | (o1, .inl x) => (o1, .inl x)
  | (o1, .inr qr) => match sp_shs j qr.1 els 0 (sp_at0 els i).2 with
    | none => (o1, .inl (-7))
    | some ss => match sp_come j qr.2 1 1 (sp_ld (sp_at0 els i).1) with
      | none => (o1, .inl (-7))
      | some p => (o1, .inr (els.set i (p, ss)))
/-- how reduce ends -/
def jRd (σ : jm_S) (e n : Nat) (s : Nat → Nat) (sh lim : Nat) (r : Nat × (Int32 ⊕ List sp_E)) : jm_O → Prop := fun u => ∃ f : Nat → Nat → Int32, (∀ q, ¬ (e ≤ q ∧ q < eo e n 25) → f q = σ.1 q) ∧ (∀ k, k ≠ 11 → f e k = σ.1 e k) ∧ f e 11 = nI (lim - r.1) ∧ r.1 ≤ lim ∧ ((∃ els, r.2 = .inr els ∧ u = ((f, σ.2), .inl none) ∧ EX f e n s sh els) ∨ (∃ x, r.2 = .inl x ∧ u = jT σ f x))
section
variable {g : jm_G} {d : Nat} {σ : jm_S} {e n j : Nat} {s : Nat → Nat}
theorem FP.ex {f : Nat → Nat → Int32} {sh c i : Nat} {els : List sp_E} {E : sp_E} (hS : EP g σ e n j s) (hX : EX σ.1 e n s sh els) (hsh : sh ≤ n) (hc : c < els.length) (h : FP σ f e (eo e n (s c)) n) (hi : i ≠ c) (hE : els[i]? = some E) : gd f (eo e n (s i)) sh E := by
  have hl := hX.1
  have hil := (List.getElem?_eq_some_iff.mp hE).1
  refine gd_frame (hX.2.2 i E hE) (fun q h1 h2 => ?_)
  have hne : s i ≠ s c := fun h9 => hi (hS.2.2.2 i c (by omega) (by omega) h9)
  have hsep := eo_ne (e := e) (n := n) hne
  have hge := eo_ge e n (s i)
  exact h.1 q (by omega) (by omega)
theorem c_reduce {sh m lim i : Nat} {els : List sp_E} (hE : EL g σ e n) (hS : EP g σ e n j s) (hn : n ≤ 8) (hsh : sh ≤ n) (hX : EX σ.1 e n s sh els) (h11 : σ.1 e 11 = nI (lim - m)) (h12 : σ.1 e 12 = nI lim) (hlim : lim ≤ 20000) (hm : m ≤ lim) (hr : sp_rm g σ) (hi : i < els.length)
    (hne : ∀ o1 qs rest p, sp_dl j (sp_G els) i m ((sp_at0 els i).1.drop 1) (List.replicate (sp_G els).length []) [] = (o1, .inr (qs, rest)) → sp_come j rest 1 1 (sp_ld (sp_at0 els i).1) = some p → p ≠ []) :
    J g (d + 9) 62 0 [some (aR 2 e), some (aI (nI i)), some (aI (nI sh)), none, none, none] [] σ (jRd σ e n s sh lim (sp_red j m els i)) := by
  obtain ⟨⟨x0, x1, x2, x3, x4, x5, x16⟩, ⟨y2, y3, y4, y113⟩, qp, rp, wp, ep⟩ := id hE
  obtain ⟨hj, ho, hs, hinj⟩ := id hS
  have hl := hX.1
  have gi : els[i]? = some els[i] := List.getElem?_eq_getElem hi
  generalize els[i] = E at gi
  rw [sp_at0_at gi] at hne
  have hgd := hX.2.2 i E gi
  have hsi := hs i (by omega)
  have hei := ep _ hsi.1
  have hge := eo_ge e n (s i)
  have h25 := eo_25 (e := e) (n := n) hsi.1
  have hGl : (sp_G els).length = els.length := by rw [sp_G, List.length_map]
  have out : ∀ f', FP σ f' e (eo e n (s i)) n → (∀ q, ¬ (e ≤ q ∧ q < eo e n 25) → f' q = σ.1 q) := fun f' hf' q hq => hf'.1 q (by omega) (by omega)
  have hpw := hgd.2.1.1
  have hmok := sp_ld_ok hpw
  -- from where the rest is the new polynomial
  have last : ∀ (m' : Nat) (f : Nat → Nat → Int32) (rest : sp_P) (ss : List sp_P) (z5 : Option jm_V), FP σ f e (eo e n (s i)) n → f e 11 = nI (lim - m') → m' ≤ lim → PA f (e + 101) rest → sp_pw rest → (∀ k p, ss[k]? = some p → PA f (eo e n (s i) + 6 + 4 * k) p) → (∀ p ∈ ss, sp_pw p) → ss.length = sh → (∀ p, sp_come j rest 1 1 (sp_ld E.1) = some p → p ≠ []) →
      J g (d + 9) 62 75 [some (aR 2 e), some (aI (nI i)), some (aI (nI sh)), some (aR 5 (eo e n (s i) + 1)), some (aI (sp_c (sp_ld E.1))), z5] [] (f, σ.2) (jRd σ e n s sh lim (match sp_come j rest 1 1 (sp_ld E.1) with
        | none => (m', .inl (-7))
        | some p => (m', .inr (els.set i (p, ss))))) := by
    intro m' f rest ss z5 hF h11 hm' hrest hrw hss hsw hsl hne
    refine jm_run ok_G_reduce [] 90 (fun kk hk => ?_)
    conv => whnf
    refine jg x4 ?_
    conv => whnf
    refine hk _ _ _ _ (k_G_reduce_80 rfl (c_become (σ := (f, σ.2)) hei.2.2.1 rp hrest hrw.1 (by unfold dj; omega)) (fun u hu => ?_))
    obtain ⟨f2, hf2, hu, hPA⟩ := jO_some hu
    subst hu
    show J g (d + 9) 62 83 _ _ (f2, σ.2) _
    have hF2 : FP σ f2 e (eo e n (s i)) n := hF.step (by omega) (fun q a1 a2 a3 => hf2 q (by omega) (by omega))
    have h112 : f2 e 11 = nI (lim - m') := (congrFun (hf2 e (by omega) (by omega)) 11).trans h11
    refine jm_run ok_G_reduce [] 90 (fun kk hk => ?_)
    conv => whnf
    refine jg ho ?_
    conv => whnf
    refine jg x0 ?_
    conv => whnf
    refine hk _ _ _ _ (k_G_reduce_96 rfl (c_come (σ := (f2, σ.2)) (A := 1) (B := 1) hei.2.2.1 hPA hrw hj (by decide) ⟨by decide, by decide⟩ hmok (by omega) hr) (fun u hu => ?_))
    obtain ⟨f3, hf3, h3⟩ := hu
    have hF3 : FP σ f3 e (eo e n (s i)) n := hF2.step (by omega) (fun q a1 a2 a3 => hf3 q (by omega) a3)
    have h113 : f3 e 11 = nI (lim - m') := (congrFun (hf3 e (by omega) (by omega)) 11).trans h112
    rcases h3 with ⟨p3, hp3, hu, hPA3⟩ | ⟨hn0, hu⟩
    · subst hu
      show J g (d + 9) 62 99 _ _ (f3, σ.2) _
      have hp30 := hne p3 hp3
      rw [hp3]
      refine r_G_reduce_99 ⟨f3, out f3 hF3, hF3.2.2, h113, hm', Or.inl ⟨_, rfl, rfl, ⟨by rw [List.length_set]; exact hl, ?_, fun k E' hE' => ?_⟩⟩⟩
      · rw [List.length_set, hF3.2.2 10 (by decide)]; exact hX.2.1
      · rw [List.getElem?_set] at hE'
        by_cases hik : i = k
        · subst hik
          rw [if_pos rfl, if_pos hi] at hE'
          cases hE'
          refine ⟨⟨hPA3, fun k p hp => ?_⟩, ⟨sp_come_w hrw (sp_tw1 hmok) hp3, hsw⟩, hp30, hsl⟩
          have hkl := (List.getElem?_eq_some_iff.mp hp).1
          have hq2 : ∀ q, eo e n (s i) + 6 ≤ q → f3 q = f q := fun q hq => (hf3 q (by omega) (by omega)).trans (hf2 q (by omega) (by omega))
          exact PA_frame (hss k p hp) (hq2 _ (by omega)) (hq2 _ (by omega)) (hq2 _ (by omega)) (hq2 _ (by omega))
        · rw [if_neg hik] at hE'
          exact FP.ex hS hX hsh hi hF3 (fun q => hik q.symm) hE'
    · subst hu
      rw [hn0]
      exact ⟨f3, out f3 hF3, hF3.2.2, h113, hm', Or.inr ⟨_, rfl, rfl⟩⟩
  have shr : ∀ (m' : Nat) (rest : sp_P) (qs : List sp_P), m' ≤ lim → sp_pw rest → qs.length = els.length → qs[i]? = some [] → (∀ p, sp_come j rest 1 1 (sp_ld E.1) = some p → p ≠ []) → ∀ (r q : List sp_P) (f : Nat → Nat → Int32), FP σ f e (eo e n (s i)) n → f e 11 = nI (lim - m') → PA f (e + 101) rest → EQ f e qs → (∀ k p, (q ++ r)[k]? = some p → PA f (eo e n (s i) + 6 + 4 * k) p) → (∀ p ∈ q, sp_pw p) → (∀ p ∈ r, sp_pw p) → q.length + r.length = sh → sp_shs j qs els 0 E.2 = (sp_shs j qs els q.length r).map (fun r' => q ++ r') →
      J g (d + 9) 62 45 [some (aR 2 e), some (aI (nI i)), some (aI (nI sh)), some (aR 5 (eo e n (s i) + 1)), some (aI (sp_c (sp_ld E.1))), some (aI (nI q.length))] [] (f, σ.2) (jRd σ e n s sh lim (match sp_shs j qs els 0 E.2 with
        | none => (m', .inl (-7))
        | some ss => match sp_come j rest 1 1 (sp_ld E.1) with
          | none => (m', .inl (-7))
          | some p => (m', .inr (els.set i (p, ss))))) := by
    intro m' rest qs hm' hrw hql hqi hne r
    induction r with
    | nil =>
      intro q f hF h11 hrest hQ hss hqw _ hlen he
      rw [List.append_nil] at hss
      have hlen' : q.length = sh := hlen
      have he' : sp_shs j qs els 0 E.2 = some q := by rw [he]; simp [sp_shs]
      rw [he']
      refine jm_run ok_G_reduce [45, 75] 90 (fun kk hk => ?_)
      conv => whnf
      refine b_le (a := sh) rfl rfl (fun _ => ?_) (fun h => by omega)
      conv => whnf
      exact hk _ _ _ _ (last m' f rest q _ hF h11 hm' hrest hrw hss hqw hlen' hne)
    | cons x r ih =>
      intro q f hF h11 hrest hQ hss hqw hrw2 hlen he
      rw [List.length_cons] at hlen
      have hek := hei.2.2.2.2 q.length (by omega)
      have hti : (q ++ x :: r)[q.length]? = some x := by rw [List.getElem?_append_right (Nat.le_refl _), Nat.sub_self]; rfl
      have hxw := hrw2 x (List.mem_cons_self ..)
      have hlens : ∀ (i : Nat) (E : sp_E), els[i]? = some E → E.2.length = sh := fun i E h => (hX.2.2 i E h).2.2.2
      have hcol : ∀ k q' c', qs[k]? = some q' → (sp_col els q.length)[k]? = some c' → q' = [] ∨ (PA f (eo e n (s k) + 6 + 4 * q.length) c' ∧ sp_pw c' ∧ dj (eo e n (s i) + 6 + 4 * q.length) (eo e n (s k) + 6 + 4 * q.length)) := by
        intro k q' c' hq' hc'
        by_cases hki : k = i
        · subst hki
          rw [hqi] at hq'
          cases hq'
          exact Or.inl rfl
        · obtain ⟨E', hE1, hE2⟩ := sp_col_at (sh := sh) hc' hlens (by omega)
          have h9 := FP.ex hS hX hsh hi hF hki hE1
          have hkl := (List.getElem?_eq_some_iff.mp hE1).1
          have hsne : s k ≠ s i := fun h9 => hki (hinj k i (by omega) (by omega) h9)
          have hsep := eo_ne (e := e) (n := n) hsne
          exact Or.inr ⟨h9.1.2 _ _ hE2, h9.2.1.2 _ (List.mem_of_getElem? hE2), by unfold dj; omega⟩
      have e10 : f e 10 = nI els.length := (hF.2.2 10 (by decide)).trans hX.2.1
      rw [sp_shs] at he
      refine jm_run ok_G_reduce [45, 75] 90 (fun kk hk => ?_)
      conv => whnf
      refine b_le (a := sh) rfl rfl (fun h => by omega) (fun _ => ?_)
      conv => whnf
      refine jg x1 ?_
      conv => whnf
      refine jr rfl y2 hsi.2 ?_
      conv => whnf
      refine jg hei.2.1 ?_
      conv => whnf
      refine jr rfl hei.2.2.2.1 hek.1 ?_
      conv => whnf
      refine hk _ _ _ _ (k_G_reduce_66 rfl (c_shares (σ := (f, σ.2)) hE hS (by omega) hn (by rw [hql]; exact e10) (by rw [sp_col, List.length_map, hql]) (by omega) hek.2 (hss _ _ hti) hxw (by omega) hQ hcol hr) (fun u hu => ?_))
      obtain ⟨f2, hf2, h2⟩ := hu
      have hF2 : FP σ f2 e (eo e n (s i)) n := hF.step (by omega) (fun q' a1 a2 a3 => hf2 q' (by omega) a3)
      have h112 : f2 e 11 = nI (lim - m') := (congrFun (hf2 e (by omega) (by omega)) 11).trans h11
      rcases h2 with ⟨p2, hp2, hu, hPA⟩ | ⟨hn0, hu⟩
      · subst hu
        show J g (d + 9) 62 69 _ _ (f2, σ.2) _
        have hp2w : sp_pw p2 := sp_sh_w (Or.inr rfl) hxw (fun p hp => by obtain ⟨i', hi'⟩ := List.getElem?_of_mem hp; exact (hQ i' p hi').2) (fun p hp => by
          obtain ⟨i', hi'⟩ := List.getElem?_of_mem hp
          obtain ⟨E', hE1, hE2⟩ := sp_col_at (sh := sh) hi' hlens (by omega)
          exact (hX.2.2 _ E' hE1).2.1.2 _ (List.mem_of_getElem? hE2)) hp2
        have := ih (q ++ [p2]) f2 hF2 h112 (PA_frame hrest (hf2 _ (by omega) (by omega)) (hf2 _ (by omega) (by omega)) (hf2 _ (by omega) (by omega)) (hf2 _ (by omega) (by omega))) (fun i' p' hp' => by
            have := (List.getElem?_eq_some_iff.mp hp').1
            exact ⟨PA_frame (hQ i' p' hp').1 (hf2 _ (by omega) (by omega)) (hf2 _ (by omega) (by omega)) (hf2 _ (by omega) (by omega)) (hf2 _ (by omega) (by omega)), (hQ i' p' hp').2⟩) (fun k y hy => by
            by_cases hkq : k = q.length
            · subst hkq
              rw [List.append_assoc, List.getElem?_append_right (Nat.le_refl _), Nat.sub_self] at hy
              cases hy
              exact hPA
            · have hy2 : (q ++ x :: r)[k]? = some y := by
                rw [List.append_assoc] at hy
                by_cases hk2 : k < q.length
                · rw [List.getElem?_append_left hk2] at hy ⊢; exact hy
                · rw [List.getElem?_append_right (by omega)] at hy ⊢
                  obtain ⟨i, hi⟩ : ∃ i, k - q.length = i + 1 := ⟨k - q.length - 1, by omega⟩
                  rw [hi] at hy ⊢
                  exact hy
              exact PA_frame (hss k y hy2) (hf2 _ (by omega) (by omega)) (hf2 _ (by omega) (by omega)) (hf2 _ (by omega) (by omega)) (hf2 _ (by omega) (by omega))) (fun y hy => by
            rcases List.mem_append.mp hy with h | h
            · exact hqw y h
            · rw [List.mem_singleton] at h; subst h; exact hp2w) (fun y hy => hrw2 y (List.mem_cons_of_mem _ hy)) (by rw [List.length_append]; show q.length + 1 + _ = _; omega) (by
            rw [he, hp2, List.length_append]
            show Option.map _ (Option.map _ (sp_shs j qs els (q.length + 1) r)) = _
            rw [Option.map_map]
            congr 1
            funext r'
            show q ++ p2 :: r' = q ++ [p2] ++ r'
            rw [List.append_assoc]; rfl)
        rw [List.length_append] at this
        refine jm_run ok_G_reduce [45] 90 (fun kk hk => ?_)
        conv => whnf
        rw [nI_1]
        exact hk _ _ _ _ this
      · subst hu
        rw [he, hn0]
        exact ⟨f2, out f2 hF2, hF2.2.2, h112, hm', Or.inr ⟨_, rfl, rfl⟩⟩
  refine jm_run ok_G_reduce [] 90 (fun kk hk => ?_)
  conv => whnf
  refine jg x1 ?_
  conv => whnf
  refine jr rfl y2 hsi.2 ?_
  conv => whnf
  refine jg hei.1 ?_
  conv => whnf
  refine jg x5 ?_
  conv => whnf
  refine hk _ _ _ _ (k_G_reduce_15 rfl (c_become (σ := σ) wp hei.2.2.1 hgd.1.1 hpw.1 (by unfold dj; omega)) (fun u hu => ?_))
  obtain ⟨f1, hf1, hu, hP1⟩ := jO_some hu
  subst hu
  show J g (d + 9) 62 18 _ _ (f1, σ.2) _
  have hlead := PA_ld hP1 hgd.2.2.1
  obtain ⟨nl, hnl⟩ : ∃ nl, E.1.length = nl + 1 := ⟨E.1.length - 1, by have := List.length_pos_iff.mpr hgd.2.2.1; omega⟩
  have hpl := hpw.1
  have hrem := c_remove (g := g) (d := d + 8) (σ := (f1, σ.2)) (a := e + 105) (n := nl) (k0 := 0) wp (by omega) (Nat.zero_le _) (by show f1 _ _ = _; rw [hP1.1, hnl])
  refine jm_run ok_G_reduce [] 90 (fun kk hk => ?_)
  conv => whnf
  refine jg x5 ?_
  conv => whnf
  refine jg wp.2.2.1 ?_
  conv => whnf
  refine ja (i := 0) rfl wp.2.2.2.2.2 hlead ?_
  conv => whnf
  refine jg x5 ?_
  conv => whnf
  refine hk _ _ _ _ (k_G_reduce_34 rfl hrem (fun u hu => ?_))
  subst hu
  have hP2 : PA (shD (jm_wi (f1, σ.2) (e + 105) 0 (nI nl)).1 (e + 105) 0 nl) (e + 105) (E.1.eraseIdx 0) := PA_rem (σ := (f1, σ.2)) hP1 (Nat.zero_le _) hnl
  have hq2 : ∀ q, ¬ (e + 105 ≤ q ∧ q ≤ e + 108) → shD (jm_wi (f1, σ.2) (e + 105) 0 (nI nl)).1 (e + 105) 0 nl q = σ.1 q := by intro q hq; rw [shD_q hq, jm_wi_q (by omega)]; exact hf1 q (by omega) (by omega)
  show J g (d + 9) 62 37 _ _ (shD (jm_wi (f1, σ.2) (e + 105) 0 (nI nl)).1 (e + 105) 0 nl, σ.2) _
  generalize shD (jm_wi (f1, σ.2) (e + 105) 0 (nI nl)).1 (e + 105) 0 nl = f2 at hP2 hq2
  rw [show E.1.eraseIdx 0 = E.1.drop 1 by cases E.1 <;> rfl] at hP2
  have hww : sp_pw (E.1.drop 1) := ⟨by rw [List.length_drop]; omega, fun t ht => hpw.2 t (List.mem_of_mem_drop ht)⟩
  have hF2 : FP σ f2 e (eo e n (s i)) n := ⟨fun q a1 a2 => hq2 q (by omega), hq2 _ (by omega), fun k _ => congrFun (hq2 e (by omega)) k⟩
  have hX2 : EX f2 e n s sh els := ⟨hl, (hF2.2.2 10 (by decide)).trans hX.2.1, fun k E' h => gd_frame (hX.2.2 k E' h) (fun q hq _ => hq2 q (by have := eo_ge e n (s k); omega))⟩
  have hbt : ∀ k, k < 24 → (nI k = nI i ↔ k = i) := fun k hk => nI_eq (by omega) (by omega)
  have hdiv := c_divide (g := g) (d := d) (σ := (f2, σ.2)) (G := sp_G els) (w := E.1.drop 1) (bt := i) (btx := nI i) (c := lim - m) (lim := lim) hE hS hX2.eg hP2 hww hbt ((congrFun (hq2 e (by omega)) 11).trans h11) ((congrFun (hq2 e (by omega)) 12).trans h12) (by omega) hlim hr
  rw [show lim - (lim - m) = m by omega] at hdiv
  refine jm_run ok_G_reduce [] 90 (fun kk hk => ?_)
  conv => whnf
  refine hk _ _ _ _ ?_
  unfold sp_red
  rw [sp_at0_at gi]
  refine k_G_reduce_39 rfl hdiv (fun u hu => ?_)
  have hdl := fun n' qs' rest' => sp_dl_len (j := j) (G := sp_G els) (bt := i) (n := m) (n' := n') (w := E.1.drop 1) (rest := []) (rest' := rest') (qs := List.replicate (sp_G els).length []) (qs' := qs')
  have hdb := fun n' qs' rest' => sp_dl_but (j := j) (G := sp_G els) (bt := i) (n := m) (n' := n') (w := E.1.drop 1) (rest := []) (rest' := rest') (qs := List.replicate (sp_G els).length []) (qs' := qs')
  generalize sp_dl j (sp_G els) i m (E.1.drop 1) (List.replicate (sp_G els).length []) [] = o at hu hdl hdb hne
  obtain ⟨o1, o2⟩ := o
  obtain ⟨f3, hFD, h113, hm3, h3⟩ := hu
  have hF3 : FP σ f3 e (eo e n (s i)) n := hF2.div hFD
  rcases h3 with ⟨qs, rest, hor, hu, hQ, hRest, hrw⟩ | ⟨x, hox, hu⟩
  · subst hu
    have hor' : o2 = .inr (qs, rest) := hor
    subst hor'
    show J g (d + 9) 62 42 _ _ (f3, σ.2) _
    have hql := hdl o1 qs rest rfl
    have hqb := hdb o1 qs rest rfl
    rw [List.length_replicate, hGl] at hql
    rw [List.getElem?_replicate, if_pos (by omega)] at hqb
    dsimp only
    refine jm_run ok_G_reduce [45] 90 (fun kk hk => ?_)
    conv => whnf
    exact hk _ _ _ _ (shr o1 rest qs hm3 hrw hql hqb (fun p hp => hne o1 qs rest p rfl hp) E.2 [] f3 hF3 h113 hRest hQ (fun k p hp => PA_frame (hgd.1.2 k p hp) ((hFD.1 _ (by omega)).trans (hq2 _ (by omega))) ((hFD.1 _ (by omega)).trans (hq2 _ (by omega))) ((hFD.1 _ (by omega)).trans (hq2 _ (by omega))) ((hFD.1 _ (by omega)).trans (hq2 _ (by omega)))) (fun _ h => by cases h) hgd.2.1.2 (by rw [hgd.2.2.2]; exact Nat.zero_add _) (by cases sp_shs j qs els 0 E.2 <;> rfl))
  · subst hu
    have hox' : o2 = .inl x := hox
    subst hox'
    exact ⟨f3, out f3 hF3, hF3.2.2, h113, hm3, Or.inr ⟨_, rfl, rfl⟩⟩
end
