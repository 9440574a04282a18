/-! Engine pair, its beginning -/
theorem sp_at0_at {els : List sp_E} {i : Nat} {E : sp_E} (h : els[i]? = some E) : sp_at0 els i = E := by
  unfold sp_at0
  rw [List.getD_eq_getElem?_getD, h]; rfl
theorem gl_G {els : List sp_E} {i : Nat} {E : sp_E} (h : els[i]? = some E) : gl (sp_G els) i = sp_ld E.1 := by
  apply gl_at
  unfold sp_G
  rw [List.getElem?_map, h]; rfl
section
variable {g : jm_G} {d : Nat} {σ : jm_S} {e n j : Nat} {s : Nat → Nat}
theorem c_pairB {sh c m lim ii ik : Nat} {st : sp_ES} {z3 : Option jm_V} {a b : sp_M} {wk : sp_P} {Ei Ek : sp_E} (hE : EL g σ e n) (hS : EP g σ e n j s) (hn : n ≤ 8) (hsh : sh ≤ n) (hR : ER σ.1 e n s sh st.1 st.2) (hc : c = st.1.length) (h15 : σ.1 e 15 = nI c) (h12 : σ.1 e 12 = nI lim) (hlim : lim ≤ 20000) (hr : sp_rm g σ)
    (hm : m ≤ lim) (hi : st.1[ii]? = some Ei) (hik : st.1[ik]? = some Ek) (ha : sp_ok a) (hb : sp_ok b) (hww : sp_pw wk) : ∀ (r1 r2 q : List sp_P) (f : Nat → Nat → Int32), FP σ f e (eo e n (s c)) n → f e 11 = nI (lim - m) → PA f (e + 105) wk → Ei.2.drop q.length = r1 → Ek.2.drop q.length = r2 → (∀ k p, q[k]? = some p → PA f (eo e n (s c) + 6 + 4 * k) p) → (∀ p ∈ q, sp_pw p) → q.length ≤ sh → sp_ss j a b Ei.2 Ek.2 = (sp_ss j a b r1 r2).map (fun r' => q ++ r') →
    J g (d + 9) 56 96 [some (aR 2 e), some (aI (nI ii)), some (aI (nI ik)), z3, some (aI (nI sh)), some (aI (sp_c a)), some (aI (sp_c b)), some (aR 3 (eo e n (s c))), some (aI (nI q.length))] [] (f, σ.2) (jPr σ e n s sh c lim (match sp_ss j a b Ei.2 Ek.2 with
    | none => (m, .inl (-7))
    | some ss => sp_add j st ss (sp_dl j (sp_G st.1) 1000 m wk (List.replicate (sp_G st.1).length []) []))) := by
  obtain ⟨⟨x0, x1, x2, x3, x4, x5, x16⟩, ⟨y2, y3, y4, y113⟩, qp, rp, wp, ep⟩ := id hE
  obtain ⟨hj, ho, hs, hinj⟩ := id hS
  have hl := hR.1
  have hsc := hs c (by omega)
  have hec := ep _ hsc.1
  have hge := eo_ge e n (s c)
  have h25 := eo_25 (e := e) (n := n) hsc.1
  have out : ∀ f', FP σ f' e (eo e n (s c)) n → (∀ q, ¬ (e ≤ q ∧ q < eo e n 25) → f' q = σ.1 q) := fun f' hf' q hq => hf'.1 q (by omega) (by omega)
  have hi1 := (List.getElem?_eq_some_iff.mp hi).1
  have hk1 := (List.getElem?_eq_some_iff.mp hik).1
  have hsi := hs ii (by omega)
  have hsk := hs ik (by omega)
  have hei := ep _ hsi.1
  have hek := ep _ hsk.1
  have hsepi := eo_ne (e := e) (n := n) (show s ii ≠ s c from fun h9 => by have := hinj ii c (by omega) (by omega) h9; omega)
  have hsepk := eo_ne (e := e) (n := n) (show s ik ≠ s c from fun h9 => by have := hinj ik c (by omega) (by omega) h9; omega)
  have hgi := eo_ge e n (s ii)
  have hgk := eo_ge e n (s ik)
  have hil := (hR.2.2.1 ii Ei hi).2.2.2
  have hkl := (hR.2.2.1 ik Ek hik).2.2.2
  intro r1
  induction r1 with
  | nil =>
    intro r2 q f hF h11 hW hd1 hd2 hq hqw hlen he
    have hql : Ei.2.length ≤ q.length := List.drop_eq_nil_iff.mp hd1
    have he' : sp_ss j a b Ei.2 Ek.2 = some q := by rw [he]; simp [sp_ss]
    rw [he']
    refine jm_run ok_G_pair [96, 191] 90 (fun kk hk => ?_)
    conv => whnf
    refine b_le (a := sh) rfl rfl (fun _ => ?_) (fun h => by omega)
    conv => whnf
    exact hk _ _ _ _ (c_pairC hE hS hn hsh hR hc h15 h12 hlim hr hm hF h11 hW hww hq hqw (by omega))
  | cons y1 r1 ih =>
    intro r2 q f hF h11 hW hd1 hd2 hq hqw hlen he
    have g1 : Ei.2[q.length]? = some y1 := by rw [← Nat.add_zero q.length, ← List.getElem?_drop, hd1]; rfl
    have hq1 := (List.getElem?_eq_some_iff.mp g1).1
    have hq2 : q.length < Ek.2.length := by omega
    have g2 : Ek.2[q.length]? = some Ek.2[q.length] := List.getElem?_eq_getElem hq2
    generalize Ek.2[q.length] = y2' at g2
    have hd2' : r2 = y2' :: Ek.2.drop (q.length + 1) := by
      rw [← hd2, List.drop_eq_getElem_cons hq2]
      congr 1
      rw [List.getElem?_eq_getElem hq2] at g2
      exact Option.some.inj g2
    have hdr : Ei.2.drop (q.length + 1) = r1 := by rw [← List.drop_drop, hd1]; rfl
    rw [hd2', sp_ss] at he
    have hRf := FP.er hS hR hsh hc hF
    have eiA := hRf.2.2.1 ii Ei hi
    have ekA := hRf.2.2.1 ik Ek hik
    have yw1 := eiA.2.1.2 _ (List.mem_of_getElem? g1)
    have yw2 := ekA.2.1.2 _ (List.mem_of_getElem? g2)
    have sq := hec.2.2.2.2 q.length (by omega)
    have sqi := hei.2.2.2.2 q.length (by omega)
    have sqk := hek.2.2.2.2 q.length (by omega)
    obtain ⟨f1, hf1⟩ : ∃ f1, f1 = (jm_wi (f, σ.2) (eo e n (s c) + 6 + 4 * q.length) 0 0).1 := ⟨_, rfl⟩
    have hst : jm_wi (f, σ.2) (eo e n (s c) + 6 + 4 * q.length) 0 0 = (f1, σ.2) := by rw [hf1]; rfl
    have f1q : ∀ y, y ≠ eo e n (s c) + 6 + 4 * q.length → f1 y = f y := by intro y hy; rw [hf1, jm_wi_q hy]
    have f10 : f1 (eo e n (s c) + 6 + 4 * q.length) 0 = 0 := by rw [hf1, jm_wi_at]
    have hi2 : PA f1 (eo e n (s ii) + 6 + 4 * q.length) y1 := PA_frame (eiA.1.2 _ _ g1) (f1q _ (by omega)) (f1q _ (by omega)) (f1q _ (by omega)) (f1q _ (by omega))
    refine jm_run ok_G_pair [96, 191] 90 (fun kk hk => ?_)
    conv => whnf
    refine b_le (a := sh) rfl rfl (fun h => by omega) (fun _ => ?_)
    conv => whnf
    refine jg hec.2.1 ?_
    conv => whnf
    refine jr rfl hec.2.2.2.1 sq.1 ?_
    conv => whnf
    rw [hst]
    refine jg hec.2.1 ?_
    conv => whnf
    refine jr rfl hec.2.2.2.1 sq.1 ?_
    conv => whnf
    refine jg ho ?_
    conv => whnf
    refine jg x0 ?_
    conv => whnf
    refine jg x1 ?_
    conv => whnf
    refine jr rfl y2 hsi.2 ?_
    conv => whnf
    refine jg hei.2.1 ?_
    conv => whnf
    refine jr rfl hei.2.2.2.1 sqi.1 ?_
    conv => whnf
    refine hk _ _ _ _ (k_G_pair_147 rfl (c_plus (σ := (f1, σ.2)) (A := 1) (B := 1) sq.2 (PA_nil f10) sp_pw_nil sqi.2 hi2 yw1 hj sp_cf1 ha (by omega) (by omega) (by unfold dj; omega) hr) (fun u hu => ?_))
    obtain ⟨f2, hf2, h2⟩ := hu
    have f2q : ∀ y, ¬ (eo e n (s c) + 6 + 4 * q.length ≤ y ∧ y ≤ eo e n (s c) + 6 + 4 * q.length + 3) → y ≠ e + 1 → f2 y = f y := fun y hy hy2 => (hf2 y hy hy2).trans (f1q y (by omega))
    have hF2 : FP σ f2 e (eo e n (s c)) n := hF.step (by omega) (fun y a1 a2 a3 => f2q y (by omega) a3)
    have h112 : f2 e 11 = nI (lim - m) := (congrFun (f2q e (by omega) (by omega)) 11).trans h11
    rcases h2 with ⟨p2, hp2, hu, hPA⟩ | ⟨hn0, hu⟩
    · subst hu
      show J g (d + 9) 56 150 _ _ (f2, σ.2) _
      have hk2 : PA f2 (eo e n (s ik) + 6 + 4 * q.length) y2' := PA_frame (ekA.1.2 _ _ g2) (f2q _ (by omega) (by omega)) (f2q _ (by omega) (by omega)) (f2q _ (by omega) (by omega)) (f2q _ (by omega) (by omega))
      have p2w := sp_plus_w sp_cf1 sp_pw_nil yw1.2 hp2
      refine jm_run ok_G_pair [96, 191] 90 (fun kk hk => ?_)
      conv => whnf
      refine jg hec.2.1 ?_
      conv => whnf
      refine jr rfl hec.2.2.2.1 sq.1 ?_
      conv => whnf
      refine jg ho ?_
      conv => whnf
      refine jg x0 ?_
      conv => whnf
      refine jg x1 ?_
      conv => whnf
      refine jr rfl y2 hsk.2 ?_
      conv => whnf
      refine jg hek.2.1 ?_
      conv => whnf
      refine jr rfl hek.2.2.2.1 sqk.1 ?_
      conv => whnf
      refine hk _ _ _ _ (k_G_pair_182 rfl (c_plus (σ := (f2, σ.2)) (A := -1) (B := 1) sq.2 hPA p2w sqk.2 hk2 yw2 hj sp_cfm hb (by omega) (by omega) (by unfold dj; omega) hr) (fun u hu => ?_))
      obtain ⟨f3, hf3, h3⟩ := hu
      have f3q : ∀ y, ¬ (eo e n (s c) + 6 + 4 * q.length ≤ y ∧ y ≤ eo e n (s c) + 6 + 4 * q.length + 3) → y ≠ e + 1 → f3 y = f y := fun y hy hy2 => (hf3 y hy hy2).trans (f2q y hy hy2)
      have hF3 : FP σ f3 e (eo e n (s c)) n := hF.step (by omega) (fun y a1 a2 a3 => f3q y (by omega) a3)
      have h113 : f3 e 11 = nI (lim - m) := (congrFun (f3q e (by omega) (by omega)) 11).trans h11
      have hs2 : sp_s2 j a b y1 y2' = sp_plus j (-1) 1 b p2 y2' := by unfold sp_s2; rw [hp2]; rfl
      rcases h3 with ⟨p3, hp3, hu, hPA3⟩ | ⟨hn0, hu⟩
      · subst hu
        show J g (d + 9) 56 185 _ _ (f3, σ.2) _
        have p3w := sp_plus_w sp_cfm p2w yw2.2 hp3
        have := ih (Ek.2.drop (q.length + 1)) (q ++ [p3]) f3 hF3 h113 (PA_frame hW (f3q _ (by omega) (by omega)) (f3q _ (by omega) (by omega)) (f3q _ (by omega) (by omega)) (f3q _ (by omega) (by omega))) (by rw [List.length_append]; exact hdr) (by rw [List.length_append]; rfl) (fun k y hy => by
            by_cases hkq : k = q.length
            · subst hkq
              rw [List.getElem?_append_right (Nat.le_refl _), Nat.sub_self] at hy
              cases hy
              exact hPA3
            · have hkl2 := (List.getElem?_eq_some_iff.mp hy).1
              rw [List.length_append] at hkl2
              have hkl3 : k < q.length + 1 := hkl2
              rw [List.getElem?_append_left (by omega)] at hy
              exact PA_frame (hq k y hy) (f3q _ (by omega) (by omega)) (f3q _ (by omega) (by omega)) (f3q _ (by omega) (by omega)) (f3q _ (by omega) (by omega))) (fun y hy => by
            rcases List.mem_append.mp hy with h | h
            · exact hqw y h
            · rw [List.mem_singleton] at h; subst h; exact p3w) (by rw [List.length_append]; show q.length + 1 ≤ sh; omega) (by
            rw [he, hs2, hp3]
            show Option.map _ (Option.map _ (sp_ss j a b r1 (Ek.2.drop (q.length + 1)))) = _
            rw [Option.map_map]
            congr 1
            funext r'
            show q ++ p3 :: r' = q ++ [p3] ++ r'
            rw [List.append_assoc]; rfl)
        rw [List.length_append] at this
        refine jm_run ok_G_pair [96] 90 (fun kk hk => ?_)
        conv => whnf
        rw [nI_1]
        exact hk _ _ _ _ this
      · subst hu
        rw [he, hs2, hn0]
        exact ⟨f3, out f3 hF3, fun k b1 b2 b3 => hF3.2.2 k b2, h113, hm, Or.inr ⟨_, rfl, rfl, (hF3.2.2 15 (by decide)).trans h15⟩⟩
    · subst hu
      have hs2 : sp_s2 j a b y1 y2' = none := by unfold sp_s2; rw [hn0]; rfl
      rw [he, hs2]
      exact ⟨f2, out f2 hF2, fun k b1 b2 b3 => hF2.2.2 k b2, h112, hm, Or.inr ⟨_, rfl, rfl, (hF2.2.2 15 (by decide)).trans h15⟩⟩
theorem c_pair {sh m lim ii ik : Nat} {st : sp_ES} (hE : EL g σ e n) (hS : EP g σ e n j s) (hn : n ≤ 8) (hsh : sh ≤ n) (hR : ER σ.1 e n s sh st.1 st.2) (h15 : σ.1 e 15 = nI st.1.length) (h11 : σ.1 e 11 = nI (lim - m)) (h12 : σ.1 e 12 = nI lim) (hlim : lim ≤ 20000) (hr : sp_rm g σ) (hm : m ≤ lim) (hi : ii < st.1.length) (hik : ik < st.1.length) :
    J g (d + 9) 56 0 [some (aR 2 e), some (aI (nI ii)), some (aI (nI ik)), some (aI (sp_c (sp_cm (gl (sp_G st.1) ii) (gl (sp_G st.1) ik)))), some (aI (nI sh)), none, none, none, none] [] σ (jPr σ e n s sh st.1.length lim (sp_pair j m st ii ik)) := by
  obtain ⟨⟨x0, x1, x2, x3, x4, x5, x16⟩, ⟨y2, y3, y4, y113⟩, qp, rp, wp, ep⟩ := id hE
  obtain ⟨hj, ho, hs, hinj⟩ := id hS
  have hl := hR.1
  have hsc := hs st.1.length (by omega)
  have hec := ep _ hsc.1
  have hge := eo_ge e n (s st.1.length)
  have h25 := eo_25 (e := e) (n := n) hsc.1
  have g1 : st.1[ii]? = some st.1[ii] := List.getElem?_eq_getElem hi
  have g2 : st.1[ik]? = some st.1[ik] := List.getElem?_eq_getElem hik
  generalize st.1[ii] = Ei at g1
  generalize st.1[ik] = Ek at g2
  have out : ∀ f', FP σ f' e (eo e n (s st.1.length)) n → (∀ q, ¬ (e ≤ q ∧ q < eo e n 25) → f' q = σ.1 q) := fun f' hf' q hq => hf'.1 q (by omega) (by omega)
  have eiA := hR.2.2.1 ii Ei g1
  have ekA := hR.2.2.1 ik Ek g2
  have hsi := hs ii (by omega)
  have hsk := hs ik (by omega)
  have hei := ep _ hsi.1
  have hek := ep _ hsk.1
  have hgi := eo_ge e n (s ii)
  have hgk := eo_ge e n (s ik)
  have hGl : (sp_G st.1).length = st.1.length := by rw [sp_G, List.length_map]
  have hEG : EG σ.1 e n s (sp_G st.1) := hR.eg
  have o1 := gl_ok hEG (show ii < (sp_G st.1).length by omega)
  have o2 := gl_ok hEG (show ik < (sp_G st.1).length by omega)
  have oc := sp_cm_ok o1 o2
  have dv := sp_cm_dv (gl (sp_G st.1) ii) (gl (sp_G st.1) ik)
  have oa := sp_sb_ok (gl (sp_G st.1) ii) oc
  have ob := sp_sb_ok (gl (sp_G st.1) ik) oc
  obtain ⟨f1, hf1⟩ : ∃ f1, f1 = (jm_wi σ (e + 105) 0 0).1 := ⟨_, rfl⟩
  have hst : jm_wi σ (e + 105) 0 0 = (f1, σ.2) := by rw [hf1]; rfl
  have f1q : ∀ y, y ≠ e + 105 → f1 y = σ.1 y := by intro y hy; rw [hf1, jm_wi_q hy]
  have f10 : f1 (e + 105) 0 = 0 := by rw [hf1, jm_wi_at]
  have hi2 : PA f1 (eo e n (s ii) + 1) Ei.1 := PA_frame eiA.1.1 (f1q _ (by omega)) (f1q _ (by omega)) (f1q _ (by omega)) (f1q _ (by omega))
  refine jm_run ok_G_pair [] 90 (fun kk hk => ?_)
  conv => whnf
  refine hk _ _ _ _ (k_G_pair_3 rfl (c_leadG hE hS hEG (by omega : ii < (sp_G st.1).length)) (fun u hu => ?_))
  subst hu
  show J g (d + 9) 56 6 _ _ σ _
  refine jm_run ok_G_pair [] 90 (fun kk hk => ?_)
  conv => whnf
  refine hk _ _ _ _ (k_G_pair_12 rfl (c_leadG hE hS hEG (by omega : ik < (sp_G st.1).length)) (fun u hu => ?_))
  subst hu
  show J g (d + 9) 56 15 _ _ σ _
  have e10 : σ.1 e 10 = nI st.1.length := hR.2.1
  refine jm_run ok_G_pair [] 90 (fun kk hk => ?_)
  conv => whnf
  refine jg x1 ?_
  conv => whnf
  refine jr e10 y2 hsc.2 ?_
  conv => whnf
  refine jg x5 ?_
  conv => whnf
  rw [hst]
  refine jg x5 ?_
  conv => whnf
  refine jg ho ?_
  conv => whnf
  refine jg x0 ?_
  conv => whnf
  refine jg x1 ?_
  conv => whnf
  refine jr rfl y2 hsi.2 ?_
  conv => whnf
  refine jg hei.1 ?_
  conv => whnf
  rw [sp_sb_c dv.1, sp_sb_c dv.2]
  refine hk _ _ _ _ ?_
  unfold sp_pair
  rw [sp_at0_at g1, sp_at0_at g2]
  refine (k_G_pair_62 rfl (c_plus (σ := (f1, σ.2)) (A := 1) (B := 1) wp (PA_nil f10) sp_pw_nil hei.2.2.1 hi2 eiA.2.1.1 hj sp_cf1 oa (by omega) (by omega) (by unfold dj; omega) hr) (fun u hu => ?_))
  obtain ⟨f2, hf2, h2⟩ := hu
  have f2q : ∀ y, ¬ (e + 105 ≤ y ∧ y ≤ e + 105 + 3) → y ≠ e + 1 → f2 y = σ.1 y := fun y hy hy2 => (hf2 y hy hy2).trans (f1q y (by omega))
  have hF2 : FP σ f2 e (eo e n (s st.1.length)) n := ⟨fun q a1 a2 => f2q q (by omega) (by omega), f2q _ (by omega) (by omega), fun k _ => congrFun (f2q e (by omega) (by omega)) k⟩
  have h112 : f2 e 11 = nI (lim - m) := (congrFun (f2q e (by omega) (by omega)) 11).trans h11
  rcases h2 with ⟨p2, hp2, hu, hPA⟩ | ⟨hn0, hu⟩
  · subst hu
    show J g (d + 9) 56 65 _ _ (f2, σ.2) _
    have hk2 : PA f2 (eo e n (s ik) + 1) Ek.1 := PA_frame ekA.1.1 (f2q _ (by omega) (by omega)) (f2q _ (by omega) (by omega)) (f2q _ (by omega) (by omega)) (f2q _ (by omega) (by omega))
    have p2w := sp_plus_w sp_cf1 sp_pw_nil eiA.2.1.1.2 hp2
    refine jm_run ok_G_pair [] 90 (fun kk hk => ?_)
    conv => whnf
    refine jg x5 ?_
    conv => whnf
    refine jg ho ?_
    conv => whnf
    refine jg x0 ?_
    conv => whnf
    refine jg x1 ?_
    conv => whnf
    refine jr rfl y2 hsk.2 ?_
    conv => whnf
    refine jg hek.1 ?_
    conv => whnf
    refine hk _ _ _ _ (k_G_pair_90 rfl (c_plus (σ := (f2, σ.2)) (A := -1) (B := 1) wp hPA p2w hek.2.2.1 hk2 ekA.2.1.1 hj sp_cfm ob (by omega) (by omega) (by unfold dj; omega) hr) (fun u hu => ?_))
    obtain ⟨f3, hf3, h3⟩ := hu
    have f3q : ∀ y, ¬ (e + 105 ≤ y ∧ y ≤ e + 105 + 3) → y ≠ e + 1 → f3 y = σ.1 y := fun y hy hy2 => (hf3 y hy hy2).trans (f2q y hy hy2)
    have hF3 : FP σ f3 e (eo e n (s st.1.length)) n := ⟨fun q a1 a2 => f3q q (by omega) (by omega), f3q _ (by omega) (by omega), fun k _ => congrFun (f3q e (by omega) (by omega)) k⟩
    have h113 : f3 e 11 = nI (lim - m) := (congrFun (f3q e (by omega) (by omega)) 11).trans h11
    rw [sp_s2, hp2]
    rcases h3 with ⟨p3, hp3, hu, hPA3⟩ | ⟨hn0, hu⟩
    · subst hu
      show J g (d + 9) 56 93 _ _ (f3, σ.2) _
      have p3w := sp_plus_w sp_cfm p2w ekA.2.1.1.2 hp3
      rw [show Option.bind (some p2) (fun x => sp_plus j (-1) 1 (sp_sb (sp_cm (gl (sp_G st.1) ii) (gl (sp_G st.1) ik)) (gl (sp_G st.1) ik)) x Ek.1) = some p3 from hp3]
      refine jm_run ok_G_pair [96] 90 (fun kk hk => ?_)
      conv => whnf
      exact hk _ _ _ _ (c_pairB hE hS hn hsh hR rfl h15 h12 hlim hr hm g1 g2 oa ob p3w Ei.2 Ek.2 [] f3 hF3 h113 hPA3 rfl rfl (fun k p h => by cases h) (fun p h => by cases h) (Nat.zero_le _) (by cases sp_ss j (sp_sb (sp_cm (gl (sp_G st.1) ii) (gl (sp_G st.1) ik)) (gl (sp_G st.1) ii)) (sp_sb (sp_cm (gl (sp_G st.1) ii) (gl (sp_G st.1) ik)) (gl (sp_G st.1) ik)) Ei.2 Ek.2 <;> rfl))
    · subst hu
      rw [show Option.bind (some p2) (fun x => sp_plus j (-1) 1 (sp_sb (sp_cm (gl (sp_G st.1) ii) (gl (sp_G st.1) ik)) (gl (sp_G st.1) ik)) x Ek.1) = none from hn0]
      exact ⟨f3, out f3 hF3, fun k b1 b2 b3 => hF3.2.2 k b2, h113, hm, Or.inr ⟨_, rfl, rfl, (hF3.2.2 15 (by decide)).trans h15⟩⟩
  · subst hu
    rw [sp_s2, hn0]
    exact ⟨f2, out f2 hF2, fun k b1 b2 b3 => hF2.2.2 k b2, h112, hm, Or.inr ⟨_, rfl, rfl, (hF2.2.2 15 (by decide)).trans h15⟩⟩
end
