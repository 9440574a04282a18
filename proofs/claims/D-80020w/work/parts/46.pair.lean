/-! Engine pair -/
def sp_s2 (j : Nat) (a b : sp_M) (p q : sp_P) : Option sp_P := (sp_plus j 1 1 a [] p).bind (fun x => sp_plus j (-1) 1 b x q)
def sp_ss (j : Nat) (a b : sp_M) : List sp_P → List sp_P → Option (List sp_P)
  | p :: ps, q :: qs => (sp_s2 j a b p q).bind (fun x => (sp_ss j a b ps qs).map (fun r => x :: r))
  | _, _ => some []
def sp_col (els : List sp_E) (k : Nat) : List sp_P := els.map (fun E => E.2.getD k [])
def sp_shs (j : Nat) (qs : List sp_P) (els : List sp_E) : Nat → List sp_P → Option (List sp_P)
  | _, [] => some []
  | k, x :: r => (sp_sh j (-1) qs (sp_col els k) x).bind (fun y => (sp_shs j qs els (k + 1) r).map (fun r' => y :: r'))
def sp_G (els : List sp_E) : List sp_P := els.map (fun E => E.1)
def sp_at0 (els : List sp_E) (i : Nat) : sp_E := els.getD i ([], [])
/-- the rest of a division, with its shares, joins -/
def sp_add (j : Nat) (st : sp_ES) (ss : List sp_P) (o : Nat × (Int32 ⊕ (List sp_P × sp_P))) : Nat × (Int32 ⊕ sp_ES) := match o.2 with
  | .inl c => (o.1, .inl c)
  | .inr qr => if qr.2.length = 0 then (o.1, .inr st) else match sp_shs j qr.1 st.1 0 ss with
    | none => (o.1, .inl (-7))
    | some ss' => match sp_mon (qr.2, ss') with
      | none => (o.1, .inl (-7))
      | some E => if st.1.length = 24 then (o.1, .inl (-7)) else (o.1, .inr (st.1 ++ [E], sp_jw st.1.length st.2))
def sp_pair (j n : Nat) (st : sp_ES) (i k : Nat) : Nat × (Int32 ⊕ sp_ES) :=
  match sp_s2 j (sp_sb (sp_cm (gl (sp_G st.1) i) (gl (sp_G st.1) k)) (gl (sp_G st.1) i)) (sp_sb (sp_cm (gl (sp_G st.1) i) (gl (sp_G st.1) k)) (gl (sp_G st.1) k)) (sp_at0 st.1 i).1 (sp_at0 st.1 k).1 with
  | none => (n, .inl (-7))
  | some wk => match sp_ss j (sp_sb (sp_cm (gl (sp_G st.1) i) (gl (sp_G st.1) k)) (gl (sp_G st.1) i)) (sp_sb (sp_cm (gl (sp_G st.1) i) (gl (sp_G st.1) k)) (gl (sp_G st.1) k)) (sp_at0 st.1 i).2 (sp_at0 st.1 k).2 with
    | none => (n, .inl (-7))
    | some ss => sp_add j st ss (sp_dl j (sp_G st.1) 1000 n wk (List.replicate (sp_G st.1).length []) [])
theorem jO_some {σ : jm_S} {a x : Nat} {p : sp_P} {u : jm_O} (h : jO σ a x (some p) u) : ∃ f : Nat → Nat → Int32, (∀ q, ¬ (a ≤ q ∧ q ≤ a + 3) → q ≠ x → f q = σ.1 q) ∧ u = ((f, σ.2), .inl none) ∧ PA f a p := by
  obtain ⟨f, hf, ⟨p', hp, hu, hP⟩ | ⟨h0, -⟩⟩ := h
  · cases hp; exact ⟨f, hf, hu, hP⟩
  · cases h0
theorem sp_dl_len {j : Nat} {G : List sp_P} {bt : Nat} : ∀ {n n' : Nat} {w rest rest' : sp_P} {qs qs' : List sp_P}, sp_dl j G bt n w qs rest = (n', .inr (qs', rest')) → qs'.length = qs.length
  | n, n', [], rest, rest', qs, qs', h => by
    rw [sp_dl] at h
    cases h; rfl
  | 0, n', t :: w, rest, rest', qs, qs', h => by
    rw [sp_dl] at h
    cases h
  | n + 1, n', t :: w, rest, rest', qs, qs', h => by
    rw [sp_dl] at h
    split at h
    · split at h
      · cases h
      · exact sp_dl_len h
    · split at h
      · cases h
      · split at h
        · cases h
        · split at h
          · cases h
          · have := sp_dl_len h
            rw [List.length_set] at this
            exact this
theorem sp_cf1 : sp_cf 1 1 := ⟨by decide, by decide, by decide, by decide⟩
theorem sp_cfm : sp_cf (-1) 1 := ⟨by decide, by decide, by decide, by decide⟩
theorem sp_s2_w {j : Nat} {a b : sp_M} {p q r : sp_P} (hp : sp_pw p) (hq : sp_pw q) (h : sp_s2 j a b p q = some r) : sp_pw r := by
  unfold sp_s2 at h
  cases h1 : sp_plus j 1 1 a [] p with
  | none => rw [h1] at h; cases h
  | some x =>
    rw [h1] at h
    exact sp_plus_w sp_cfm (sp_plus_w sp_cf1 sp_pw_nil hp.2 h1) hq.2 h
/-- what pair leaves as it was, before it joins: o is the block of the new element -/
def FP (σ : jm_S) (f : Nat → Nat → Int32) (e o n : Nat) : Prop := (∀ q, ¬ (e ≤ q ∧ q ≤ e + 108) → ¬ (o ≤ q ∧ q < o + 6 + 4 * n) → f q = σ.1 q) ∧ f (e + 3) = σ.1 (e + 3) ∧ ∀ k, k ≠ 11 → f e k = σ.1 e k
theorem FP.step {σ : jm_S} {f f' : Nat → Nat → Int32} {e o n : Nat} (h : FP σ f e o n) (ho : e + 114 ≤ o) (h1 : ∀ q, ¬ (e + 5 ≤ q ∧ q ≤ e + 108) → ¬ (o ≤ q ∧ q < o + 6 + 4 * n) → q ≠ e + 1 → f' q = f q) : FP σ f' e o n :=
  ⟨fun q hq hq2 => (h1 q (by omega) hq2 (by omega)).trans (h.1 q hq hq2), (h1 _ (by omega) (by omega) (by omega)).trans h.2.1, fun k hk => (congrFun (h1 e (by omega) (by omega) (by omega)) k).trans (h.2.2 k hk)⟩
theorem FP.div {σ : jm_S} {f f' : Nat → Nat → Int32} {e o n : Nat} (h : FP σ f e o n) (h1 : FD (f, σ.2) f' e) : FP σ f' e o n :=
  ⟨fun q hq hq2 => (h1.1 q hq).trans (h.1 q hq hq2), h1.2.1.trans h.2.1, fun k hk => (h1.2.2 k hk).trans (h.2.2 k hk)⟩
/-- how pair ends -/
def jPr (σ : jm_S) (e n : Nat) (s : Nat → Nat) (sh c lim : Nat) (r : Nat × (Int32 ⊕ sp_ES)) : jm_O → Prop := fun u => ∃ f : Nat → Nat → Int32, (∀ q, ¬ (e ≤ q ∧ q < eo e n 25) → f q = σ.1 q) ∧ (∀ k, k ≠ 10 → k ≠ 11 → k ≠ 15 → f e k = σ.1 e k) ∧ f e 11 = nI (lim - r.1) ∧ r.1 ≤ lim ∧ ((∃ st, r.2 = .inr st ∧ u = ((f, σ.2), .inl none) ∧ ER f e n s sh st.1 st.2 ∧ f e 15 = nI st.1.length) ∨ (∃ x, r.2 = .inl x ∧ u = jT σ f x ∧ f e 15 = nI c))
section
variable {g : jm_G} {d : Nat} {σ : jm_S} {e n j : Nat} {s : Nat → Nat}
theorem FP.er {f : Nat → Nat → Int32} {sh c : Nat} {st : sp_ES} (hS : EP g σ e n j s) (hR : ER σ.1 e n s sh st.1 st.2) (hsh : sh ≤ n) (hc : c = st.1.length) (h : FP σ f e (eo e n (s c)) n) : ER f e n s sh st.1 st.2 := by
  have hl := hR.1
  refine ER_frame hR hsh (h.2.2 10 (by decide)) h.2.1 (fun i hi q h1 h2 => ?_)
  have hne : s i ≠ s c := fun h9 => by have := hS.2.2.2 i c (by omega) (by omega) h9; omega
  have hsep := eo_ne (e := e) (n := n) hne
  have hge := eo_ge e n (s i)
  exact h.1 q (by omega) (by omega)
/-- pair, from where the shares are done -/
theorem c_pairE {sh c m lim : Nat} {st : sp_ES} {i k : Int32} {z3 z5 z6 z8 : Option jm_V} {rest : sp_P} {ss : List sp_P} {f : Nat → Nat → Int32} (hE : EL g σ e n) (hS : EP g σ e n j s) (hn : n ≤ 8) (hsh : sh ≤ n) (hR : ER σ.1 e n s sh st.1 st.2) (hc : c = st.1.length) (h15 : σ.1 e 15 = nI c) (hr : sp_rm g σ)
    (hF : FP σ f e (eo e n (s c)) n) (h11 : f e 11 = nI (lim - m)) (hm : m ≤ lim) (hrest : PA f (e + 101) rest) (hrw : sp_pw rest) (hr0 : rest ≠ []) (hss : ∀ k p, ss[k]? = some p → PA f (eo e n (s c) + 6 + 4 * k) p) (hsw : ∀ p ∈ ss, sp_pw p) (hsl : ss.length = sh) :
    J g (d + 9) 56 237 [some (aR 2 e), some (aI i), some (aI k), z3, some (aI (nI sh)), z5, z6, some (aR 3 (eo e n (s c))), z8] [] (f, σ.2) (jPr σ e n s sh c lim (match sp_mon (rest, ss) with
      | none => (m, .inl (-7))
      | some E => if st.1.length = 24 then (m, .inl (-7)) else (m, .inr (st.1 ++ [E], sp_jw st.1.length st.2)))) := by
  obtain ⟨⟨x0, x1, x2, x3, x4, x5, x16⟩, ⟨y2, y3, y4, y113⟩, qp, rp, wp, ep⟩ := id hE
  obtain ⟨hj, ho, hs, hinj⟩ := id hS
  have hl := hR.1
  have hsc := hs c (by omega)
  have hec := ep _ hsc.1
  have hge := eo_ge e n (s c)
  have h25 := eo_25 (e := e) (n := n) hsc.1
  have out : ∀ f', FP σ f' e (eo e n (s c)) n → (∀ q, ¬ (e ≤ q ∧ q < eo e n 25) → f' q = σ.1 q) := fun f' hf' q hq => hf'.1 q (by omega) (by omega)
  refine jm_run ok_G_pair [] 90 (fun kk hk => ?_)
  conv => whnf
  refine jg hec.1 ?_
  conv => whnf
  refine jg x4 ?_
  conv => whnf
  refine hk _ _ _ _ (k_G_pair_246 rfl (c_become (σ := (f, σ.2)) hec.2.2.1 rp hrest hrw.1 (by unfold dj; omega)) (fun u hu => ?_))
  obtain ⟨f2, hf2, hu, hPA⟩ := jO_some hu
  subst hu
  show J g (d + 9) 56 249 _ _ (f2, σ.2) _
  have hF2 : FP σ f2 e (eo e n (s c)) n := hF.step (by omega) (fun q a1 a2 a3 => hf2 q (by omega) (by omega))
  have h112 : f2 e 11 = nI (lim - m) := (congrFun (hf2 e (by omega) (by omega)) 11).trans h11
  have hA2 : EA f2 (eo e n (s c)) (rest, ss) := ⟨hPA, fun k p hp => PA_frame (hss k p hp) (hf2 _ (by omega) (by omega)) (hf2 _ (by omega) (by omega)) (hf2 _ (by omega) (by omega)) (hf2 _ (by omega) (by omega))⟩
  refine jm_run ok_G_pair [] 90 (fun kk hk => ?_)
  conv => whnf
  refine jg x0 ?_
  conv => whnf
  refine hk _ _ _ _ (k_G_pair_257 rfl (c_monic (σ := (f2, σ.2)) (E := (rest, ss)) hec.1 hec.2.1 hec.2.2.1 hec.2.2.2.1 hec.2.2.2.2 hn (by omega) hA2 ⟨hrw, hsw⟩ hr0 hsl hsh hr) (fun u hu => ?_))
  obtain ⟨f3, hf3, h3⟩ := hu
  have hF3 : FP σ f3 e (eo e n (s c)) n := hF2.step (by omega) (fun q a1 a2 a3 => hf3 q (by omega) a3)
  have h113 : f3 e 11 = nI (lim - m) := (congrFun (hf3 e (by omega) (by omega)) 11).trans h112
  have h315 : f3 e 15 = nI c := (hF3.2.2 15 (by decide)).trans h15
  rcases h3 with ⟨E, hEm, hu, hEA, hEw, hEl⟩ | ⟨hn0, hu⟩
  · subst hu
    show J g (d + 9) 56 260 _ _ (f3, σ.2) _
    rw [hEm]
    dsimp only
    have e10 : f3 e 10 = nI c := (hF3.2.2 10 (by decide)).trans (by rw [hR.2.1, hc])
    by_cases h24 : ¬ st.1.length = 24
    · rw [if_neg h24]
      refine jm_run ok_G_pair [] 90 (fun kk hk => ?_)
      conv => whnf
      refine b_ne (b := 24) e10 rfl (fun _ => ?_) (fun h => by omega)
      conv => whnf
      refine hk _ _ _ _ (k_G_pair_280 rfl (c_join (σ := (f3, σ.2)) hE e10 (by omega)) (fun u hu => ?_))
      obtain ⟨f4, a1, a2, a3, a4, a5, a6⟩ := hu
      subst a6
      show J g (d + 9) 56 283 _ _ (f4, σ.2) _
      refine r_G_pair_283 ⟨f4, fun q hq => ?_, fun k b1 b2 b3 => ?_, ?_, hm, Or.inl ⟨(st.1 ++ [E], sp_jw st.1.length st.2), rfl, rfl, ?_, ?_⟩⟩
      · rw [a1 q (by omega) (by omega)]
        exact out f3 hF3 q hq
      · rw [a2 k b1 b3]
        exact hF3.2.2 k b2
      · rw [a2 11 (by decide) (by decide)]
        exact h113
      · have hRR := FP.er hS hR hsh hc hF3
        subst hc
        exact ER_join (σ := (f3, σ.2)) hRR (by omega) ⟨hEA, hEw, sp_mon_w ⟨hrw, hsw⟩ hEm hr0, hEl⟩ a1 a3 a5
      · rw [a4]
        show nI _ = nI (st.1 ++ [E]).length
        rw [List.length_append, hc]; rfl
    · rw [if_pos (by omega)]
      refine jm_run ok_G_pair [] 90 (fun kk hk => ?_)
      conv => whnf
      refine b_ne (b := 24) e10 rfl (fun h => by omega) (fun _ => ?_)
      conv => whnf
      exact hk _ _ _ _ (k_G_pair_269 (by omega) rfl hr.1 hr.2 (r_G_pair_278 ⟨f3, out f3 hF3, fun k b1 b2 b3 => hF3.2.2 k b2, h113, hm, Or.inr ⟨_, rfl, rfl, h315⟩⟩))
  · subst hu
    rw [hn0]
    exact ⟨f3, out f3 hF3, fun k b1 b2 b3 => hF3.2.2 k b2, h113, hm, Or.inr ⟨_, rfl, rfl, h315⟩⟩
theorem sp_col_at {els : List sp_E} {k i sh : Nat} {c : sp_P} (h : (sp_col els k)[i]? = some c) (hl : ∀ (i : Nat) (E : sp_E), els[i]? = some E → E.2.length = sh) (hk : k < sh) : ∃ E : sp_E, els[i]? = some E ∧ E.2[k]? = some c := by
  unfold sp_col at h
  rw [List.getElem?_map] at h
  cases hE : els[i]? with
  | none => rw [hE] at h; cases h
  | some E =>
    rw [hE] at h
    cases h
    refine ⟨E, rfl, ?_⟩
    have h1 : k < E.2.length := by rw [hl i E hE]; exact hk
    show _ = some (E.2.getD k [])
    rw [List.getD_eq_getElem?_getD, List.getElem?_eq_getElem h1]; rfl
/-- pair, from where the quotients go from the shares -/
theorem c_pairD {sh c m lim : Nat} {st : sp_ES} {i k : Int32} {z3 z5 z6 : Option jm_V} {rest : sp_P} {qs : List sp_P} (hE : EL g σ e n) (hS : EP g σ e n j s) (hn : n ≤ 8) (hsh : sh ≤ n) (hR : ER σ.1 e n s sh st.1 st.2) (hc : c = st.1.length) (h15 : σ.1 e 15 = nI c) (hr : sp_rm g σ)
    (hm : m ≤ lim) (hrw : sp_pw rest) (hr0 : rest ≠ []) (hql : qs.length = st.1.length) (ss0 : List sp_P) : ∀ (r q : List sp_P) (f : Nat → Nat → Int32), FP σ f e (eo e n (s c)) n → f e 11 = nI (lim - m) → PA f (e + 101) rest → EQ f e qs → (∀ k p, (q ++ r)[k]? = some p → PA f (eo e n (s c) + 6 + 4 * k) p) → (∀ p ∈ q, sp_pw p) → (∀ p ∈ r, sp_pw p) → q.length + r.length = sh → sp_shs j qs st.1 0 ss0 = (sp_shs j qs st.1 q.length r).map (fun r' => q ++ r') →
    J g (d + 9) 56 210 [some (aR 2 e), some (aI i), some (aI k), z3, some (aI (nI sh)), z5, z6, some (aR 3 (eo e n (s c))), some (aI (nI q.length))] [] (f, σ.2) (jPr σ e n s sh c lim (match sp_shs j qs st.1 0 ss0 with
    | none => (m, .inl (-7))
    | some ss' => match sp_mon (rest, ss') with
      | none => (m, .inl (-7))
      | some E => if st.1.length = 24 then (m, .inl (-7)) else (m, .inr (st.1 ++ [E], sp_jw st.1.length st.2)))) := by
  obtain ⟨⟨x0, x1, x2, x3, x4, x5, x16⟩, ⟨y2, y3, y4, y113⟩, qp, rp, wp, ep⟩ := id hE
  obtain ⟨hj, ho, hs, hinj⟩ := id hS
  have hl := hR.1
  have hsc := hs c (by omega)
  have hec := ep _ hsc.1
  have hge := eo_ge e n (s c)
  have h25 := eo_25 (e := e) (n := n) hsc.1
  have out : ∀ f', FP σ f' e (eo e n (s c)) n → (∀ q, ¬ (e ≤ q ∧ q < eo e n 25) → f' q = σ.1 q) := fun f' hf' q hq => hf'.1 q (by omega) (by omega)
  intro r
  induction r with
  | nil =>
    intro q f hF h11 hrest hQ hss hqw _ hlen he
    rw [List.append_nil] at hss
    have hlen' : q.length = sh := hlen
    have he' : sp_shs j qs st.1 0 ss0 = some q := by rw [he]; simp [sp_shs]
    rw [he']
    refine jm_run ok_G_pair [210, 237] 90 (fun kk hk => ?_)
    conv => whnf
    refine b_le (a := sh) rfl rfl (fun _ => ?_) (fun h => by omega)
    conv => whnf
    exact hk _ _ _ _ (c_pairE hE hS hn hsh hR hc h15 hr hF h11 hm hrest hrw hr0 hss hqw hlen')
  | cons x r ih =>
    intro q f hF h11 hrest hQ hss hqw hrw2 hlen he
    rw [List.length_cons] at hlen
    have hek := hec.2.2.2.2 q.length (by omega)
    have hti : (q ++ x :: r)[q.length]? = some x := by rw [List.getElem?_append_right (Nat.le_refl _), Nat.sub_self]; rfl
    have hxw := hrw2 x (List.mem_cons_self ..)
    have hRf := FP.er hS hR hsh hc hF
    have hcol : ∀ i q' c', qs[i]? = some q' → (sp_col st.1 q.length)[i]? = some c' → q' = [] ∨ (PA f (eo e n (s i) + 6 + 4 * q.length) c' ∧ sp_pw c' ∧ dj (eo e n (s c) + 6 + 4 * q.length) (eo e n (s i) + 6 + 4 * q.length)) := by
      intro i q' c' _ hc'
      obtain ⟨E, hE1, hE2⟩ := sp_col_at (sh := sh) hc' (fun i E h => (hRf.2.2.1 i E h).2.2.2) (by omega)
      have h9 := hRf.2.2.1 i E hE1
      have hi := (List.getElem?_eq_some_iff.mp hE1).1
      have hne : s i ≠ s c := fun h9 => by have := hinj i c (by omega) (by omega) h9; omega
      have hsep := eo_ne (e := e) (n := n) hne
      exact Or.inr ⟨h9.1.2 _ _ hE2, h9.2.1.2 _ (List.mem_of_getElem? hE2), by unfold dj; omega⟩
    rw [sp_shs] at he
    refine jm_run ok_G_pair [210, 237] 90 (fun kk hk => ?_)
    conv => whnf
    refine b_le (a := sh) rfl rfl (fun h => by omega) (fun _ => ?_)
    conv => whnf
    refine jg hec.2.1 ?_
    conv => whnf
    refine jr rfl hec.2.2.2.1 hek.1 ?_
    conv => whnf
    refine hk _ _ _ _ (k_G_pair_228 rfl (c_shares (σ := (f, σ.2)) hE hS (by omega) hn (by rw [hql]; exact hRf.2.1) (by rw [sp_col, List.length_map, hql]) (by omega) hek.2 (hss _ _ hti) hxw (by omega) hQ hcol hr) (fun u hu => ?_))
    obtain ⟨f2, hf2, h2⟩ := hu
    have hF2 : FP σ f2 e (eo e n (s c)) n := hF.step (by omega) (fun q' a1 a2 a3 => hf2 q' (by omega) a3)
    have h112 : f2 e 11 = nI (lim - m) := (congrFun (hf2 e (by omega) (by omega)) 11).trans h11
    rcases h2 with ⟨p2, hp2, hu, hPA⟩ | ⟨hn0, hu⟩
    · subst hu
      show J g (d + 9) 56 231 _ _ (f2, σ.2) _
      have hp2w : sp_pw p2 := sp_sh_w (Or.inr rfl) hxw (fun p hp => by obtain ⟨i', hi'⟩ := List.getElem?_of_mem hp; exact (hQ i' p hi').2) (fun p hp => by
        obtain ⟨i', hi'⟩ := List.getElem?_of_mem hp
        obtain ⟨E, hE1, hE2⟩ := sp_col_at (sh := sh) hi' (fun i E h => (hRf.2.2.1 i E h).2.2.2) (by omega)
        exact (hRf.2.2.1 _ E hE1).2.1.2 _ (List.mem_of_getElem? hE2)) hp2
      have := ih (q ++ [p2]) f2 hF2 h112 (PA_frame hrest (hf2 _ (by omega) (by omega)) (hf2 _ (by omega) (by omega)) (hf2 _ (by omega) (by omega)) (hf2 _ (by omega) (by omega))) (fun i' p' hp' => by
          have := (List.getElem?_eq_some_iff.mp hp').1
          exact ⟨PA_frame (hQ i' p' hp').1 (hf2 _ (by omega) (by omega)) (hf2 _ (by omega) (by omega)) (hf2 _ (by omega) (by omega)) (hf2 _ (by omega) (by omega)), (hQ i' p' hp').2⟩) (fun k y hy => by
          by_cases hkq : k = q.length
          · subst hkq
            rw [List.append_assoc, List.getElem?_append_right (Nat.le_refl _), Nat.sub_self] at hy
            cases hy
            exact hPA
          · have hy2 : (q ++ x :: r)[k]? = some y := by
              rw [List.append_assoc] at hy
              by_cases hk2 : k < q.length
              · rw [List.getElem?_append_left hk2] at hy ⊢; exact hy
              · rw [List.getElem?_append_right (by omega)] at hy ⊢
                obtain ⟨i, hi⟩ : ∃ i, k - q.length = i + 1 := ⟨k - q.length - 1, by omega⟩
                rw [hi] at hy ⊢
                exact hy
            exact PA_frame (hss k y hy2) (hf2 _ (by omega) (by omega)) (hf2 _ (by omega) (by omega)) (hf2 _ (by omega) (by omega)) (hf2 _ (by omega) (by omega))) (fun y hy => by
          rcases List.mem_append.mp hy with h | h
          · exact hqw y h
          · rw [List.mem_singleton] at h; subst h; exact hp2w) (fun y hy => hrw2 y (List.mem_cons_of_mem _ hy)) (by rw [List.length_append]; show q.length + 1 + _ = _; omega) (by
          rw [he, hp2, List.length_append]
          show Option.map _ (Option.map _ (sp_shs j qs st.1 (q.length + 1) r)) = _
          rw [Option.map_map]
          congr 1
          funext r'
          show q ++ p2 :: r' = q ++ [p2] ++ r'
          rw [List.append_assoc]; rfl)
      rw [List.length_append] at this
      refine jm_run ok_G_pair [210] 90 (fun kk hk => ?_)
      conv => whnf
      rw [nI_1]
      exact hk _ _ _ _ this
    · subst hu
      rw [he, hn0]
      exact ⟨f2, out f2 hF2, fun k b1 b2 b3 => hF2.2.2 k b2, h112, hm, Or.inr ⟨_, rfl, rfl, (hF2.2.2 15 (by decide)).trans h15⟩⟩
/-- pair, from where it divides -/
theorem c_pairC {sh c m lim : Nat} {st : sp_ES} {i k : Int32} {z3 z5 z6 z8 : Option jm_V} {wk : sp_P} {ss : List sp_P} {f : Nat → Nat → Int32} (hE : EL g σ e n) (hS : EP g σ e n j s) (hn : n ≤ 8) (hsh : sh ≤ n) (hR : ER σ.1 e n s sh st.1 st.2) (hc : c = st.1.length) (h15 : σ.1 e 15 = nI c) (h12 : σ.1 e 12 = nI lim) (hlim : lim ≤ 20000) (hr : sp_rm g σ)
    (hm : m ≤ lim) (hF : FP σ f e (eo e n (s c)) n) (h11 : f e 11 = nI (lim - m)) (hW : PA f (e + 105) wk) (hww : sp_pw wk) (hss : ∀ k p, ss[k]? = some p → PA f (eo e n (s c) + 6 + 4 * k) p) (hsw : ∀ p ∈ ss, sp_pw p) (hsl : ss.length = sh) :
    J g (d + 9) 56 191 [some (aR 2 e), some (aI i), some (aI k), z3, some (aI (nI sh)), z5, z6, some (aR 3 (eo e n (s c))), z8] [] (f, σ.2) (jPr σ e n s sh c lim (sp_add j st ss (sp_dl j (sp_G st.1) 1000 m wk (List.replicate (sp_G st.1).length []) []))) := by
  obtain ⟨⟨x0, x1, x2, x3, x4, x5, x16⟩, ⟨y2, y3, y4, y113⟩, qp, rp, wp, ep⟩ := id hE
  obtain ⟨hj, ho, hs, hinj⟩ := id hS
  have hl := hR.1
  have hsc := hs c (by omega)
  have hge := eo_ge e n (s c)
  have h25 := eo_25 (e := e) (n := n) hsc.1
  have out : ∀ f', FP σ f' e (eo e n (s c)) n → (∀ q, ¬ (e ≤ q ∧ q < eo e n 25) → f' q = σ.1 q) := fun f' hf' q hq => hf'.1 q (by omega) (by omega)
  have hRf := FP.er hS hR hsh hc hF
  have hbt : ∀ i, i < 24 → (nI i = (-1 : Int32) ↔ i = 1000) := fun i hi => ⟨fun h => absurd h (by
    rw [sp_iN, show (-1 : Int32) = sp_i (-1) from by decide, sp_ieq (by omega) (by omega)]; omega), fun h => by omega⟩
  have hdiv := c_divide (g := g) (d := d) (σ := (f, σ.2)) (G := sp_G st.1) (w := wk) (bt := 1000) (btx := -1) (c := lim - m) (lim := lim) hE hS hRf.eg hW hww hbt h11 ((hF.2.2 12 (by decide)).trans h12) (by omega) hlim hr
  rw [show lim - (lim - m) = m by omega] at hdiv
  refine jm_run ok_G_pair [] 90 (fun kk hk => ?_)
  conv => whnf
  refine hk _ _ _ _ (k_G_pair_193 rfl hdiv (fun u hu => ?_))
  have hql := fun n' qs' rest' => sp_dl_len (j := j) (G := sp_G st.1) (bt := 1000) (n := m) (n' := n') (w := wk) (rest := []) (rest' := rest') (qs := List.replicate (sp_G st.1).length []) (qs' := qs')
  generalize sp_dl j (sp_G st.1) 1000 m wk (List.replicate (sp_G st.1).length []) [] = o at hu hql
  obtain ⟨f2, hFD, h112, hm2, h2⟩ := hu
  have hF2 : FP σ f2 e (eo e n (s c)) n := hF.div hFD
  unfold sp_add
  rcases h2 with ⟨qs, rest, hor, hu, hQ, hRest, hrw⟩ | ⟨x, hox, hu⟩
  · subst hu
    show J g (d + 9) 56 196 _ _ (f2, σ.2) _
    have hql2 := hql o.1 qs rest (by rw [← hor])
    rw [List.length_replicate, sp_G, List.length_map] at hql2
    rw [hor]
    dsimp only
    have hrl := hrw.1
    by_cases h0 : rest.length = 0
    · rw [if_pos h0]
      refine jm_run ok_G_pair [] 90 (fun kk hk => ?_)
      conv => whnf
      refine jg x4 ?_
      conv => whnf
      refine b_ne (b := 0) hRest.1 rfl (fun h => absurd h0 h) (fun _ => ?_)
      conv => whnf
      exact hk _ _ _ _ (r_G_pair_206 ⟨f2, out f2 hF2, fun k b1 b2 b3 => hF2.2.2 k b2, h112, hm2, Or.inl ⟨st, rfl, rfl, FP.er hS hR hsh hc hF2, by rw [hF2.2.2 15 (by decide), h15, hc]⟩⟩)
    · rw [if_neg h0]
      refine jm_run ok_G_pair [210] 90 (fun kk hk => ?_)
      conv => whnf
      refine jg x4 ?_
      conv => whnf
      refine b_ne (b := 0) hRest.1 rfl (fun _ => ?_) (fun h => absurd h h0)
      conv => whnf
      exact hk _ _ _ _ (c_pairD hE hS hn hsh hR hc h15 hr hm2 hrw (fun q => h0 (by rw [q]; rfl)) hql2 ss ss [] f2 hF2 h112 hRest hQ (fun k p hp => PA_frame (hss k p hp) (hFD.1 _ (by omega)) (hFD.1 _ (by omega)) (hFD.1 _ (by omega)) (hFD.1 _ (by omega))) (fun _ h => by cases h) hsw (by rw [hsl]; exact Nat.zero_add _) (by cases sp_shs j qs st.1 0 ss <;> rfl))
  · subst hu
    rw [hox]
    exact ⟨f2, out f2 hF2, fun k b1 b2 b3 => hF2.2.2 k b2, h112, hm2, Or.inr ⟨_, rfl, rfl, (hF2.2.2 15 (by decide)).trans h15⟩⟩
end
