/-! Engine divide -/
/-- what dividing leaves as it was -/
def FD (σ : jm_S) (f : Nat → Nat → Int32) (e : Nat) : Prop := (∀ q, ¬ (e ≤ q ∧ q ≤ e + 108) → f q = σ.1 q) ∧ f (e + 3) = σ.1 (e + 3) ∧ ∀ k, k ≠ 11 → f e k = σ.1 e k
/-- the elements' polynomials -/
def EG (f : Nat → Nat → Int32) (e n : Nat) (s : Nat → Nat) (G : List sp_P) : Prop := G.length ≤ 24 ∧ f e 10 = nI G.length ∧ ∀ i p, G[i]? = some p → PA f (eo e n (s i) + 1) p ∧ sp_pw p ∧ p ≠ []
/-- a row of quotients -/
def EQ (f : Nat → Nat → Int32) (e : Nat) (qs : List sp_P) : Prop := ∀ i p, qs[i]? = some p → PA f (e + 5 + 4 * i) p ∧ sp_pw p
/-- how dividing ends -/
def jD (σ : jm_S) (e lim : Nat) (o : Nat × (Int32 ⊕ (List sp_P × sp_P))) : jm_O → Prop := fun u => ∃ f : Nat → Nat → Int32, FD σ f e ∧ f e 11 = nI (lim - o.1) ∧ o.1 ≤ lim ∧ ((∃ qs rest, o.2 = .inr (qs, rest) ∧ u = ((f, σ.2), .inl none) ∧ EQ f e qs ∧ PA f (e + 101) rest ∧ sp_pw rest) ∨ (∃ c, o.2 = .inl c ∧ u = jT σ f c))
theorem PA_nil {f : Nat → Nat → Int32} {a : Nat} (h : f a 0 = 0) : PA f a [] := ⟨h, fun i t h => by cases h⟩
theorem sp_pw_nil : sp_pw [] := ⟨Nat.zero_le _, fun t h => by cases h⟩
theorem FD.trans {σ : jm_S} {f f' : Nat → Nat → Int32} {e : Nat} (h : FD σ f e) (h1 : ∀ q, ¬ (e + 5 ≤ q ∧ q ≤ e + 108) → q ≠ e + 1 → f' q = f q) : FD σ f' e :=
  ⟨fun q hq => (h1 q (by omega) (by omega)).trans (h.1 q hq), (h1 _ (by omega) (by omega)).trans h.2.1, fun k hk => (congrFun (h1 e (by omega) (by omega)) k).trans (h.2.2 k hk)⟩
theorem sp_hd_b {p : sp_P} (h : sp_pw p) : (sp_hd p).1 ≠ 0 ∧ (sp_hd p).1.natAbs ≤ 1000000000 ∧ 1 ≤ (sp_hd p).2 ∧ (sp_hd p).2 ≤ 1000000000 := by
  cases p with
  | nil => exact ⟨by decide, by decide, by decide, by decide⟩
  | cons t r =>
    have := h.2 t (List.mem_cons_self ..)
    exact ⟨this.1, this.2.1, this.2.2.1, this.2.2.2.1⟩
theorem PA_hd {f : Nat → Nat → Int32} {a : Nat} {p : sp_P} (h : PA f a p) (h0 : p ≠ []) : f (a + 1) 0 = sp_i (sp_hd p).1 ∧ f (a + 2) 0 = sp_i (sp_hd p).2 := by
  cases p with
  | nil => exact absurd rfl h0
  | cons t r => exact ⟨(h.2 0 t rfl).1, (h.2 0 t rfl).2.1⟩
theorem sp_iabs {x : Int} (h : x.natAbs < 2147483648) : (if (0 : Int32) ≤ sp_i x then sp_i x else 0 - sp_i x) = sp_i (x.natAbs : Int) := by
  have e : (0 : Int32) ≤ sp_i x ↔ 0 ≤ x := by rw [sp_i0]; exact sp_ile (by decide) h
  by_cases h0 : 0 ≤ x
  · rw [if_pos (e.mpr h0)]; congr 1; omega
  · rw [if_neg (fun q => h0 (e.mp q)), sp_i0, sp_isub]; congr 1; omega
section
variable {g : jm_G} {d : Nat} {σ : jm_S} {e n j : Nat} {s : Nat → Nat}
theorem c_divide {G : List sp_P} {w : sp_P} {bt : Nat} {btx : Int32} {c lim : Nat} (hE : EL g σ e n) (hS : EP g σ e n j s) (hG : EG σ.1 e n s G) (hW : PA σ.1 (e + 105) w) (hww : sp_pw w) (hbt : ∀ i, i < 24 → (nI i = btx ↔ i = bt))
    (h11 : σ.1 e 11 = nI c) (h12 : σ.1 e 12 = nI lim) (hcl : c ≤ lim) (hlim : lim ≤ 20000) (hr : sp_rm g σ) :
    J g (d + 8) 57 0 [some (aR 2 e), some (aI btx), none, none, none, none, none, none, none] [] σ (jD σ e lim (sp_dl j G bt (lim - c) w (List.replicate G.length []) [])) := by
  obtain ⟨⟨x0, x1, x2, x3, x4, x5, x16⟩, ⟨y2, y3, y4, y113⟩, qp, rp, wp, ep⟩ := id hE
  obtain ⟨hj, ho, hs, hinj⟩ := id hS
  have hGl := hG.1
  have hnil : ∀ (m : Nat) (f : Nat → Nat → Int32) (qs : List sp_P) (rest : sp_P) (z2 z3 z4 z5 z6 z7 z8 : Option jm_V), m ≤ lim → FD σ f e → f e 11 = nI (lim - m) → PA f (e + 105) [] → EQ f e qs → PA f (e + 101) rest → sp_pw rest →
      J g (d + 8) 57 34 [some (aR 2 e), some (aI btx), z2, z3, z4, z5, z6, z7, z8] [] (f, σ.2) (jD σ e lim (m, .inr (qs, rest))) := by
    intro m f qs rest z2 z3 z4 z5 z6 z7 z8 hm hF h11 hW hQ hR hrw
    refine jm_run ok_G_divide [34] 90 (fun kk hk => ?_)
    conv => whnf
    refine jg x5 ?_
    conv => whnf
    refine b_le (a := 0) (b := 0) hW.1 rfl (fun _ => ?_) (fun h => by omega)
    conv => whnf
    exact hk _ _ _ _ (r_G_divide_289 ⟨f, hF, h11, hm, Or.inl ⟨qs, rest, rfl, rfl, hQ, hR, hrw⟩⟩)
  have main : ∀ (m : Nat) (f : Nat → Nat → Int32) (w : sp_P) (qs : List sp_P) (rest : sp_P) (z2 z3 z4 z5 z6 z7 z8 : Option jm_V), m ≤ lim → FD σ f e → f e 11 = nI (lim - m) → PA f (e + 105) w → sp_pw w → qs.length = G.length → EQ f e qs → PA f (e + 101) rest → sp_pw rest →
      J g (d + 8) 57 34 [some (aR 2 e), some (aI btx), z2, z3, z4, z5, z6, z7, z8] [] (f, σ.2) (jD σ e lim (sp_dl j G bt m w qs rest)) := by
    intro m
    induction m with
    | zero =>
      intro f w qs rest z2 z3 z4 z5 z6 z7 z8 hm hF h11 hW hww hql hQ hR hrw
      have e12 : f e 12 = nI lim := (hF.2.2 12 (by decide)).trans h12
      cases w with
      | nil => exact hnil 0 f qs rest z2 z3 z4 z5 z6 z7 z8 hm hF h11 hW hQ hR hrw
      | cons t w =>
        have wl := hww.1
        refine jm_run ok_G_divide [34] 90 (fun kk hk => ?_)
        conv => whnf
        refine jg x5 ?_
        conv => whnf
        refine b_le (b := 0) hW.1 rfl (fun h => by rw [List.length_cons] at h; omega) (fun _ => ?_)
        conv => whnf
        refine hk _ _ _ _ (k_G_divide_45 rfl (c_step (σ := (f, σ.2)) h11 e12 (by omega) hlim hr) (fun u hu => ?_))
        rcases hu with ⟨h1, h2⟩ | ⟨h1, h2⟩
        · subst h2
          exact ⟨f, hF, h11, hm, Or.inr ⟨_, rfl, rfl⟩⟩
        · omega
    | succ m ih =>
      intro f0 w qs rest z2 z3 z4 z5 z6 z7 z8 hm hF0 h110 hW0 hww hql hQ0 hR0 hrw
      have e12 : f0 e 12 = nI lim := (hF0.2.2 12 (by decide)).trans h12
      cases w with
      | nil =>
        have := hnil (m + 1) f0 qs rest z2 z3 z4 z5 z6 z7 z8 hm hF0 h110 hW0 hQ0 hR0 hrw
        rw [sp_dl]
        exact this
      | cons t w =>
        have tw := hww.2 t (List.mem_cons_self ..)
        have wl := hww.1
        have tw' := tw
        obtain ⟨t0, t1, t2, t3, t4⟩ := tw'
        refine jm_run ok_G_divide [34] 90 (fun kk hk => ?_)
        conv => whnf
        refine jg x5 ?_
        conv => whnf
        refine b_le (b := 0) hW0.1 rfl (fun h => by rw [List.length_cons] at h; omega) (fun _ => ?_)
        conv => whnf
        refine hk _ _ _ _ (k_G_divide_45 rfl (c_step (σ := (f0, σ.2)) h110 e12 (by omega) hlim hr) (fun u hu => ?_))
        rcases hu with ⟨h1, h2⟩ | ⟨h1, h2⟩
        · omega
        subst h2
        rw [show lim - (m + 1) + 1 = lim - m by omega]
        obtain ⟨f, hf⟩ : ∃ f, f = (jm_wi (f0, σ.2) e 11 (nI (lim - m))).1 := ⟨_, rfl⟩
        have hfq : ∀ q, q ≠ e → f q = f0 q := by intro q hq; rw [hf, jm_wi_q hq]
        have hfk : ∀ k, k ≠ 11 → f e k = f0 e k := by intro k hk; rw [hf, jm_wi_k hk]
        have h11 : f e 11 = nI (lim - m) := by rw [hf, jm_wi_at]
        have hF : FD σ f e := ⟨fun q hq => (hfq q (by omega)).trans (hF0.1 q hq), (hfq _ (by omega)).trans hF0.2.1, fun k hk => (hfk k hk).trans (hF0.2.2 k hk)⟩
        have hW : PA f (e + 105) (t :: w) := PA_frame hW0 (hfq _ (by omega)) (hfq _ (by omega)) (hfq _ (by omega)) (hfq _ (by omega))
        have hR : PA f (e + 101) rest := PA_frame hR0 (hfq _ (by omega)) (hfq _ (by omega)) (hfq _ (by omega)) (hfq _ (by omega))
        have hQ : EQ f e qs := fun i p hp => ⟨PA_frame (hQ0 i p hp).1 (hfq _ (by omega)) (hfq _ (by omega)) (hfq _ (by omega)) (hfq _ (by omega)), (hQ0 i p hp).2⟩
        show J g (d + 8) 57 48 _ _ (jm_wi (f0, σ.2) e 11 (nI (lim - m))) _
        rw [show jm_wi (f0, σ.2) e 11 (nI (lim - m)) = (f, σ.2) by rw [hf]; rfl]
        clear hf hfq hfk h110 hF0 hW0 hR0 hQ0
        have e10 : f e 10 = nI G.length := (hF.2.2 10 (by decide)).trans hG.2.1
        have hGf : ∀ i p, G[i]? = some p → PA f (eo e n (s i) + 1) p ∧ sp_pw p ∧ p ≠ [] := by
          intro i p hp
          have h1 := hG.2.2 i p hp
          have hge := eo_ge e n (s i)
          exact ⟨PA_frame h1.1 (hF.1 _ (by omega)) (hF.1 _ (by omega)) (hF.1 _ (by omega)) (hF.1 _ (by omega)), h1.2⟩
        have row := hW.2 0 t rfl
        have hfdl := sp_fd_le bt t.2.2 0 G
        have found : ∀ i z4 z5 z6 z7 z8, i = sp_fd bt t.2.2 0 G → J g (d + 8) 57 91 [some (aR 2 e), some (aI btx), some (aI (sp_c t.2.2)), some (aI (nI i)), z4, z5, z6, z7, z8] [] (f, σ.2) (jD σ e lim (sp_dl j G bt (m + 1) (t :: w) qs rest)) := by
          intro i z4 z5 z6 z7 z8 hi
          have hcond : J g (d + 8) 57 113 [some (aR 2 e), some (aI btx), some (aI (sp_c t.2.2)), some (aI (nI i)), some (aI (sp_i t.1)), some (aI (sp_i t.2.1)), z6, z7, z8] [] (f, σ.2) (jD σ e lim (sp_dl j G bt (m + 1) (t :: w) qs rest)) := by
            rw [sp_dl, ← hi]
            cases hg : G[i]? with
            | none =>
              have hil := List.getElem?_eq_none_iff.mp hg
              dsimp only
              have hrem := c_remove (g := g) (d := d + 7) (σ := (f, σ.2)) (a := e + 105) (n := w.length) (k0 := 0) wp (by rw [List.length_cons] at wl; omega) (Nat.zero_le _) hW.1
              refine jm_run ok_G_divide [] 90 (fun kk hk => ?_)
              conv => whnf
              refine b_ne (a := i) (b := G.length) rfl e10 (fun h => by omega) (fun h => ?_)
              conv => whnf
              refine jg x5 ?_
              conv => whnf
              refine hk _ _ _ _ (k_G_divide_126 rfl hrem (fun u hu => ?_))
              subst hu
              have hP2 : PA (shD (jm_wi (f, σ.2) (e + 105) 0 (nI w.length)).1 (e + 105) 0 w.length) (e + 105) w := PA_rem (σ := (f, σ.2)) (p := t :: w) (k := 0) hW (Nat.zero_le _) rfl
              have hq2 : ∀ q, ¬ (e + 105 ≤ q ∧ q ≤ e + 108) → shD (jm_wi (f, σ.2) (e + 105) 0 (nI w.length)).1 (e + 105) 0 w.length q = f q := by intro q hq; rw [shD_q hq, jm_wi_q (by omega)]
              generalize shD (jm_wi (f, σ.2) (e + 105) 0 (nI w.length)).1 (e + 105) 0 w.length = f2 at hP2 hq2
              have hR2 : PA f2 (e + 101) rest := PA_frame hR (hq2 _ (by omega)) (hq2 _ (by omega)) (hq2 _ (by omega)) (hq2 _ (by omega))
              have hQ2 : EQ f2 e qs := fun k p hp => ⟨PA_frame (hQ k p hp).1 (hq2 _ (by have := (List.getElem?_eq_some_iff.mp hp).1; omega)) (hq2 _ (by have := (List.getElem?_eq_some_iff.mp hp).1; omega)) (hq2 _ (by have := (List.getElem?_eq_some_iff.mp hp).1; omega)) (hq2 _ (by have := (List.getElem?_eq_some_iff.mp hp).1; omega)), (hQ k p hp).2⟩
              refine jm_run ok_G_divide [] 90 (fun kk hk => ?_)
              conv => whnf
              refine jg x4 ?_
              conv => whnf
              refine jg ho ?_
              conv => whnf
              refine jg x0 ?_
              conv => whnf
              refine hk _ _ _ _ (k_G_divide_146 rfl (c_come (σ := (f2, σ.2)) rp hR2 hrw hj t1 ⟨t2, t3⟩ t4 (by omega) hr) (fun u hu => ?_))
              obtain ⟨f3, hf3, h3⟩ := hu
              have hF3 : FD σ f3 e := hF.trans (fun q hq hq1 => (hf3 q (by omega) hq1).trans (hq2 q (by omega)))
              have h113 : f3 e 11 = nI (lim - m) := by rw [hf3 e (by omega) (by omega)]; exact (congrFun (hq2 e (by omega)) 11).trans h11
              rcases h3 with ⟨p2, hp2, hu, hPA⟩ | ⟨hn, hu⟩
              · subst hu
                rw [hp2]
                refine jm_run ok_G_divide [34] 90 (fun kk hk => ?_)
                conv => whnf
                refine hk _ _ _ _ (ih f3 w qs p2 _ _ _ _ _ _ _ (by omega) hF3 h113 ?_ ⟨by rw [List.length_cons] at wl; omega, fun x hx => hww.2 x (List.mem_cons_of_mem _ hx)⟩ hql ?_ hPA (sp_come_w hrw tw hp2))
                · exact PA_frame hP2 (hf3 _ (by omega) (by omega)) (hf3 _ (by omega) (by omega)) (hf3 _ (by omega) (by omega)) (hf3 _ (by omega) (by omega))
                · intro k p hp
                  have hkl := (List.getElem?_eq_some_iff.mp hp).1
                  exact ⟨PA_frame (hQ2 k p hp).1 (hf3 _ (by omega) (by omega)) (hf3 _ (by omega) (by omega)) (hf3 _ (by omega) (by omega)) (hf3 _ (by omega) (by omega)), (hQ2 k p hp).2⟩
              · subst hu
                rw [hn]
                exact ⟨f3, hF3, h113, by show m ≤ lim; omega, Or.inr ⟨_, rfl, rfl⟩⟩
            | some gp =>
              have hil := (List.getElem?_eq_some_iff.mp hg).1
              dsimp only
              obtain ⟨hgP, hgw, hg0⟩ := hGf i gp hg
              have hsi := hs i (by omega)
              have hei := ep (s i) hsi.1
              have hge := eo_ge e n (s i)
              have hgp := hei.2.2.1
              have hhit := (sp_fd_hit bt t.2.2 0 G gp).2 (by rw [Nat.sub_zero, ← hi]; exact hg)
              have hdv := hhit.2
              have gh := PA_hd hgP hg0
              have gb := sp_hd_b hgw
              have gl := PA_ld hgP hg0
              have hlok := sp_ld_ok hgw
              have hqi : qs[i]? = some qs[i] := List.getElem?_eq_getElem (by omega)
              have hqd : qs.getD i [] = qs[i] := by rw [List.getD_eq_getElem?_getD, hqi]; rfl
              have t40 := sp_sb_ok (sp_ld gp) t4
              have mid : ∀ sg C, C = (if (sp_hd gp).1 < 0 then -(sp_hd gp).2 else (sp_hd gp).2) → sp_i (sp_hd gp).2 * sg = sp_i C → J g (d + 8) 57 193 [some (aR 2 e), some (aI btx), some (aI (sp_c t.2.2)), some (aI (nI i)), some (aI (sp_i t.1)), some (aI (sp_i t.2.1)), some (aR 5 (eo e n (s i) + 1)), z7, z8] [aI sg, aI (sp_i (sp_hd gp).2), aI (sp_i t.2.1), aI (sp_i t.1), aR 4 (e + 1)] (f, σ.2) (jD σ e lim (match sp_qt t gp with
                  | none => (m, .inl (-7))
                  | some r => match sp_plus j (-r.1) r.2 (sp_sb t.2.2 (sp_ld gp)) (t :: w) gp with
                    | none => (m, .inl (-7))
                    | some w' => match sp_come j (qs.getD i []) r.1 r.2 (sp_sb t.2.2 (sp_ld gp)) with
                      | none => (m, .inl (-7))
                      | some q' => sp_dl j G bt m w' (qs.set i q') rest)) := by
                intro sg C hC hsg
                have hCb : C.natAbs ≤ 1000000000 ∧ C ≠ 0 := by rw [hC]; split <;> omega
                refine jm_run ok_G_divide [] 90 (fun kk hk => ?_)
                conv => whnf
                refine jg hgp.1 ?_
                conv => whnf
                refine ja (i := 0) rfl hgp.2.2.2.1 gh.1 ?_
                conv => whnf
                rw [sp_iabs (by omega), hsg]
                refine hk _ _ _ _ (k_G_divide_204 rfl (c_ftimes (σ := (f, σ.2)) t1 (by omega) hCb.1 (by omega) (by omega) (by omega) hr) (fun u hu => ?_))
                have hqt : sp_qt t gp = sp_fr (t.1 * C) (t.2.1 * ((sp_hd gp).1.natAbs : Int)) := by rw [hC]; rfl
                refine sp_set_el2 hu (fun h e => ?_) (fun r1 f2 h e2 hf2 v0 v1 => ?_)
                · subst e
                  rw [hqt, h]
                  exact ⟨f, hF, h11, by show m ≤ lim; omega, Or.inr ⟨_, rfl, rfl⟩⟩
                · subst e2
                  rw [hqt, h]
                  dsimp only
                  have rb := sp_fr_b (Int.mul_ne_zero (by omega) (by omega)) h
                  have n0 : t.1 * C ≠ 0 := Int.mul_ne_zero t0 hCb.2
                  have r0 : r1.1 ≠ 0 := fun q => n0 (rb.2.2.2.mp q)
                  have hW2 : PA f2 (e + 105) (t :: w) := PA_frame hW (hf2 _ (by omega)) (hf2 _ (by omega)) (hf2 _ (by omega)) (hf2 _ (by omega))
                  have hG2 : PA f2 (eo e n (s i) + 1) gp := PA_frame hgP (hf2 _ (by omega)) (hf2 _ (by omega)) (hf2 _ (by omega)) (hf2 _ (by omega))
                  have gl2 := PA_ld hG2 hg0
                  show J g (d + 8) 57 207 _ _ (f2, σ.2) _
                  refine jm_run ok_G_divide [] 90 (fun kk hk => ?_)
                  conv => whnf
                  refine jg x0 ?_
                  conv => whnf
                  refine jg x0 ?_
                  conv => whnf
                  refine jg x5 ?_
                  conv => whnf
                  refine jg ho ?_
                  conv => whnf
                  refine jg x0 ?_
                  conv => whnf
                  refine jg hgp.2.2.1 ?_
                  conv => whnf
                  refine ja (i := 0) rfl hgp.2.2.2.2.2 gl2 ?_
                  conv => whnf
                  dsimp only
                  rw [v0, v1, sp_ineg, sp_sb_c hdv]
                  refine hk _ _ _ _ (k_G_divide_253 rfl (c_plus (σ := (f2, σ.2)) wp hW2 hww hgp hG2 hgw hj ⟨by omega, by omega, rb.2.1, rb.2.2.1⟩ t40 (by omega) (by omega) (by unfold dj; omega) hr) (fun u hu => ?_))
                  obtain ⟨f3, hf3, h3⟩ := hu
                  have hf3' : ∀ q, ¬ (e + 105 ≤ q ∧ q ≤ e + 108) → q ≠ e + 1 → f3 q = f q := fun q hq hq1 => (hf3 q (by omega) hq1).trans (hf2 q hq1)
                  have hF3 : FD σ f3 e := hF.trans (fun q hq hq1 => hf3' q (by omega) hq1)
                  have h113 : f3 e 11 = nI (lim - m) := (congrFun (hf3' e (by omega) (by omega)) 11).trans h11
                  rcases h3 with ⟨w2, hw2, hu, hPA⟩ | ⟨hn, hu⟩
                  · subst hu
                    rw [hw2]
                    dsimp only
                    have hw2w := sp_plus_w (⟨by omega, by omega, rb.2.1, rb.2.2.1⟩ : sp_cf (-r1.1) r1.2) hww hgw.2 hw2
                    have hG3 : PA f3 (eo e n (s i) + 1) gp := PA_frame hgP (hf3' _ (by omega) (by omega)) (hf3' _ (by omega) (by omega)) (hf3' _ (by omega) (by omega)) (hf3' _ (by omega) (by omega))
                    have gl3 := PA_ld hG3 hg0
                    have hQ3 : EQ f3 e qs := fun k p hp => ⟨PA_frame (hQ k p hp).1 (hf3' _ (by have := (List.getElem?_eq_some_iff.mp hp).1; omega) (by omega)) (hf3' _ (by have := (List.getElem?_eq_some_iff.mp hp).1; omega) (by omega)) (hf3' _ (by have := (List.getElem?_eq_some_iff.mp hp).1; omega) (by omega)) (hf3' _ (by have := (List.getElem?_eq_some_iff.mp hp).1; omega) (by omega)), (hQ k p hp).2⟩
                    have hR3 : PA f3 (e + 101) rest := PA_frame hR (hf3' _ (by omega) (by omega)) (hf3' _ (by omega) (by omega)) (hf3' _ (by omega) (by omega)) (hf3' _ (by omega) (by omega))
                    show J g (d + 8) 57 256 _ _ (f3, σ.2) _
                    refine jm_run ok_G_divide [] 90 (fun kk hk => ?_)
                    conv => whnf
                    refine jg x3 ?_
                    conv => whnf
                    refine jr rfl y4 (qp i (by omega)).1 ?_
                    conv => whnf
                    refine jg ho ?_
                    conv => whnf
                    refine jg x0 ?_
                    conv => whnf
                    refine jg hgp.2.2.1 ?_
                    conv => whnf
                    refine ja (i := 0) rfl hgp.2.2.2.2.2 gl3 ?_
                    conv => whnf
                    rw [sp_sb_c hdv]
                    refine hk _ _ _ _ (k_G_divide_283 rfl (c_come (σ := (f3, σ.2)) (qp i (by omega)).2 (hQ3 i _ hqi).1 (hQ3 i _ hqi).2 hj rb.1 ⟨rb.2.1, rb.2.2.1⟩ t40 (by omega) hr) (fun u hu => ?_))
                    obtain ⟨f4, hf4, h4⟩ := hu
                    have hF4 : FD σ f4 e := hF3.trans (fun q hq hq1 => hf4 q (by omega) hq1)
                    have h114 : f4 e 11 = nI (lim - m) := (congrFun (hf4 e (by omega) (by omega)) 11).trans h113
                    rw [hqd]
                    rcases h4 with ⟨q4, hq4, hu, hPA4⟩ | ⟨hn, hu⟩
                    · subst hu
                      rw [hq4]
                      dsimp only
                      show J g (d + 8) 57 286 _ _ (f4, σ.2) _
                      refine jm_run ok_G_divide [34] 90 (fun kk hk => ?_)
                      conv => whnf
                      refine hk _ _ _ _ (ih f4 w2 (qs.set i q4) rest _ _ _ _ _ _ _ (by omega) hF4 h114 ?_ hw2w (by rw [List.length_set]; exact hql) ?_ ?_ hrw)
                      · exact PA_frame hPA (hf4 _ (by omega) (by omega)) (hf4 _ (by omega) (by omega)) (hf4 _ (by omega) (by omega)) (hf4 _ (by omega) (by omega))
                      · intro k p hp
                        have hkl := (List.getElem?_eq_some_iff.mp hp).1
                        rw [List.length_set] at hkl
                        rw [List.getElem?_set] at hp
                        by_cases hik : i = k
                        · subst hik
                          rw [if_pos rfl, if_pos hkl] at hp
                          cases hp
                          exact ⟨hPA4, sp_come_w (hQ3 i _ hqi).2 ⟨r0, rb.1, rb.2.1, rb.2.2.1, t40⟩ hq4⟩
                        · rw [if_neg hik] at hp
                          exact ⟨PA_frame (hQ3 k p hp).1 (hf4 _ (by omega) (by omega)) (hf4 _ (by omega) (by omega)) (hf4 _ (by omega) (by omega)) (hf4 _ (by omega) (by omega)), (hQ3 k p hp).2⟩
                      · exact PA_frame hR3 (hf4 _ (by omega) (by omega)) (hf4 _ (by omega) (by omega)) (hf4 _ (by omega) (by omega)) (hf4 _ (by omega) (by omega))
                    · subst hu
                      rw [hn]
                      exact ⟨f4, hF4, h114, by show m ≤ lim; omega, Or.inr ⟨_, rfl, rfl⟩⟩
                  · subst hu
                    rw [hn]
                    exact ⟨f3, hF3, h113, by show m ≤ lim; omega, Or.inr ⟨_, rfl, rfl⟩⟩
              refine jm_run ok_G_divide [193] 90 (fun kk hk => ?_)
              conv => whnf
              refine b_ne (a := i) (b := G.length) rfl e10 (fun h => ?_) (fun h => by omega)
              conv => whnf
              refine jg x1 ?_
              conv => whnf
              refine jr rfl y2 hsi.2 ?_
              conv => whnf
              refine jg hei.1 ?_
              conv => whnf
              refine jg x0 ?_
              conv => whnf
              refine jg hgp.2.1 ?_
              conv => whnf
              refine ja (i := 0) rfl hgp.2.2.2.2.1 gh.2 ?_
              conv => whnf
              refine jg hgp.1 ?_
              conv => whnf
              refine ja (i := 0) rfl hgp.2.2.2.1 gh.1 ?_
              conv => whnf
              refine bi_le sp_i0 rfl (fun h0 => ?_) (fun h0 => ?_)
              · conv => whnf
                exact hk _ _ _ _ (mid 1 (sp_hd gp).2 (by rw [if_neg (by omega)]) (by rw [show (1 : Int32) = sp_i 1 from by decide, sp_imul, Int.mul_one]))
              · conv => whnf
                exact hk _ _ _ _ (mid (-1) (-(sp_hd gp).2) (by rw [if_pos h0]) (by rw [show (-1 : Int32) = sp_i (-1) from by decide, sp_imul]; congr 1; omega))
          refine jm_run ok_G_divide [113] 90 (fun kk hk => ?_)
          conv => whnf
          refine jg x5 ?_
          conv => whnf
          refine jg wp.1 ?_
          conv => whnf
          refine ja (i := 0) rfl wp.2.2.2.1 row.1 ?_
          conv => whnf
          refine jg x5 ?_
          conv => whnf
          refine jg wp.2.1 ?_
          conv => whnf
          refine ja (i := 0) rfl wp.2.2.2.2.1 row.2.1 ?_
          conv => whnf
          exact hk _ _ _ _ hcond
        have search : ∀ k i z4 z5 z6 z7 z8, i + k = G.length → sp_fd bt t.2.2 0 G = sp_fd bt t.2.2 i (G.drop i) → J g (d + 8) 57 60 [some (aR 2 e), some (aI btx), some (aI (sp_c t.2.2)), some (aI (nI i)), z4, z5, z6, z7, z8] [] (f, σ.2) (jD σ e lim (sp_dl j G bt (m + 1) (t :: w) qs rest)) := by
          intro k
          induction k with
          | zero =>
            intro i z4 z5 z6 z7 z8 hi he
            refine jm_run ok_G_divide [60, 91] 90 (fun kk hk => ?_)
            conv => whnf
            refine b_le e10 rfl (fun _ => ?_) (fun h => by omega)
            conv => whnf
            refine hk _ _ _ _ (found i _ _ _ _ _ ?_)
            rw [he, List.drop_of_length_le (by omega)]; rfl
          | succ k ihk =>
            intro i z4 z5 z6 z7 z8 hi he
            have hil : i < G.length := by omega
            have hgi : G[i]? = some G[i] := List.getElem?_eq_getElem hil
            obtain ⟨hgP, hgw, hg0⟩ := hGf i _ hgi
            rw [List.drop_eq_getElem_cons hil, sp_fd] at he
            refine jm_run ok_G_divide [60, 91] 90 (fun kk hk => ?_)
            conv => whnf
            refine b_le e10 rfl (fun h => by omega) (fun _ => ?_)
            conv => whnf
            refine ⟨fun h => ?_, fun h => ?_⟩
            · have hb := (hbt i (by omega)).mp h
              conv => whnf
              rw [nI_1]
              refine hk _ _ _ _ (ihk (i + 1) _ _ _ _ _ (by omega) ?_)
              rw [he, if_neg (fun q => q.1 hb)]
            · have hb : i ≠ bt := fun q => h ((hbt i (by omega)).mpr q)
              conv => whnf
              refine hk _ _ _ _ (k_G_divide_75 rfl (c_lead (σ := (f, σ.2)) hE hS (by omega) hgP hg0) (fun u hu => ?_))
              subst hu
              refine jm_run ok_G_divide [60, 91] 90 (fun kk hk => ?_)
              conv => whnf
              refine hk _ _ _ _ (k_G_divide_79 rfl (c_divides (sp_ld_ok hgw) t4) (fun u hu => ?_))
              subst hu
              refine jm_run ok_G_divide [60, 91] 90 (fun kk hk => ?_)
              conv => whnf
              refine b_nz rfl (fun h => ?_) (fun h => ?_)
              · conv => whnf
                refine hk _ _ _ _ (found i _ _ _ _ _ ?_)
                rw [he, if_pos ⟨hb, h⟩]
              · conv => whnf
                rw [nI_1]
                refine hk _ _ _ _ (ihk (i + 1) _ _ _ _ _ (by omega) ?_)
                rw [he, if_neg (fun q => by rw [h] at q; exact absurd q.2 (by decide))]
        refine jm_run ok_G_divide [60] 90 (fun kk hk => ?_)
        conv => whnf
        refine jg x5 ?_
        conv => whnf
        refine jg wp.2.2.1 ?_
        conv => whnf
        refine ja (i := 0) rfl wp.2.2.2.2.2 row.2.2 ?_
        conv => whnf
        exact hk _ _ _ _ (search G.length 0 _ _ _ _ _ (Nat.zero_add _) rfl)
  have init : ∀ k i f, i + k = G.length → (∀ q, ¬ (e + 5 ≤ q ∧ q ≤ e + 100) → f q = σ.1 q) → (∀ m, m < i → f (e + 5 + 4 * m) 0 = 0) → J g (d + 8) 57 2 [some (aR 2 e), some (aI btx), some (aI (nI i)), none, none, none, none, none, none] [] (f, σ.2) (jD σ e lim (sp_dl j G bt (lim - c) w (List.replicate G.length []) [])) := by
    intro k
    induction k with
    | zero =>
      intro i f hi hf h0
      have e10 : f e 10 = nI G.length := by rw [hf e (by omega)]; exact hG.2.1
      refine jm_run ok_G_divide [2, 34] 90 (fun kk hk => ?_)
      conv => whnf
      refine b_le e10 rfl (fun _ => ?_) (fun h => by omega)
      conv => whnf
      refine jg x4 ?_
      conv => whnf
      have hq : ∀ q, q ≠ e + 101 → (jm_wi (f, σ.2) (e + 101) 0 0).1 q = f q := fun q hq => jm_wi_q hq
      have hz : (jm_wi (f, σ.2) (e + 101) 0 0).1 (e + 101) 0 = 0 := jm_wi_at
      have hst : jm_wi (f, σ.2) (e + 101) 0 0 = ((jm_wi (f, σ.2) (e + 101) 0 0).1, σ.2) := rfl
      refine hk _ _ _ _ ?_
      rw [hst]
      generalize (jm_wi (f, σ.2) (e + 101) 0 0).1 = f2 at hq hz
      refine main (lim - c) f2 w (List.replicate G.length []) [] _ _ _ _ _ _ _ (by omega) ⟨fun q hq2 => ?_, ?_, fun k hk => ?_⟩ ?_ ?_ hww (by rw [List.length_replicate]) ?_ (PA_nil hz) sp_pw_nil
      · rw [hq q (by omega), hf q (by omega)]
      · rw [hq _ (by omega), hf _ (by omega)]
      · rw [hq _ (by omega), hf _ (by omega)]
      · rw [hq _ (by omega), hf _ (by omega), h11]; congr 1; omega
      · exact PA_frame hW (by rw [hq _ (by omega), hf _ (by omega)]) (by rw [hq _ (by omega), hf _ (by omega)]) (by rw [hq _ (by omega), hf _ (by omega)]) (by rw [hq _ (by omega), hf _ (by omega)])
      · intro i p hp
        rw [List.getElem?_replicate] at hp
        split at hp
        · cases hp
          refine ⟨PA_nil ?_, sp_pw_nil⟩
          rw [hq _ (by omega)]
          exact h0 _ (by omega)
        · cases hp
    | succ k ih =>
      intro i f hi hf h0
      have e10 : f e 10 = nI G.length := by rw [hf e (by omega)]; exact hG.2.1
      refine jm_run ok_G_divide [2, 34] 90 (fun kk hk => ?_)
      conv => whnf
      refine b_le e10 rfl (fun h => by omega) (fun _ => ?_)
      conv => whnf
      refine jg x3 ?_
      conv => whnf
      refine jr rfl y4 (qp i (by omega)).1 ?_
      conv => whnf
      rw [nI_1]
      have hst : jm_wi (f, σ.2) (e + 5 + 4 * i) 0 0 = ((jm_wi (f, σ.2) (e + 5 + 4 * i) 0 0).1, σ.2) := rfl
      rw [hst]
      refine hk _ _ _ _ (ih (i + 1) _ (by omega) (fun q hq => ?_) (fun m hm => ?_))
      · rw [jm_wi_q (by omega)]; exact hf q hq
      · by_cases hmi : m = i
        · subst hmi; exact jm_wi_at
        · rw [jm_wi_q (by omega)]; exact h0 m (by omega)
  refine jm_run ok_G_divide [2] 90 (fun kk hk => ?_)
  conv => whnf
  exact hk _ _ _ _ (init G.length 0 σ.1 (Nat.zero_add _) (fun _ _ => rfl) (fun m hm => by omega))
end
