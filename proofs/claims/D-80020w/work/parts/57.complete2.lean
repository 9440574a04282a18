/-! Engine complete: the pairs -/
section
variable {g : jm_G} {d : Nat} {σ : jm_S} {e n j : Nat} {s : Nat → Nat}
theorem c_complete {sh lim m : Nat} {st : sp_ES} (hE : EL g σ e n) (hS : EP g σ e n j s) (hn : n ≤ 8) (hsh : sh ≤ n) (hlim : lim ≤ 20000) (hm : m ≤ lim) (hr : sp_rm g σ) (hR : ER σ.1 e n s sh st.1 st.2) (hSI : SI j st.1) (h11 : σ.1 e 11 = nI (lim - m)) (h12 : σ.1 e 12 = nI lim) (h13 : σ.1 e 13 = 0) (h14 : σ.1 e 14 = 0) (h15 : σ.1 e 15 = nI st.1.length) :
    J g (d + 10) 49 0 [some (aR 2 e), some (aI (nI sh)), none, none, none, none] [] σ (jC g σ e n j sh lim (sp_fin j (sp_lp j 300 m 0 0 st))) := by
  obtain ⟨⟨x0, x1, x2, x3, x4, x5, x16⟩, ⟨y2, y3, y4, y113⟩, -⟩ := id hE
  have hge := eo_ge e n 25
  have loop : ∀ (k m pr ps : Nat) (st : sp_ES) (f : Nat → Nat → Int32) (z3 z4 z5 : Option jm_V), sp_mu st < k → m ≤ lim → ER f e n s sh st.1 st.2 → SI j st.1 → (∀ q, ¬ (e ≤ q ∧ q < eo e n 25) → f q = σ.1 q) → f e 11 = nI (lim - m) → f e 12 = nI lim → f e 13 = nI pr → f e 14 = nI ps → f e 15 = nI st.1.length → (∀ b, sp_next j (sp_G st.1) st.2 = some b → b.1 < b.2 ∧ b.2 < (sp_G st.1).length) →
      J g (d + 10) 49 5 [some (aR 2 e), some (aI (nI sh)), some (aI (nxB (sp_next j (sp_G st.1) st.2))), z3, z4, z5] [] (f, σ.2) (jC g σ e n j sh lim (sp_fin j (sp_lp j k m pr ps st))) := by
    intro k
    induction k with
    | zero => intro m pr ps st f z3 z4 z5 hmu; exact absurd hmu (Nat.not_lt_zero _)
    | succ k ih =>
      intro m pr ps st f z3 z4 z5 hmu hm hR hSI hf h11 h12 h13 h14 h15 hb
      have hl := hR.1
      have hGl : (sp_G st.1).length = st.1.length := by rw [sp_G, List.length_map]
      have again : ∀ (m pr ps : Nat) (st : sp_ES) (f : Nat → Nat → Int32) (z2 z3 z4 z5 : Option jm_V), sp_mu st < k → m ≤ lim → ER f e n s sh st.1 st.2 → SI j st.1 → (∀ q, ¬ (e ≤ q ∧ q < eo e n 25) → f q = σ.1 q) → f e 11 = nI (lim - m) → f e 12 = nI lim → f e 13 = nI pr → f e 14 = nI ps → f e 15 = nI st.1.length → J g (d + 10) 49 88 [some (aR 2 e), some (aI (nI sh)), z2, z3, z4, z5] [] (f, σ.2) (jC g σ e n j sh lim (sp_fin j (sp_lp j k m pr ps st))) := by
        intro m pr ps st f z2 z3 z4 z5 c1 c2 c3 c4 c5 c6 c7 c8 c9 c10
        refine jm_run ok_G_complete [] 90 (fun kk hk => ?_)
        conv => whnf
        refine hk _ _ _ _ (k_G_complete_89 rfl (c_next (σ := (f, σ.2)) hE hS c3.eg (by rw [List.length_map]; exact c3.2.2.2)) (fun u hu => ?_))
        obtain ⟨hu, hb⟩ := hu
        subst hu
        show J g (d + 10) 49 92 _ _ (f, σ.2) _
        refine jm_run ok_G_complete [5] 90 (fun kk hk => ?_)
        conv => whnf
        exact hk _ _ _ _ (ih m pr ps st f _ _ _ c1 c2 c3 c4 c5 c6 c7 c8 c9 c10 hb)
      rw [sp_lp]
      cases hnx : sp_next j (sp_G st.1) st.2 with
      | none =>
        dsimp only
        refine jm_run ok_G_complete [5] 90 (fun kk hk => ?_)
        conv => whnf
        refine ⟨fun _ => ?_, fun h => absurd (show (-1 : Int32) < 0 by decide) h⟩
        conv => whnf
        refine hk _ _ _ _ (k_G_complete_97 rfl (c_thin (σ := (f, σ.2)) (sh := sh) hE hS ⟨hR.1, hR.2.1, hR.2.2.1⟩) (fun u hu => ?_))
        obtain ⟨f2, ρ, s2, a1, a2, a3, a4, a5, hu⟩ := hu
        subst hu
        show J g (d + 10) 49 100 _ _ (f2, ρ) _
        refine jm_run ok_G_complete [102] 90 (fun kk hk => ?_)
        conv => whnf
        refine hk _ _ _ _ (c_compR (y2 := none) hE a1 hn hsh hlim hr _ 0 m _ f2 a2 (Nat.zero_add _) hm (SI_thin hSI) a5 (fun q hq => (a3 q (by omega) (by omega)).trans (hf q hq)) ((a4 11 (by decide)).trans h11) ((a4 12 (by decide)).trans h12) ((a4 13 (by decide)).trans h13) ((a4 14 (by decide)).trans h14) ((a4 15 (by decide)).trans h15))
      | some b =>
        obtain ⟨b1, b2⟩ := hb b hnx
        have hwb := sp_next_w hnx
        dsimp only
        obtain ⟨f1, hf1⟩ : ∃ f1, f1 = (jm_wi (jm_wi (f, σ.2) (e + 3) (24 * b.1 + b.2) 0) e 13 (nI (pr + 1))).1 := ⟨_, rfl⟩
        have hst : jm_wi (jm_wi (f, σ.2) (e + 3) (24 * b.1 + b.2) 0) e 13 (nI (pr + 1)) = (f1, σ.2) := by rw [hf1]; rfl
        have f1q : ∀ q, q ≠ e → q ≠ e + 3 → f1 q = f q := by intro q h1 h2; rw [hf1, jm_wi_q h1, jm_wi_q h2]
        have f1k : ∀ k, k ≠ 13 → f1 e k = f e k := by intro k hk; rw [hf1, jm_wi_k hk, jm_wi_q (by omega)]
        have f113 : f1 e 13 = nI (pr + 1) := by rw [hf1, jm_wi_at]
        have f13 : ∀ t, f1 (e + 3) t = if t = 24 * b.1 + b.2 then 0 else f (e + 3) t := by intro t; rw [hf1, jm_wi_q (by omega), jm_wi_1]; simp only [true_and, eq_self]
        have hR1 : ER f1 e n s sh st.1 (sp_clr st.2 b.1 b.2) := by
          refine ⟨hl, (f1k 10 (by decide)).trans hR.2.1, fun i E hE => ?_, fun i k hik hk => ?_⟩
          · have h9 := hR.2.2.1 i E hE
            exact ⟨EA_frame h9.1 (Nat.le_refl _) (fun q hq _ => f1q q (by have := eo_ge e n (s i); omega) (by have := eo_ge e n (s i); omega)), h9.2⟩
          · rw [f13]
            unfold sp_clr
            by_cases h9 : i = b.1 ∧ k = b.2
            · rw [if_pos h9, if_pos (by rw [h9.1, h9.2])]; rfl
            · rw [if_neg h9, if_neg (by omega)]; exact hR.2.2.2 i k hik hk
        have hEG1 : EG f1 e n s (sp_G st.1) := hR1.eg
        have hEW1 : EW f1 e (sp_G st.1).length (sp_clr st.2 b.1 b.2) := by rw [hGl]; exact hR1.2.2.2
        have hmu1 : sp_mu (st.1, sp_clr st.2 b.1 b.2) < k := by
          have := cw_clr hwb b1 (show b.2 < st.1.length by omega)
          unfold sp_mu at hmu ⊢
          show cw (sp_clr st.2 b.1 b.2) st.1.length + (276 - tri st.1.length) < k
          omega
        have hf1o : ∀ q, ¬ (e ≤ q ∧ q < eo e n 25) → f1 q = σ.1 q := fun q hq => (f1q q (by omega) (by omega)).trans (hf q hq)
        have g11 : f1 e 11 = nI (lim - m) := (f1k 11 (by decide)).trans h11
        have g12 : f1 e 12 = nI lim := (f1k 12 (by decide)).trans h12
        have g14 : f1 e 14 = nI ps := (f1k 14 (by decide)).trans h14
        have g15 : f1 e 15 = nI st.1.length := (f1k 15 (by decide)).trans h15
        have d1 : nI (24 * b.1 + b.2) / 24 = nI b.1 := by rw [show (24 : Int32) = nI 24 from rfl, pk_div (by omega) (by decide) (by decide)]; congr 1; omega
        have d2 : nI (24 * b.1 + b.2) - nI (24 * b.1 + b.2) / 24 * 24 = nI b.2 := by rw [show (24 : Int32) = nI 24 from rfl, pk_rem (by omega) (by decide) (by decide)]; congr 1; omega
        have ob1 := gl_ok hEG1 (show b.1 < (sp_G st.1).length by omega)
        have ob2 := gl_ok hEG1 b2
        refine jm_run ok_G_complete [5, 88] 90 (fun kk hk => ?_)
        conv => whnf
        refine b_lt (a := 24 * b.1 + b.2) (b := 0) rfl rfl (fun h => by omega) (fun _ => ?_)
        conv => whnf
        refine ⟨by decide, ?_⟩
        conv => whnf
        refine ⟨by decide, ?_⟩
        conv => whnf
        refine jg x2 ?_
        conv => whnf
        refine ⟨Or.inl rfl, ?_⟩
        refine jw (i := 24 * b.1 + b.2) rfl y3 ?_
        conv => whnf
        have hnb : nxB (some b) = nI (24 * b.1 + b.2) := rfl
        rw [jm_wi_q (show e ≠ e + 3 by omega)]
        dsimp only
        rw [h13, nI_1, hst, hnb, d2, d1]
        refine hk _ _ _ _ (k_G_complete_39 rfl (c_leadG (σ := (f1, σ.2)) hE hS hEG1 (show b.1 < (sp_G st.1).length by omega)) (fun u hu => ?_))
        subst hu
        show J g (d + 10) 49 42 _ _ (f1, σ.2) _
        refine jm_run ok_G_complete [5, 88] 90 (fun kk hk => ?_)
        conv => whnf
        refine hk _ _ _ _ (k_G_complete_45 rfl (c_leadG (σ := (f1, σ.2)) hE hS hEG1 b2) (fun u hu => ?_))
        subst hu
        show J g (d + 10) 49 48 _ _ (f1, σ.2) _
        refine k_G_complete_48 rfl (c_common ob1 ob2) (fun u hu => ?_)
        subst hu
        show J g (d + 10) 49 51 _ _ (f1, σ.2) _
        refine jm_run ok_G_complete [5, 88] 90 (fun kk hk => ?_)
        conv => whnf
        refine hk _ _ _ _ (k_G_complete_59 rfl (c_isPassed (σ := (f1, σ.2)) hE hS hEG1 hEW1 (show b.1 < (sp_G st.1).length by omega) b2) (fun u hu => ?_))
        subst hu
        show J g (d + 10) 49 62 _ _ (f1, σ.2) _
        cases hpass : sp_pass (sp_G st.1) (sp_clr st.2 b.1 b.2) b.1 b.2 with
        | true =>
          rw [if_pos rfl]
          have hst2 : jm_wi (f1, σ.2) e 14 (nI (ps + 1)) = ((jm_wi (f1, σ.2) e 14 (nI (ps + 1))).1, σ.2) := rfl
          have f2q : ∀ q, q ≠ e → (jm_wi (f1, σ.2) e 14 (nI (ps + 1))).1 q = f1 q := fun q hq => jm_wi_q hq
          have f2k : ∀ k, k ≠ 14 → (jm_wi (f1, σ.2) e 14 (nI (ps + 1))).1 e k = f1 e k := fun k hk => jm_wi_k hk
          have f214 : (jm_wi (f1, σ.2) e 14 (nI (ps + 1))).1 e 14 = nI (ps + 1) := jm_wi_at
          refine jm_run ok_G_complete [5, 88] 90 (fun kk hk => ?_)
          conv => whnf
          refine b_z (b := true) rfl (fun h => by cases h) (fun _ => ?_)
          conv => whnf
          dsimp only
          rw [g14, nI_1, hst2]
          generalize (jm_wi (f1, σ.2) e 14 (nI (ps + 1))).1 = f2 at f2q f2k f214
          exact hk _ _ _ _ (again m (pr + 1) (ps + 1) (st.1, sp_clr st.2 b.1 b.2) f2 _ _ _ _ hmu1 hm (ER_frame hR1 hsh (f2k 10 (by decide)) (f2q _ (by omega)) (fun i hi q hq _ => f2q q (by have := eo_ge e n (s i); omega))) hSI (fun q hq => (f2q q (by omega)).trans (hf1o q hq)) ((f2k 11 (by decide)).trans g11) ((f2k 12 (by decide)).trans g12) ((f2k 13 (by decide)).trans f113) f214 ((f2k 15 (by decide)).trans g15))
        | false =>
          rw [if_neg (by decide)]
          have hpair := c_pair (g := g) (d := d) (σ := (f1, σ.2)) (st := (st.1, sp_clr st.2 b.1 b.2)) (ii := b.1) (ik := b.2) hE hS hn hsh hR1 g15 g11 g12 hlim hr hm (show b.1 < st.1.length by omega) (show b.2 < st.1.length by omega)
          have hmp := fun m' st' => sp_pair_mu (j := j) (m := m) (m' := m') (i := b.1) (k := b.2) (st := (st.1, sp_clr st.2 b.1 b.2)) (st' := st') hl
          have hsp := fun m' st' => SI_pair (j := j) (m := m) (m' := m') (i := b.1) (k := b.2) (st := (st.1, sp_clr st.2 b.1 b.2)) (st' := st') hSI
          refine jm_run ok_G_complete [5, 88] 90 (fun kk hk => ?_)
          conv => whnf
          refine b_z (b := false) rfl (fun _ => ?_) (fun h => by cases h)
          conv => whnf
          refine hk _ _ _ _ (k_G_complete_85 rfl hpair (fun u hu => ?_))
          generalize sp_pair j m (st.1, sp_clr st.2 b.1 b.2) b.1 b.2 = r at hu hmp hsp
          obtain ⟨m', o⟩ := r
          obtain ⟨f2, a1, a2, a3, a4, a5⟩ := hu
          have q12 : f2 e 12 = nI lim := (a2 12 (by decide) (by decide) (by decide)).trans g12
          have q13 : f2 e 13 = nI (pr + 1) := (a2 13 (by decide) (by decide) (by decide)).trans f113
          have q14 : f2 e 14 = nI ps := (a2 14 (by decide) (by decide) (by decide)).trans g14
          have q0 : ∀ q, ¬ (e ≤ q ∧ q < eo e n 25) → f2 q = σ.1 q := fun q hq => (a1 q hq).trans (hf1o q hq)
          rcases a5 with ⟨st', ho, hu, hR', h15'⟩ | ⟨x, ho, hu, h15'⟩
          · subst hu
            have ho' : o = .inr st' := ho
            subst ho'
            show J g (d + 10) 49 88 _ _ (f2, σ.2) _
            have hmu2 := hmp m' st' rfl
            exact again m' (pr + 1) ps st' f2 _ _ _ _ (by rw [hmu2.2]; exact hmu1) a4 hR' (hsp m' st' rfl) q0 a3 q12 q13 q14 h15'
          · subst hu
            have ho' : o = .inl x := ho
            subst ho'
            exact ⟨f2, σ.2, s, RQ.refl σ _, hS, q0, a3, a4, q12, q13, q14, h15', Or.inr ⟨x, rfl, rfl⟩⟩
  have hmu0 : sp_mu st < 300 := by
    have h1 := cw_tri st.2 st.1.length
    have h2 : tri st.1.length ≤ 276 := tri_le (b := 24) hR.1
    unfold sp_mu
    omega
  refine jm_run ok_G_complete [] 90 (fun kk hk => ?_)
  conv => whnf
  refine hk _ _ _ _ (k_G_complete_1 rfl (c_next (σ := σ) hE hS hR.eg (by rw [List.length_map]; exact hR.2.2.2)) (fun u hu => ?_))
  obtain ⟨hu, hb⟩ := hu
  subst hu
  show J g (d + 10) 49 4 _ _ σ _
  refine jm_run ok_G_complete [5] 90 (fun kk hk => ?_)
  conv => whnf
  exact hk _ _ _ _ (loop 300 m 0 0 st σ.1 _ _ _ hmu0 hm hR hSI (fun _ _ => rfl) h11 h12 h13 h14 h15 hb)
end
