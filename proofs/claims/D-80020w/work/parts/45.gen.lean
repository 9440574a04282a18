/-! Engine generator -/
def ER (f : Nat → Nat → Int32) (e n : Nat) (s : Nat → Nat) (sh : Nat) (els : List sp_E) (w : Nat → Nat → Bool) : Prop :=
  els.length ≤ 24 ∧ f e 10 = nI els.length ∧ (∀ i E, els[i]? = some E → EA f (eo e n (s i)) E ∧ sp_ew E ∧ E.1 ≠ [] ∧ E.2.length = sh) ∧ EW f e els.length w
theorem EA_frame {f f' : Nat → Nat → Int32} {o m : Nat} {E : sp_E} (h : EA f o E) (hl : E.2.length ≤ m) (hf : ∀ q, o ≤ q → q < o + 6 + 4 * m → f' q = f q) : EA f' o E := by
  refine ⟨PA_frame h.1 (hf _ (by omega) (by omega)) (hf _ (by omega) (by omega)) (hf _ (by omega) (by omega)) (hf _ (by omega) (by omega)), fun k p hp => ?_⟩
  have hk := (List.getElem?_eq_some_iff.mp hp).1
  exact PA_frame (h.2 k p hp) (hf _ (by omega) (by omega)) (hf _ (by omega) (by omega)) (hf _ (by omega) (by omega)) (hf _ (by omega) (by omega))
theorem ER.eg {f : Nat → Nat → Int32} {e n : Nat} {s : Nat → Nat} {sh : Nat} {els : List sp_E} {w : Nat → Nat → Bool} (h : ER f e n s sh els w) : EG f e n s (els.map (fun E => E.1)) := by
  refine ⟨by rw [List.length_map]; exact h.1, by rw [List.length_map]; exact h.2.1, fun i p hp => ?_⟩
  rw [List.getElem?_map] at hp
  cases hE : els[i]? with
  | none => rw [hE] at hp; cases hp
  | some E =>
    rw [hE] at hp
    cases hp
    have := h.2.2.1 i E hE
    exact ⟨this.1.1, this.2.1.1, this.2.2.1⟩
theorem ER_frame {f f' : Nat → Nat → Int32} {e n : Nat} {s : Nat → Nat} {sh : Nat} {els : List sp_E} {w : Nat → Nat → Bool} (h : ER f e n s sh els w) (hsh : sh ≤ n) (h10 : f' e 10 = f e 10) (h3 : f' (e + 3) = f (e + 3)) (hf : ∀ i, i < els.length → ∀ q, eo e n (s i) ≤ q → q < eo e n (s i) + 6 + 4 * n → f' q = f q) : ER f' e n s sh els w := by
  refine ⟨h.1, h10.trans h.2.1, fun i E hE => ?_, ?_⟩
  · have hi := (List.getElem?_eq_some_iff.mp hE).1
    have h1 := h.2.2.1 i E hE
    exact ⟨EA_frame (m := n) h1.1 (by rw [h1.2.2.2]; exact hsh) (hf i hi), h1.2⟩
  · unfold EW
    rw [h3]
    exact h.2.2.2
def sp_jw (c : Nat) (w : Nat → Nat → Bool) : Nat → Nat → Bool := fun i k => if k = c then true else w i k
theorem ER_join {σ : jm_S} {e n : Nat} {s : Nat → Nat} {sh : Nat} {els : List sp_E} {w : Nat → Nat → Bool} {E : sp_E} {f' : Nat → Nat → Int32} (h : ER σ.1 e n s sh els w) (hc : els.length < 24) (hE : EA σ.1 (eo e n (s els.length)) E ∧ sp_ew E ∧ E.1 ≠ [] ∧ E.2.length = sh)
    (h1 : ∀ q, q ≠ e → q ≠ e + 3 → f' q = σ.1 q) (h10 : f' e 10 = nI (els.length + 1)) (h3 : ∀ i k, k < 24 → f' (e + 3) (24 * i + k) = if k = els.length ∧ i < els.length then 1 else σ.1 (e + 3) (24 * i + k)) : ER f' e n s sh (els ++ [E]) (sp_jw els.length w) := by
  have hl : (els ++ [E]).length = els.length + 1 := by rw [List.length_append]; rfl
  refine ⟨by omega, by rw [hl]; exact h10, fun i E' hE' => ?_, ?_⟩
  · have hge := eo_ge e n (s i)
    have hfr : ∀ q, eo e n (s i) ≤ q → f' q = σ.1 q := fun q hq => h1 q (by omega) (by omega)
    by_cases hi : i < els.length
    · rw [List.getElem?_append_left hi] at hE'
      have h2 := h.2.2.1 i E' hE'
      exact ⟨EA_frame h2.1 (Nat.le_refl _) (fun q hq _ => hfr q hq), h2.2⟩
    · have hi2 : i = els.length := by
        have := (List.getElem?_eq_some_iff.mp hE').1
        omega
      subst hi2
      rw [List.getElem?_append_right (Nat.le_refl _), Nat.sub_self] at hE'
      cases hE'
      exact ⟨EA_frame hE.1 (Nat.le_refl _) (fun q hq _ => hfr q hq), hE.2⟩
  · intro i k hik hk
    rw [hl] at hk
    rw [h3 i k (by omega)]
    unfold sp_jw
    by_cases hkc : k = els.length
    · rw [if_pos ⟨hkc, by omega⟩, if_pos hkc]; rfl
    · rw [if_neg (fun q => hkc q.1), if_neg hkc]
      exact h.2.2.2 i k hik (by omega)
def sp_zm : sp_M := (0, (0, (0, (0, 0))))
theorem sp_zm_ok : sp_ok sp_zm := ⟨by decide, by decide, by decide, by decide, by decide⟩
def sp_un : sp_P := [(1, (1, sp_zm))]
theorem sp_un_w : sp_pw sp_un := ⟨by decide, fun t ht => by
  rw [sp_un, List.mem_singleton] at ht
  subst ht
  exact ⟨by decide, by decide, by decide, by decide, sp_zm_ok⟩⟩
/-- the shares of a generator k of sh -/
def sp_us (sh k : Nat) : List sp_P := (List.range sh).map (fun i => if i = k then sp_un else [])
theorem sp_us_len (sh k : Nat) : (sp_us sh k).length = sh := by rw [sp_us, List.length_map, List.length_range]
theorem sp_us_at {sh k i : Nat} {p : sp_P} (h : (sp_us sh k)[i]? = some p) : i < sh ∧ p = if i = k then sp_un else [] := by
  have hi := (List.getElem?_eq_some_iff.mp h).1
  rw [sp_us_len] at hi
  rw [sp_us, List.getElem?_map, List.getElem?_range hi] at h
  cases h
  exact ⟨hi, rfl⟩
theorem sp_us_w {sh k : Nat} : ∀ p ∈ sp_us sh k, sp_pw p := by
  intro p hp
  obtain ⟨i, hi⟩ := List.getElem?_of_mem hp
  rw [(sp_us_at hi).2]
  split
  · exact sp_un_w
  · exact sp_pw_nil
abbrev sp_ES : Type := List sp_E × (Nat → Nat → Bool)
/-- a generator more -/
def sp_gen (sh k : Nat) (p : sp_P) (st : sp_ES) : Option sp_ES := if p.length = 0 then some st else (sp_mon (p, sp_us sh k)).map (fun E => (st.1 ++ [E], sp_jw st.1.length st.2))
theorem sp_mon_w {E E' : sp_E} (h : sp_ew E) (hm : sp_mon E = some E') (h0 : E.1 ≠ []) : E'.1 ≠ [] := by
  unfold sp_mon at hm
  have hb := sp_hd_b h.1
  have hcf : sp_cf (sp_mf E.1).1 (sp_mf E.1).2 := by
    refine ⟨?_, ?_, ?_, ?_⟩
    · show (if (sp_hd E.1).1 < 0 then -(sp_hd E.1).2 else (sp_hd E.1).2) ≠ 0
      split <;> omega
    · show (if (sp_hd E.1).1 < 0 then -(sp_hd E.1).2 else (sp_hd E.1).2).natAbs ≤ _
      split <;> omega
    · show 1 ≤ ((sp_hd E.1).1.natAbs : Int)
      omega
    · show ((sp_hd E.1).1.natAbs : Int) ≤ _
      omega
  cases h1 : sp_scale (sp_mf E.1).1 (sp_mf E.1).2 E.1 with
  | none => rw [h1] at hm; cases hm
  | some p =>
    rw [h1] at hm
    cases h2 : sp_mapS (sp_mf E.1).1 (sp_mf E.1).2 E.2 with
    | none => rw [h2] at hm; cases hm
    | some ss =>
      rw [h2] at hm
      cases hm
      have := (sp_scale_w hcf h.1.2 h1).1
      intro q
      have q' : p = [] := q
      rw [q'] at this
      exact h0 (List.length_eq_zero_iff.mp this.symm)
/-- how generator ends -/
def jGn (σ : jm_S) (e n : Nat) (s : Nat → Nat) (sh r c : Nat) (o : Option sp_ES) : jm_O → Prop := fun u => ∃ f : Nat → Nat → Int32, (∀ q, ¬ (e ≤ q ∧ q < eo e n 25) → f q = σ.1 q) ∧ (∀ k, k ≠ 9 → k ≠ 10 → k ≠ 15 → f e k = σ.1 e k) ∧ f e 9 = nI (r + 1) ∧ ((∃ st, o = some st ∧ u = ((f, σ.2), .inl none) ∧ ER f e n s sh st.1 st.2 ∧ f e 15 = nI st.1.length) ∨ (o = none ∧ u = jT σ f (-7) ∧ f e 15 = nI c))
theorem eo_25 {e n s : Nat} (h : s < 25) : eo e n s + 6 + 4 * n ≤ eo e n 25 := eo_sep h
section
variable {g : jm_G} {d : Nat} {σ : jm_S} {e n j : Nat} {s : Nat → Nat}
theorem c_generator {pa sh r : Nat} {p : sp_P} {st : sp_ES} (hE : EL g σ e n) (hS : EP g σ e n j s) (hn : n ≤ 8) (hsh : sh ≤ n) (hpl : pl g σ pa) (hP : PA σ.1 pa p) (hpw : sp_pw p) (hpa : pa + 3 < e ∨ eo e n 25 ≤ pa) (hR : ER σ.1 e n s sh st.1 st.2) (hc : st.1.length < 24) (h9 : σ.1 e 9 = nI r) (hr9 : r < 100) (h15 : σ.1 e 15 = nI st.1.length) (hr : sp_rm g σ) :
    J g (d + 8) 45 0 [some (aR 2 e), some (aR 5 pa), some (aI (nI sh)), none, none, none] [] σ (jGn σ e n s sh r st.1.length (sp_gen sh r p st)) := by
  obtain ⟨⟨x0, x1, x2, x3, x4, x5, x16⟩, ⟨y2, y3, y4, y113⟩, qp, rp, wp, ep⟩ := id hE
  obtain ⟨hj, ho, hs, hinj⟩ := id hS
  have hsc := hs st.1.length (by omega)
  have hec := ep _ hsc.1
  have hge := eo_ge e n (s st.1.length)
  have h25 := eo_25 (e := e) (n := n) hsc.1
  have hge25 := eo_ge e n 25
  obtain ⟨f1, hf1⟩ : ∃ f, f = (jm_wi σ e 9 (nI (r + 1))).1 := ⟨_, rfl⟩
  have hst1 : jm_wi σ e 9 (nI (r + 1)) = (f1, σ.2) := by rw [hf1]; rfl
  have f1q : ∀ q, q ≠ e → f1 q = σ.1 q := by intro q hq; rw [hf1, jm_wi_q hq]
  have f1k : ∀ k, k ≠ 9 → f1 e k = σ.1 e k := by intro k hk; rw [hf1, jm_wi_k hk]
  have f19 : f1 e 9 = nI (r + 1) := by rw [hf1, jm_wi_at]
  have hP1 : PA f1 pa p := PA_frame hP (f1q _ (by omega)) (f1q _ (by omega)) (f1q _ (by omega)) (f1q _ (by omega))
  have hpl100 := hpw.1
  by_cases h0 : p.length = 0
  · refine jm_run ok_G_generator [] 90 (fun kk hk => ?_)
    conv => whnf
    rw [h9, nI_1, hst1]
    refine b_ne (b := 0) hP1.1 rfl (fun h => absurd h0 h) (fun _ => ?_)
    conv => whnf
    refine hk _ _ _ _ (r_G_generator_19 ⟨f1, fun q hq => f1q q (by omega), fun k h1 _ _ => f1k k h1, f19, Or.inl ⟨st, by unfold sp_gen; rw [if_pos h0], rfl, ?_, by rw [f1k 15 (by decide)]; exact h15⟩⟩)
    exact ER_frame hR hsh (f1k 10 (by decide)) (f1q _ (by omega)) (fun i hi q hq _ => f1q q (by have := eo_ge e n (s i); omega))
  · have hgen : sp_gen sh r p st = (sp_mon (p, sp_us sh r)).map (fun E => (st.1 ++ [E], sp_jw st.1.length st.2)) := by unfold sp_gen; rw [if_neg h0]
    have hp0 : p ≠ [] := fun q => h0 (by rw [q]; rfl)
    have inblk : ∀ (f : Nat → Nat → Int32), (∀ q, ¬ (eo e n (s st.1.length) ≤ q ∧ q < eo e n (s st.1.length) + 6 + 4 * n) → q ≠ e + 1 → f q = f1 q) → ER f e n s sh st.1 st.2 := by
      intro f hf
      refine ER_frame hR hsh ?_ ?_ (fun i hi q hq hq2 => ?_)
      · rw [hf e (by omega) (by omega)]; exact f1k 10 (by decide)
      · rw [hf _ (by omega) (by omega)]; exact f1q _ (by omega)
      · have hne : s i ≠ s st.1.length := fun h => by have := hinj i _ (by omega) (by omega) h; omega
        have hsep := eo_ne (e := e) (n := n) hne
        have hgi := eo_ge e n (s i)
        rw [hf q (by omega) (by omega)]; exact f1q _ (by omega)
    have fin : ∀ (f : Nat → Nat → Int32), (∀ q, ¬ (eo e n (s st.1.length) ≤ q ∧ q < eo e n (s st.1.length) + 6 + 4 * n) → q ≠ e + 1 → f q = f1 q) → EA f (eo e n (s st.1.length)) (p, sp_us sh r) → ∀ z, J g (d + 8) 45 86 [some (aR 2 e), some (aR 5 pa), some (aI (nI sh)), some (aI (nI r)), some (aR 3 (eo e n (s st.1.length))), z] [] (f, σ.2) (jGn σ e n s sh r st.1.length (sp_gen sh r p st)) := by
      intro f hf hA z
      refine jm_run ok_G_generator [] 90 (fun kk hk => ?_)
      conv => whnf
      refine jg x0 ?_
      conv => whnf
      refine hk _ _ _ _ (k_G_generator_93 rfl (c_monic (σ := (f, σ.2)) (E := (p, sp_us sh r)) hec.1 hec.2.1 hec.2.2.1 hec.2.2.2.1 hec.2.2.2.2 hn (by omega) hA ⟨hpw, sp_us_w⟩ hp0 (sp_us_len sh r) hsh hr) (fun u hu => ?_))
      obtain ⟨f2, hf2, h2⟩ := hu
      have hf2' : ∀ q, ¬ (eo e n (s st.1.length) ≤ q ∧ q < eo e n (s st.1.length) + 6 + 4 * n) → q ≠ e + 1 → f2 q = f1 q := fun q h1 h3 => (hf2 q (by omega) h3).trans (hf q h1 h3)
      rcases h2 with ⟨E, hEm, hu, hEA, hEw, hEl⟩ | ⟨hn0, hu⟩
      · subst hu
        show J g (d + 8) 45 96 _ _ (f2, σ.2) _
        refine jm_run ok_G_generator [] 90 (fun kk hk => ?_)
        conv => whnf
        have hRR := inblk f2 hf2'
        refine hk _ _ _ _ (k_G_generator_97 rfl (c_join (σ := (f2, σ.2)) hE hRR.2.1 hc) (fun u hu => ?_))
        obtain ⟨f3, a1, a2, a3, a4, a5, a6⟩ := hu
        subst a6
        show J g (d + 8) 45 100 _ _ (f3, σ.2) _
        refine r_G_generator_100 ⟨f3, fun q hq => ?_, fun k b1 b2 b3 => ?_, ?_, Or.inl ⟨(st.1 ++ [E], sp_jw st.1.length st.2), by rw [hgen, hEm]; rfl, rfl, ?_, ?_⟩⟩
        · rw [a1 q (by omega) (by omega)]
          exact (hf2' q (by omega) (by omega)).trans (f1q q (by omega))
        · rw [a2 k b2 b3]
          exact (congrFun (hf2' e (by omega) (by omega)) k).trans (f1k k b1)
        · rw [a2 9 (by decide) (by decide)]
          exact (congrFun (hf2' e (by omega) (by omega)) 9).trans f19
        · exact ER_join (σ := (f2, σ.2)) hRR hc ⟨hEA, hEw, sp_mon_w ⟨hpw, sp_us_w⟩ hEm hp0, hEl⟩ a1 a3 a5
        · rw [a4]
          show nI _ = nI (st.1 ++ [E]).length
          rw [List.length_append]; rfl
      · subst hu
        refine ⟨f2, fun q hq => ?_, fun k b1 b2 b3 => ?_, ?_, Or.inr ⟨by rw [hgen, hn0]; rfl, rfl, ?_⟩⟩
        · exact (hf2' q (by omega) (by omega)).trans (f1q q (by omega))
        · exact (congrFun (hf2' e (by omega) (by omega)) k).trans (f1k k b1)
        · exact (congrFun (hf2' e (by omega) (by omega)) 9).trans f19
        · exact (congrFun (hf2' e (by omega) (by omega)) 15).trans ((f1k 15 (by decide)).trans h15)
    have clr : ∀ m i (f : Nat → Nat → Int32), i + m = sh → (∀ q, ¬ (eo e n (s st.1.length) ≤ q ∧ q < eo e n (s st.1.length) + 6 + 4 * n) → q ≠ e + 1 → f q = f1 q) → PA f (eo e n (s st.1.length) + 1) p → (∀ k, k < i → f (eo e n (s st.1.length) + 6 + 4 * k) 0 = 0) → J g (d + 8) 45 43 [some (aR 2 e), some (aR 5 pa), some (aI (nI sh)), some (aI (nI r)), some (aR 3 (eo e n (s st.1.length))), some (aI (nI i))] [] (f, σ.2) (jGn σ e n s sh r st.1.length (sp_gen sh r p st)) := by
      intro m
      induction m with
      | zero =>
        intro i f hi hf hA h0
        refine jm_run ok_G_generator [43, 86] 90 (fun kk hk => ?_)
        conv => whnf
        refine b_le (a := sh) rfl rfl (fun _ => ?_) (fun h => by omega)
        conv => whnf
        refine b_le (a := sh) (b := r) rfl rfl (fun hrs => ?_) (fun hrs => ?_)
        · conv => whnf
          refine hk _ _ _ _ (fin f hf ⟨hA, fun k q hq => ?_⟩ _)
          have := sp_us_at hq
          rw [this.2, if_neg (by omega)]
          exact PA_nil (h0 k (by omega))
        · conv => whnf
          have hek := hec.2.2.2.2 r (by omega)
          refine jg hec.2.1 ?_
          conv => whnf
          refine jr rfl hec.2.2.2.1 hek.1 ?_
          conv => whnf
          refine hk _ _ _ _ (k_G_generator_83 rfl (c_insert (σ := (f, σ.2)) (n := 0) (k0 := 0) hek.2 (by decide) (Nat.le_refl _) (h0 r (by omega)) hr) (fun u hu => ?_))
          rcases hu with ⟨q, -⟩ | ⟨-, hu⟩
          · exact absurd q (by decide)
          subst hu
          have hPi := PA_ins (σ := (f, σ.2)) (p := []) (k := 0) (t := (1, (1, sp_zm))) (PA_nil (h0 r (by omega))) (Nat.le_refl _)
          have hq : ∀ q, ¬ (eo e n (s st.1.length) + 6 + 4 * r ≤ q ∧ q ≤ eo e n (s st.1.length) + 6 + 4 * r + 3) → (insF (f, σ.2) (eo e n (s st.1.length) + 6 + 4 * r) 0 0 1 1 0).1 q = f q := fun q hq => insF_q hq
          have h22 : insF (f, σ.2) (eo e n (s st.1.length) + 6 + 4 * r) 0 0 1 1 0 = ((insF (f, σ.2) (eo e n (s st.1.length) + 6 + 4 * r) 0 0 1 1 0).1, σ.2) := rfl
          show J g (d + 8) 45 86 _ _ (insF (f, σ.2) (eo e n (s st.1.length) + 6 + 4 * r) 0 0 1 1 0) _
          rw [h22]
          refine fin _ (fun q h1 h2 => (hq q (by omega)).trans (hf q h1 h2)) ⟨PA_frame hA (hq _ (by omega)) (hq _ (by omega)) (hq _ (by omega)) (hq _ (by omega)), fun k q hq2 => ?_⟩ _
          have := sp_us_at hq2
          by_cases hkr : k = r
          · rw [this.2, if_pos hkr, hkr]
            exact hPi
          · rw [this.2, if_neg hkr]
            exact PA_nil (by rw [hq _ (by omega)]; exact h0 k (by omega))
      | succ m ih =>
        intro i f hi hf hA h0
        have hek := hec.2.2.2.2 i (by omega)
        refine jm_run ok_G_generator [43, 86] 90 (fun kk hk => ?_)
        conv => whnf
        refine b_le (a := sh) rfl rfl (fun h => by omega) (fun _ => ?_)
        conv => whnf
        refine jg hec.2.1 ?_
        conv => whnf
        refine jr rfl hec.2.2.2.1 hek.1 ?_
        conv => whnf
        rw [nI_1]
        have hst : jm_wi (f, σ.2) (eo e n (s st.1.length) + 6 + 4 * i) 0 0 = ((jm_wi (f, σ.2) (eo e n (s st.1.length) + 6 + 4 * i) 0 0).1, σ.2) := rfl
        rw [hst]
        refine hk _ _ _ _ (ih (i + 1) _ (by omega) (fun q h1 h2 => ?_) ?_ (fun k hk => ?_))
        · rw [jm_wi_q (by omega)]; exact hf q h1 h2
        · exact PA_frame hA (jm_wi_q (by omega)) (jm_wi_q (by omega)) (jm_wi_q (by omega)) (jm_wi_q (by omega))
        · by_cases hki : k = i
          · subst hki; exact jm_wi_at
          · rw [jm_wi_q (by omega)]; exact h0 k (by omega)
    have e10 : f1 e 10 = nI st.1.length := (f1k 10 (by decide)).trans hR.2.1
    refine jm_run ok_G_generator [43] 90 (fun kk hk => ?_)
    conv => whnf
    rw [h9, nI_1, hst1]
    refine b_ne (b := 0) hP1.1 rfl (fun _ => ?_) (fun h => absurd h h0)
    conv => whnf
    refine jg x1 ?_
    conv => whnf
    refine jr e10 y2 hsc.2 ?_
    conv => whnf
    refine jg hec.1 ?_
    conv => whnf
    refine hk _ _ _ _ (k_G_generator_37 rfl (c_become (σ := (f1, σ.2)) hec.2.2.1 hpl hP1 hpl100 (by unfold dj; omega)) (fun u hu => ?_))
    obtain ⟨f2, hf2, h2⟩ := hu
    rcases h2 with ⟨p2, hp2, hu, hPA⟩ | ⟨hn0, -⟩
    · cases hp2
      subst hu
      show J g (d + 8) 45 40 _ _ (f2, σ.2) _
      refine jm_run ok_G_generator [43] 90 (fun kk hk => ?_)
      conv => whnf
      exact hk _ _ _ _ (clr sh 0 f2 (Nat.zero_add _) (fun q h1 h2 => hf2 q (by omega) (by omega)) hPA (fun k hk => by omega))
    · cases hn0
end
