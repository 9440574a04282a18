/-! Engine thin -/
def gd (f : Nat → Nat → Int32) (o sh : Nat) (E : sp_E) : Prop := EA f o E ∧ sp_ew E ∧ E.1 ≠ [] ∧ E.2.length = sh
/-- the elements, without what waits -/
def EX (f : Nat → Nat → Int32) (e n : Nat) (s : Nat → Nat) (sh : Nat) (els : List sp_E) : Prop := els.length ≤ 24 ∧ f e 10 = nI els.length ∧ ∀ i E, els[i]? = some E → gd f (eo e n (s i)) sh E
theorem EX.eg {f : Nat → Nat → Int32} {e n : Nat} {s : Nat → Nat} {sh : Nat} {els : List sp_E} (h : EX f e n s sh els) : EG f e n s (sp_G els) := by
  refine ⟨by rw [sp_G, List.length_map]; exact h.1, by rw [sp_G, List.length_map]; exact h.2.1, fun i p hp => ?_⟩
  rw [sp_G, List.getElem?_map] at hp
  cases hE : els[i]? with
  | none => rw [hE] at hp; cases hp
  | some E =>
    rw [hE] at hp
    cases hp
    have := h.2.2 i E hE
    exact ⟨this.1.1, this.2.1.1, this.2.2.1⟩
theorem gd_frame {f f' : Nat → Nat → Int32} {o sh : Nat} {E : sp_E} (h : gd f o sh E) (hf : ∀ q, o ≤ q → q < o + 6 + 4 * sh → f' q = f q) : gd f' o sh E := ⟨EA_frame h.1 (by rw [h.2.2.2]; exact Nat.le_refl _) hf, h.2⟩
theorem sp_bi_or (a b : Bool) : sp_bi a ||| sp_bi b = sp_bi (a || b) := by cases a <;> cases b <;> decide
theorem sw_swap {P : Nat → sp_E → Prop} {s : Nat → Nat} {A B : List sp_E} {x E : sp_E} (h : ∀ t E', (A ++ x :: E :: B)[t]? = some E' → P (s t) E') : ∀ t E', (A ++ E :: x :: B)[t]? = some E' → P (sw s (A.length + 1) A.length t) E' := by
  intro t E' ht
  unfold sw
  by_cases h1 : t = A.length
  · subst h1
    rw [if_pos rfl]
    rw [List.getElem?_append_right (Nat.le_refl _), Nat.sub_self] at ht
    exact h (A.length + 1) E' (by rw [List.getElem?_append_right (by omega), show A.length + 1 - A.length = 1 by omega]; exact ht)
  · rw [if_neg h1]
    by_cases h2 : t = A.length + 1
    · subst h2
      rw [if_pos rfl]
      rw [List.getElem?_append_right (by omega), show A.length + 1 - A.length = 1 by omega] at ht
      exact h A.length E' (by rw [List.getElem?_append_right (Nat.le_refl _), Nat.sub_self]; exact ht)
    · rw [if_neg h2]
      refine h t E' ?_
      by_cases h3 : t < A.length
      · rw [List.getElem?_append_left h3] at ht ⊢; exact ht
      · rw [List.getElem?_append_right (by omega)] at ht ⊢
        obtain ⟨i, hi⟩ : ∃ i, t - A.length = i + 2 := ⟨t - A.length - 2, by omega⟩
        rw [hi] at ht ⊢
        exact ht
theorem sp_kp_len (els : List sp_E) : ∀ i, (sp_kp els i).length ≤ i
  | 0 => Nat.le_refl _
  | i + 1 => by
    have := sp_kp_len els i
    unfold sp_kp
    split
    · omega
    · rw [List.length_append]
      show _ + 1 ≤ _
      omega
theorem sp_ei_len (j : Nat) (t : sp_E) : ∀ r, (sp_ei j t r).length = r.length + 1
  | [] => rfl
  | x :: r => by
    unfold sp_ei
    split
    · rw [List.length_cons, sp_ei_len j t r]; rfl
    · rfl
section
variable {g : jm_G} {d : Nat} {σ : jm_S} {e n j : Nat} {s : Nat → Nat}
theorem kc_thin {L : List (Option jm_V)} {r : List jm_V} {K : jm_O → Prop} {j : Nat} {a b : sp_M} (hj : j < 3) (ha : sp_ok a) (hb : sp_ok b) (hr : Nat.ble (jm_cs r) 8 = true) (h : J g (d + 3) 60 170 L (aI (sp_i (sp_cmp j a b)) :: r) σ K) : J g (d + 3) 60 167 L (aI (sp_c b) :: aI (sp_c a) :: aR 13 (goa g j) :: r) σ K := by
  have : j = 0 ∨ j = 1 ∨ j = 2 := by omega
  rcases this with rfl | rfl | rfl
  · exact k_G_thin_167_1 rfl hr (c_cmp1 ha hb) (fun u hu => by subst hu; exact h)
  · exact k_G_thin_167_2 rfl hr (c_cmp2 ha hb) (fun u hu => by subst hu; exact h)
  · exact k_G_thin_167_3 rfl hr (c_cmp3 ha hb) (fun u hu => by subst hu; exact h)
/-- how thin ends -/
def jTh (g : jm_G) (σ : jm_S) (e n j sh : Nat) (els : List sp_E) : jm_O → Prop := fun u => ∃ (f : Nat → Nat → Int32) (ρ : (Nat → Nat → Nat) × (Nat × Nat)) (s' : Nat → Nat), RQ σ ρ (e + 2) ∧ EP g (f, ρ) e n j s' ∧ (∀ q, q ≠ e → q ≠ e + 113 → f q = σ.1 q) ∧ (∀ k, k ≠ 10 → f e k = σ.1 e k) ∧ EX f e n s' sh els ∧ u = ((f, ρ), .inl none)
/-- thin, where the elements are put in order -/
theorem c_thinS {sh c : Nat} {f : Nat → Nat → Int32} {fin : List sp_E} (hE : EL g σ e n) (hj : j < 3) (hc : c ≤ 24) (h10 : f e 10 = nI c) (hf1 : ∀ q, q ≠ e → q ≠ e + 113 → f q = σ.1 q) (hf2 : ∀ k, k ≠ 10 → f e k = σ.1 e k) {y1 : Int32} : ∀ (r acc : List sp_E) (ρ : (Nat → Nat → Nat) × (Nat × Nat)) (s : Nat → Nat) (z3 z4 : Option jm_V), acc.length + r.length = c → 1 ≤ acc.length → RQ σ ρ (e + 2) → EP g (f, ρ) e n j s → (∀ t E, (acc.reverse ++ r)[t]? = some E → gd f (eo e n (s t)) sh E) → fin = (sp_eo j acc r).reverse →
    J g (d + 4) 60 137 [some (aR 2 e), some (aI y1), some (aI (nI acc.length)), z3, z4] [] (f, ρ) (jTh g σ e n j sh fin) := by
  intro r
  induction r with
  | nil =>
    intro acc ρ s z3 z4 hlen h1 hρ hS hG he
    rw [List.append_nil] at hG
    have hl' : acc.length = c := hlen
    refine jm_run ok_G_thin [137] 90 (fun kk hk => ?_)
    conv => whnf
    refine b_le h10 rfl (fun _ => ?_) (fun h => by omega)
    conv => whnf
    refine hk _ _ _ _ (r_G_thin_193 ⟨f, ρ, s, hρ, hS, hf1, hf2, ⟨?_, ?_, ?_⟩, rfl⟩)
    · rw [he, List.length_reverse]; exact Nat.le_trans (Nat.le_of_eq hl') hc
    · rw [he, List.length_reverse, h10]; exact congrArg nI hl'.symm
    · rw [he]; exact hG
  | cons E r ih =>
    intro acc ρ s z3 z4 hlen h1 hρ hS hG he
    rw [List.length_cons] at hlen
    have inner : ∀ (u v : List sp_E) (ρ : (Nat → Nat → Nat) × (Nat × Nat)) (s : Nat → Nat), u.length + v.length = acc.length + r.length → RQ σ ρ (e + 2) → EP g (f, ρ) e n j s → (∀ t E', (u.reverse ++ E :: v)[t]? = some E' → gd f (eo e n (s t)) sh E') → (sp_ei j E u).reverse ++ v = (sp_ei j E acc).reverse ++ r →
        J g (d + 4) 60 147 [some (aR 2 e), some (aI y1), some (aI (nI acc.length)), some (aI (nI u.length)), z4] [] (f, ρ) (jTh g σ e n j sh fin) := by
      intro u
      have stop : ∀ (u v : List sp_E) (ρ : (Nat → Nat → Nat) × (Nat × Nat)) (s : Nat → Nat), RQ σ ρ (e + 2) → EP g (f, ρ) e n j s → (∀ t E', (u.reverse ++ E :: v)[t]? = some E' → gd f (eo e n (s t)) sh E') → u.reverse ++ E :: v = (sp_ei j E acc).reverse ++ r →
          J g (d + 4) 60 187 [some (aR 2 e), some (aI y1), some (aI (nI acc.length)), some (aI (nI u.length)), z4] [] (f, ρ) (jTh g σ e n j sh fin) := by
        intro u v ρ s hρ hS hG hv
        rw [hv] at hG
        refine jm_run ok_G_thin [137] 90 (fun kk hk => ?_)
        conv => whnf
        rw [nI_1]
        have := ih (sp_ei j E acc) ρ s (some (aI (nI u.length))) z4 (by rw [sp_ei_len]; omega) (by rw [sp_ei_len]; omega) hρ hS hG he
        rw [sp_ei_len] at this
        exact hk _ _ _ _ this
      induction u with
      | nil =>
        intro v ρ s _ hρ hS hG hv
        refine jm_run ok_G_thin [147, 187] 90 (fun kk hk => ?_)
        conv => whnf
        refine b_le (a := 0) (b := 0) rfl rfl (fun _ => ?_) (fun h => by omega)
        conv => whnf
        exact hk _ _ _ _ (stop [] v ρ s hρ hS hG hv)
      | cons x u ihu =>
        intro v ρ s hl2 hρ hS hG hv
        rw [List.length_cons] at hl2
        have hG' := hG
        rw [List.reverse_cons, List.append_assoc] at hG'
        have gx := hG' u.length x (by rw [List.getElem?_append_right (by rw [List.length_reverse]; exact Nat.le_refl _), List.length_reverse, Nat.sub_self]; rfl)
        have gE := hG' (u.length + 1) E (by rw [List.getElem?_append_right (by rw [List.length_reverse]; omega), List.length_reverse, show u.length + 1 - u.length = 1 by omega]; rfl)
        have ox := sp_ld_ok gx.2.1.1
        have oE := sp_ld_ok gE.2.1.1
        have hcb := sp_cmp_b oE ox j
        have hE' := hρ.el (f := f) hE
        refine jm_run ok_G_thin [147, 187] 90 (fun kk hk => ?_)
        conv => whnf
        refine b_le (a := u.length + 1) (b := 0) rfl rfl (fun h => by omega) (fun _ => ?_)
        conv => whnf
        refine jg hS.2.1 ?_
        conv => whnf
        refine hk _ _ _ _ (k_G_thin_157 rfl (c_lead (σ := (f, ρ)) hE' hS (by omega : u.length + 1 < 25) gE.1.1 gE.2.2.1) (fun y hy => ?_))
        subst hy
        show J g (d + 4) 60 160 _ _ (f, ρ) _
        refine jm_run ok_G_thin [147, 187] 90 (fun kk hk => ?_)
        conv => whnf
        rw [List.length_cons, nI_pred]
        refine hk _ _ _ _ (k_G_thin_164 rfl (c_lead (σ := (f, ρ)) hE' hS (by omega : u.length < 25) gx.1.1 gx.2.2.1) (fun y hy => ?_))
        subst hy
        show J g (d + 4) 60 167 _ (aI (sp_c (sp_ld x.1)) :: aI (sp_c (sp_ld E.1)) :: aR 13 (goa g j) :: []) (f, ρ) _
        refine kc_thin hj oE ox rfl ?_
        rw [sp_ei] at hv
        refine jm_run ok_G_thin [147, 187] 90 (fun kk hk => ?_)
        conv => whnf
        refine bi_le sp_i0 rfl (fun h => ?_) (fun h => ?_)
        · conv => whnf
          rw [if_neg (by omega), List.reverse_cons, List.append_assoc] at hv
          exact hk _ _ _ _ (stop (x :: u) v ρ s hρ hS hG hv)
        · conv => whnf
          rw [nI_pred]
          refine hk _ _ _ _ (k_G_thin_178 rfl (c_swap (i := u.length + 1) (k := u.length) hE hρ hS (by omega) (by omega)) (fun y hy => ?_))
          obtain ⟨ρ2, hρ2, hS2, hy⟩ := hy
          subst hy
          show J g (d + 4) 60 181 _ _ (f, ρ2) _
          have hsw := sw_swap (P := fun o E => gd f (eo e n o) sh E) (s := s) (A := u.reverse) (B := v) (x := x) (E := E) hG'
          rw [List.length_reverse] at hsw
          refine jm_run ok_G_thin [147, 187] 90 (fun kk hk => ?_)
          conv => whnf
          rw [pk_m1]
          refine hk _ _ _ _ (ihu (x :: v) ρ2 _ (by rw [List.length_cons]; omega) hρ2 hS2 hsw ?_)
          rw [if_pos h, List.reverse_cons, List.append_assoc] at hv
          exact hv
    refine jm_run ok_G_thin [137, 147] 90 (fun kk hk => ?_)
    conv => whnf
    refine b_le h10 rfl (fun h => by omega) (fun _ => ?_)
    conv => whnf
    exact hk _ _ _ _ (inner acc r ρ s rfl hρ hS hG rfl)
/-- thin, where those that stay move down -/
theorem c_thinM {sh c : Nat} {els : List sp_E} {f : Nat → Nat → Int32} (hE : EL g σ e n) (hj : j < 3) (hc : c ≤ 24) (hel : els.length = c) (h10 : f e 10 = nI c) (hf1 : ∀ q, q ≠ e → q ≠ e + 113 → f q = σ.1 q) (hf2 : ∀ k, f e k = σ.1 e k) (hg : ∀ i, i < c → f (e + 113) i = sp_bi (sp_gone els i)) : ∀ (m i : Nat) (ρ : (Nat → Nat → Nat) × (Nat × Nat)) (s : Nat → Nat) (z3 z4 : Option jm_V), i + m = c → RQ σ ρ (e + 2) → EP g (f, ρ) e n j s → (∀ t E, (sp_kp els i)[t]? = some E → gd f (eo e n (s t)) sh E) → (∀ t E, i ≤ t → els[t]? = some E → gd f (eo e n (s t)) sh E) →
    J g (d + 4) 60 98 [some (aR 2 e), some (aI (nI (sp_kp els i).length)), some (aI (nI i)), z3, z4] [] (f, ρ) (jTh g σ e n j sh (sp_thin j els)) := by
  intro m
  induction m with
  | zero =>
    intro i ρ s z3 z4 him hρ hS hK hT
    have hic : i = els.length := by omega
    have hkl := sp_kp_len els i
    obtain ⟨f2, hf⟩ : ∃ f2, f2 = (jm_wi (f, ρ) e 10 (nI (sp_kp els i).length)).1 := ⟨_, rfl⟩
    have hst : jm_wi (f, ρ) e 10 (nI (sp_kp els i).length) = (f2, ρ) := by rw [hf]; rfl
    have f2q : ∀ y, y ≠ e → f2 y = f y := by intro y hy; rw [hf, jm_wi_q hy]
    have f2k : ∀ k, k ≠ 10 → f2 e k = f e k := by intro k hk; rw [hf, jm_wi_k hk]
    have f210 : f2 e 10 = nI (sp_kp els i).length := by rw [hf, jm_wi_at]
    have hK2 : ∀ t E, (sp_kp els i)[t]? = some E → gd f2 (eo e n (s t)) sh E := fun t E h => gd_frame (hK t E h) (fun q hq _ => f2q q (by have := eo_ge e n (s t); omega))
    have hS2 : EP g (f2, ρ) e n j s := hS
    refine jm_run ok_G_thin [98, 137] 90 (fun kk hk => ?_)
    conv => whnf
    refine b_le h10 rfl (fun _ => ?_) (fun h => by omega)
    conv => whnf
    rw [hst]
    refine hk _ _ _ _ ?_
    have hthin : sp_thin j els = (sp_eo j [] (sp_kp els i)).reverse := by rw [hic]; rfl
    rw [hthin]
    generalize sp_kp els i = L at hK2 f210 hkl
    cases L with
    | nil =>
      refine jm_run ok_G_thin [] 90 (fun kk hk => ?_)
      conv => whnf
      refine b_le (b := 1) f210 rfl (fun _ => ?_) (fun h => absurd h (by decide)) (by decide)
      conv => whnf
      refine hk _ _ _ _ (r_G_thin_193 ⟨f2, ρ, s, hρ, hS2, fun q h1 h2 => (f2q q h1).trans (hf1 q h1 h2), fun k hk => (f2k k hk).trans (hf2 k), ⟨Nat.zero_le _, f210, fun i E h => by cases h⟩, rfl⟩)
    | cons E r =>
      rw [List.length_cons] at hkl
      exact c_thinS hE hj (show (E :: r).length ≤ 24 by rw [List.length_cons]; omega) f210 (fun q h1 h2 => (f2q q h1).trans (hf1 q h1 h2)) (fun k hk => (f2k k hk).trans (hf2 k)) r [E] ρ s z3 z4 (Nat.add_comm _ _) (Nat.le_refl _) hρ hS2 hK2 rfl
  | succ m ih =>
    intro i ρ s z3 z4 him hρ hS hK hT
    have hil : i < els.length := by omega
    have gi : els[i]? = some els[i] := List.getElem?_eq_getElem hil
    have hkl := sp_kp_len els i
    have hE' := hρ.el (f := f) hE
    have hkp : sp_kp els (i + 1) = if sp_gone els i = true then sp_kp els i else sp_kp els i ++ [sp_at0 els i] := rfl
    refine jm_run ok_G_thin [98] 90 (fun kk hk => ?_)
    conv => whnf
    refine b_le h10 rfl (fun h => by omega) (fun _ => ?_)
    conv => whnf
    refine jg hE'.1.2.2.2.2.2.2 ?_
    conv => whnf
    refine ja rfl hE'.2.1.2.2.2 (hg i (by omega)) ?_
    conv => whnf
    refine b_nz rfl (fun hgo => ?_) (fun hgo => ?_)
    · conv => whnf
      rw [nI_1]
      rw [if_pos hgo] at hkp
      have := ih (i + 1) ρ s z3 z4 (by omega) hρ hS (by rw [hkp]; exact hK) (fun t E h1 h2 => hT t E (by omega) h2)
      rw [hkp] at this
      exact hk _ _ _ _ this
    · conv => whnf
      rw [nI_1]
      rw [if_neg (by rw [hgo]; decide), sp_at0_at gi] at hkp
      refine hk _ _ _ _ (k_G_thin_121 rfl (c_swap (i := i) (k := (sp_kp els i).length) hE hρ hS (by omega) (by omega)) (fun y hy => ?_))
      obtain ⟨ρ2, hρ2, hS2, hy⟩ := hy
      subst hy
      show J g (d + 4) 60 124 _ _ (f, ρ2) _
      have := ih (i + 1) ρ2 (sw s i (sp_kp els i).length) z3 z4 (by omega) hρ2 hS2 (fun t E h => by
          rw [hkp] at h
          by_cases ht : t < (sp_kp els i).length
          · rw [List.getElem?_append_left ht] at h
            unfold sw
            rw [if_neg (by omega), if_neg (by omega)]
            exact hK t E h
          · have htl := (List.getElem?_eq_some_iff.mp h).1
            rw [List.length_append] at htl
            have htl2 : t < (sp_kp els i).length + 1 := htl
            have hte : t = (sp_kp els i).length := by omega
            subst hte
            rw [List.getElem?_append_right (Nat.le_refl _), Nat.sub_self] at h
            cases h
            unfold sw
            rw [if_pos rfl]
            exact hT i _ (Nat.le_refl _) gi) (fun t E h1 h2 => by
          unfold sw
          rw [if_neg (by omega), if_neg (by omega)]
          exact hT t E (by omega) h2)
      rw [hkp, List.length_append] at this
      refine jm_run ok_G_thin [98] 90 (fun kk hk => ?_)
      conv => whnf
      rw [nI_1]
      exact hk _ _ _ _ this
theorem c_thin {sh : Nat} {els : List sp_E} (hE : EL g σ e n) (hS : EP g σ e n j s) (hX : EX σ.1 e n s sh els) : J g (d + 4) 60 0 [some (aR 2 e), none, none, none, none] [] σ (jTh g σ e n j sh (sp_thin j els)) := by
  obtain ⟨⟨x0, x1, x2, x3, x4, x5, x16⟩, ⟨y2, y3, y4, y113⟩, -⟩ := id hE
  have hj := hS.1
  have hl := hX.1
  have hGl : (sp_G els).length = els.length := by rw [sp_G, List.length_map]
  have eg : ∀ f : Nat → Nat → Int32, (∀ q, q ≠ e + 113 → f q = σ.1 q) → EG f e n s (sp_G els) := by
    intro f hf
    refine EX.eg (sh := sh) ⟨hl, by rw [hf e (by omega)]; exact hX.2.1, fun i E h => gd_frame (hX.2.2 i E h) (fun q hq _ => hf q (by have := eo_ge e n (s i); omega))⟩
  have mark : ∀ m i (f : Nat → Nat → Int32) (z3 z4 : Option jm_V), i + m = els.length → (∀ q, q ≠ e + 113 → f q = σ.1 q) → (∀ k, k < i → f (e + 113) k = sp_bi (sp_gone els k)) → J g (d + 4) 60 4 [some (aR 2 e), some (aI (nI 0)), some (aI (nI i)), z3, z4] [] (f, σ.2) (jTh g σ e n j sh (sp_thin j els)) := by
    intro m
    induction m with
    | zero =>
      intro i f z3 z4 him hf hg
      have e10 : f e 10 = nI els.length := by rw [hf e (by omega)]; exact hX.2.1
      refine jm_run ok_G_thin [4, 98] 90 (fun kk hk => ?_)
      conv => whnf
      refine b_le e10 rfl (fun _ => ?_) (fun h => by omega)
      conv => whnf
      exact hk _ _ _ _ (c_thinM (els := els) hE hj hl rfl e10 (fun q _ h2 => hf q h2) (fun k => congrFun (hf e (by omega)) k) (fun k hk => hg k (by omega)) els.length 0 σ.2 s z3 z4 (Nat.zero_add _) (RQ.refl σ _) hS (fun t E h => by cases h) (fun t E _ h => gd_frame (hX.2.2 t E h) (fun q hq _ => hf q (by have := eo_ge e n (s t); omega))))
    | succ m ih =>
      intro i f z3 z4 him hf hg
      have e10 : f e 10 = nI els.length := by rw [hf e (by omega)]; exact hX.2.1
      have hil : i < (sp_G els).length := by omega
      have hEG := eg f hf
      have inner : ∀ m k b, k + m = els.length → b = (List.range k).any (fun k => decide (k ≠ i) && (sp_dv (gl (sp_G els) k) (gl (sp_G els) i) && (!decide (gl (sp_G els) k = gl (sp_G els) i) || decide (k < i)))) → J g (d + 4) 60 17 [some (aR 2 e), some (aI (nI 0)), some (aI (nI i)), some (aI (sp_bi b)), some (aI (nI k))] [] (f, σ.2) (jTh g σ e n j sh (sp_thin j els)) := by
        intro m
        induction m with
        | zero =>
          intro k b hkm hb
          have hbg : b = sp_gone els i := by rw [hb, show k = els.length by omega]; rfl
          refine jm_run ok_G_thin [4, 17] 90 (fun kk hk => ?_)
          conv => whnf
          refine b_le e10 rfl (fun _ => ?_) (fun h => by omega)
          conv => whnf
          refine jg x16 ?_
          conv => whnf
          refine ⟨sp_bi_01 _, ?_⟩
          refine jw (i := i) rfl y113 ?_
          conv => whnf
          rw [nI_1]
          refine hk _ _ _ _ (ih (i + 1) (jm_wi (f, σ.2) (e + 113) i (sp_bi b)).1 _ _ (by omega) (fun q hq => by rw [jm_wi_q hq]; exact hf q hq) (fun t ht => ?_))
          by_cases hti : t = i
          · subst hti; rw [jm_wi_at, hbg]
          · rw [jm_wi_k hti]; exact hg t (by omega)
        | succ m ihm =>
          intro k b hkm hb
          have hkl : k < (sp_G els).length := by omega
          have ok := gl_ok hEG hkl
          have oi := gl_ok hEG hil
          have hrec : ∀ z, z = (decide (k ≠ i) && (sp_dv (gl (sp_G els) k) (gl (sp_G els) i) && (!decide (gl (sp_G els) k = gl (sp_G els) i) || decide (k < i)))) → J g (d + 4) 60 75 [some (aR 2 e), some (aI (nI 0)), some (aI (nI i)), some (aI (sp_bi b)), some (aI (nI k))] [aI (sp_bi z), aI (sp_bi b)] (f, σ.2) (jTh g σ e n j sh (sp_thin j els)) := by
            intro z hz
            refine jm_run ok_G_thin [4, 17] 90 (fun kk hk => ?_)
            conv => whnf
            rw [nI_1, sp_bi_or]
            refine hk _ _ _ _ (ihm (k + 1) (b || z) (by omega) ?_)
            rw [sp_any_s (α := Nat), ← hb, hz]
          have no : (decide (k ≠ i) && (sp_dv (gl (sp_G els) k) (gl (sp_G els) i) && (!decide (gl (sp_G els) k = gl (sp_G els) i) || decide (k < i)))) = false → J g (d + 4) 60 74 [some (aR 2 e), some (aI (nI 0)), some (aI (nI i)), some (aI (sp_bi b)), some (aI (nI k))] [aI (sp_bi b)] (f, σ.2) (jTh g σ e n j sh (sp_thin j els)) := by
            intro hz
            refine jm_run ok_G_thin [4, 17, 75] 90 (fun kk hk => ?_)
            conv => whnf
            exact hk _ _ _ _ (hrec false hz.symm)
          have yes : (decide (k ≠ i) && (sp_dv (gl (sp_G els) k) (gl (sp_G els) i) && (!decide (gl (sp_G els) k = gl (sp_G els) i) || decide (k < i)))) = true → J g (d + 4) 60 70 [some (aR 2 e), some (aI (nI 0)), some (aI (nI i)), some (aI (sp_bi b)), some (aI (nI k))] [aI (sp_bi b)] (f, σ.2) (jTh g σ e n j sh (sp_thin j els)) := by
            intro hz
            refine jm_run ok_G_thin [4, 17, 75] 90 (fun kk hk => ?_)
            conv => whnf
            exact hk _ _ _ _ (hrec true hz.symm)
          refine jm_run ok_G_thin [4, 17, 74, 70] 90 (fun kk hk => ?_)
          conv => whnf
          refine b_le e10 rfl (fun h => by omega) (fun _ => ?_)
          conv => whnf
          refine b_eq rfl rfl (fun h => ?_) (fun h1 => ?_)
          · conv => whnf
            exact hk _ _ _ _ (no (by rw [decide_eq_false (fun q : k ≠ i => q h)]; rfl))
          · conv => whnf
            refine hk _ _ _ _ (k_G_thin_36 rfl (c_leadG (σ := (f, σ.2)) hE hS hEG hkl) (fun u hu => ?_))
            subst hu
            show J g (d + 4) 60 39 _ _ (f, σ.2) _
            refine jm_run ok_G_thin [4, 17, 74, 70] 90 (fun kk hk => ?_)
            conv => whnf
            refine hk _ _ _ _ (k_G_thin_41 rfl (c_leadG (σ := (f, σ.2)) hE hS hEG hil) (fun u hu => ?_))
            subst hu
            show J g (d + 4) 60 44 _ _ (f, σ.2) _
            refine k_G_thin_44 rfl (c_divides ok oi) (fun u hu => ?_)
            subst hu
            show J g (d + 4) 60 47 _ _ (f, σ.2) _
            refine jm_run ok_G_thin [4, 17, 74, 70] 90 (fun kk hk => ?_)
            conv => whnf
            refine b_z rfl (fun h2 => ?_) (fun h2 => ?_)
            · conv => whnf
              exact hk _ _ _ _ (no (by rw [h2, Bool.false_and, Bool.and_false]))
            · conv => whnf
              refine hk _ _ _ _ (k_G_thin_53 rfl (c_leadG (σ := (f, σ.2)) hE hS hEG hkl) (fun u hu => ?_))
              subst hu
              show J g (d + 4) 60 56 _ _ (f, σ.2) _
              refine jm_run ok_G_thin [4, 17, 74, 70] 90 (fun kk hk => ?_)
              conv => whnf
              refine hk _ _ _ _ (k_G_thin_58 rfl (c_leadG (σ := (f, σ.2)) hE hS hEG hil) (fun u hu => ?_))
              subst hu
              show J g (d + 4) 60 61 _ _ (f, σ.2) _
              have bk := sp_6_lt ok
              have bi := sp_6_lt oi
              refine jm_run ok_G_thin [4, 17, 74, 70] 90 (fun kk hk => ?_)
              conv => whnf
              refine b_ne (a := sp_6 (gl (sp_G els) k)) (b := sp_6 (gl (sp_G els) i)) rfl rfl (fun h3 => ?_) (fun h3 => ?_)
              · conv => whnf
                exact hk _ _ _ _ (yes (by rw [h2, decide_eq_true h1, decide_eq_false (fun q : gl (sp_G els) k = gl (sp_G els) i => h3 (by rw [q]))]; rfl))
              · have heq := sp_c_inj ok oi h3
                conv => whnf
                refine b_le (a := i) (b := k) rfl rfl (fun h4 => ?_) (fun h4 => ?_)
                · conv => whnf
                  exact hk _ _ _ _ (no (by rw [decide_eq_true heq, decide_eq_false (show ¬ k < i by omega), h2]; simp))
                · conv => whnf
                  exact hk _ _ _ _ (yes (by rw [h2, decide_eq_true h1, decide_eq_true h4, Bool.or_true]; rfl))
      refine jm_run ok_G_thin [4, 17] 90 (fun kk hk => ?_)
      conv => whnf
      refine b_le e10 rfl (fun h => by omega) (fun _ => ?_)
      conv => whnf
      exact hk _ _ _ _ (inner els.length 0 false (Nat.zero_add _) rfl)
  refine jm_run ok_G_thin [4] 90 (fun kk hk => ?_)
  conv => whnf
  exact hk _ _ _ _ (mark els.length 0 σ.1 none none (Nat.zero_add _) (fun _ _ => rfl) (fun k hk => by omega))
end
