/-! the House: size, zero, clear, done, generator, same -/
section
variable {g : jm_G} {d : Nat} {σ τ : jm_S} {h : Nat} {S S' : sp_H}
def op_size (S : sp_H) (x : Int32) : Int32 × sp_H := (if sp_ip x = true then nI (pg S x.toNatClampNeg).length else -1, S)
theorem HR.pl (hR : HR g σ h S) (hG : GS S) {k : Nat} (hk : k < 40) : PA σ.1 (h + 3 + 4 * k) (pg S k) := hR.2.2.1 k _ (pg_at hG hk)
theorem c_size {x : Int32} (hR : HR g σ h S) (hG : GS S) : J g (d + 1) 29 0 [some (aR 1 h), some (aI x)] [] σ (jH g σ h (op_size S x).1 (op_size S x).2) := by
  refine jm_run ok_H_size [] 90 (fun kk hk => ?_)
  conv => whnf
  refine hk _ _ _ _ (k_H_size_1 rfl c_isPlace (fun u hu => ?_))
  subst hu
  show J g (d + 1) 29 4 _ _ σ _
  unfold op_size
  cases hx : sp_ip x with
  | false =>
    rw [if_neg (by decide)]
    refine jm_run ok_H_size [] 90 (fun kk hk => ?_)
    conv => whnf
    refine b_z (b := false) rfl (fun _ => ?_) (fun h => by cases h)
    conv => whnf
    exact hk _ _ _ _ (r_H_size_20 (jH_same hR))
  | true =>
    rw [if_pos rfl]
    obtain ⟨k, hk40, rfl⟩ := sp_ip_t hx
    have hP := hR.pl hG hk40
    have hpr := hR.1.2.2.2.1 k hk40
    rw [nI_clamp (by omega)]
    refine jm_run ok_H_size [] 90 (fun kk hk => ?_)
    conv => whnf
    refine b_z (b := true) rfl (fun h => by cases h) (fun _ => ?_)
    conv => whnf
    refine jg hR.1.1.2.1 ?_
    conv => whnf
    refine jr rfl hR.1.2.1.2.1 hpr.1 ?_
    conv => whnf
    rw [hP.1]
    exact hk _ _ _ _ (r_H_size_20 (jH_same hR))
def op_zero (S : sp_H) (x : Int32) : Int32 × sp_H := if sp_ip x = true then (nI (pg S x.toNatClampNeg).length, sp_setP S x.toNatClampNeg []) else (-1, S)
theorem c_zero {x : Int32} (hR : HR g σ h S) (hG : GS S) : J g (d + 1) 28 0 [some (aR 1 h), some (aI x), none] [] σ (jH g σ h (op_zero S x).1 (op_zero S x).2) := by
  refine jm_run ok_H_zero [] 90 (fun kk hk => ?_)
  conv => whnf
  refine hk _ _ _ _ (k_H_zero_1 rfl c_isPlace (fun u hu => ?_))
  subst hu
  show J g (d + 1) 28 4 _ _ σ _
  unfold op_zero
  cases hx : sp_ip x with
  | false =>
    rw [if_neg (by decide)]
    refine jm_run ok_H_zero [] 90 (fun kk hk => ?_)
    conv => whnf
    refine b_nz (b := false) rfl (fun h => by cases h) (fun _ => ?_)
    conv => whnf
    exact hk _ _ _ _ (r_H_zero_8 (jH_same hR))
  | true =>
    rw [if_pos rfl]
    obtain ⟨k, hk40, rfl⟩ := sp_ip_t hx
    have hP := hR.pl hG hk40
    have hpr := hR.1.2.2.2.1 k hk40
    rw [nI_clamp (by omega)]
    refine jm_run ok_H_zero [] 90 (fun kk hk => ?_)
    conv => whnf
    refine b_nz (b := true) rfl (fun _ => ?_) (fun h => by cases h)
    conv => whnf
    refine jg hR.1.1.2.1 ?_
    conv => whnf
    refine jr rfl hR.1.2.1.2.1 hpr.1 ?_
    conv => whnf
    refine jg hR.1.1.2.1 ?_
    conv => whnf
    refine jr rfl hR.1.2.1.2.1 hpr.1 ?_
    conv => whnf
    rw [hP.1]
    have hst : jm_wi σ (h + 3 + 4 * k) 0 0 = ((jm_wi σ (h + 3 + 4 * k) 0 0).1, σ.2) := rfl
    rw [hst]
    exact hk _ _ _ _ (r_H_zero_30 (jH_ret (HR_give hR hG hk40 (fun _ _ _ => rfl) (PA_nil jm_wi_at) (fun q _ _ _ _ h4 => jm_wi_q (by omega))) (fun q hq => jm_wi_q (by omega)) (fun _ _ => rfl) rfl))
theorem HE_off (hE : HE g σ h S) (hb : hB S' = false) (hc : hct S' = hct S) (h1 : τ.1 (h + 196) = σ.1 (h + 196)) (h2 : τ.2.1 (h + 196 + 2) = σ.2.1 (h + 196 + 2)) : HE g τ h S' := by
  obtain ⟨⟨s, a5, -⟩, a7⟩ := hE
  refine ⟨⟨s, EPp_congr h2 a5, fun q => ?_⟩, ?_⟩
  · rw [hb] at q; cases q
  · rw [h1, hc]; exact a7
/-- no basis any more -/
def sp_off (S : sp_H) (gn : List sp_P) : sp_H := (S.1, ((hpl S, gn), ((hel S, (false, hQ S)), S.2.2.2)))
theorem GS_off {gn : List sp_P} (hG : GS S) (hl : gn.length ≤ 8) (hp : ∀ p ∈ gn, pok S p) : GS (sp_off S gn) :=
  ⟨hG.1, hG.2.1, hG.2.2.1, hl, hG.2.2.2.2.1, hp, fun h => (by cases h), fun h => (by cases h)⟩
theorem HR_off {gn : List sp_P} (hR : HR g σ h S) (hG : GS S) (h2 : τ.2 = σ.2) (hF : τ.1 h 0 = σ.1 h 0 ∧ τ.1 h 2 = σ.1 h 2 ∧ τ.1 h 5 = nI gn.length ∧ τ.1 h 8 = 0 ∧ τ.1 h 9 = σ.1 h 9) (hg : PL τ.1 (h + 164) gn) (hf : ∀ q, h ≤ q → q < h + 1631 → q ≠ h → ¬ (h + 164 ≤ q ∧ q < h + 196) → τ.1 q = σ.1 q) : HR g τ h (sp_off S gn) := by
  obtain ⟨a1, a2, a3, a4, a5, ⟨s, a6⟩, a7⟩ := hR
  have hl := hG.2.2.1
  exact ⟨HL_congr (fun q _ _ => by rw [h2]) a1, ⟨hF.1.trans a2.1, hF.2.1.trans a2.2.1, hF.2.2.1, hF.2.2.2.1, hF.2.2.2.2.trans a2.2.2.2.2⟩, PL_fr (n := 40) a3 (Nat.le_of_eq hl) (fun q h1 h2 => hf q (by omega) (by omega) (by omega) (by omega)), hg, HE_off a5 rfl rfl (hf _ (by omega) (by omega) (by omega) (by omega)) (by rw [h2]), ⟨s, EPp_congr (by rw [h2]) a6⟩, fun hb => (by cases hb)⟩
def op_clear (S : sp_H) : Int32 × sp_H := (nI (hgn S).length, sp_off S [])
theorem c_clear (hR : HR g σ h S) (hG : GS S) : J g d 41 0 [some (aR 1 h), none] [] σ (jH g σ h (op_clear S).1 (op_clear S).2) := by
  refine jm_run ok_H_clear [] 90 (fun kk hk => ?_)
  conv => whnf
  refine ⟨Or.inl rfl, ?_⟩
  conv => whnf
  rw [hR.2.1.2.2.1]
  have hst : jm_wi (jm_wi σ h 5 0) h 8 0 = ((jm_wi (jm_wi σ h 5 0) h 8 0).1, σ.2) := rfl
  rw [hst]
  refine hk _ _ _ _ (r_H_clear_16 (jH_ret (HR_off hR hG rfl ⟨?_, ?_, ?_, jm_wi_at, ?_⟩ (fun k p hp => (by cases hp)) (fun q _ _ h3 _ => ?_)) (fun q hq => ?_) (fun _ _ => rfl) rfl))
  · exact (jm_wi_k (by decide)).trans (jm_wi_k (by decide))
  · exact (jm_wi_k (by decide)).trans (jm_wi_k (by decide))
  · exact (jm_wi_k (by decide)).trans jm_wi_at
  · exact (jm_wi_k (by decide)).trans (jm_wi_k (by decide))
  · exact (jm_wi_q h3).trans (jm_wi_q h3)
  · exact (jm_wi_q (by omega)).trans (jm_wi_q (by omega))
def op_done (S : sp_H) (x : Int32) : Int32 × sp_H := (if x = nI 0 then nI (hct S).1 else if x = nI 1 then nI (hct S).2.1 else if x = nI 2 then nI (hct S).2.2.1 else if x = nI 3 then nI (hct S).2.2.2 else -2, S)
theorem c_done {x : Int32} (hR : HR g σ h S) : J g d 63 0 [some (aR 1 h), some (aI x)] [] σ (jH g σ h (op_done S x).1 (op_done S x).2) := by
  unfold op_done
  have hc := hR.2.2.2.2.1.2
  by_cases h0 : x = nI 0
  · rw [if_pos h0]
    refine jm_run ok_H_done [] 90 (fun kk hk => ?_)
    conv => whnf
    refine ⟨fun j t hj hx => ?_, fun hn => absurd h0 (hn 0 (by decide))⟩
    obtain rfl : j = 0 := by
      have hj4 := (List.getElem?_eq_some_iff.mp hj).1
      have hj4 : j < 4 := hj4
      exact (nI_eq (by omega) (by omega)).mp (hx.symm.trans h0)
    have ht : some 32 = some t := hj
    cases ht
    conv => whnf
    refine jg hR.1.1.2.2.2.1 ?_
    conv => whnf
    rw [hc.1]
    exact hk _ _ _ _ (r_H_done_39 (jH_same hR))
  · rw [if_neg h0]
    by_cases h1 : x = nI 1
    · rw [if_pos h1]
      refine jm_run ok_H_done [] 90 (fun kk hk => ?_)
      conv => whnf
      refine ⟨fun j t hj hx => ?_, fun hn => absurd h1 (hn 1 (by decide))⟩
      obtain rfl : j = 1 := by
        have hj4 := (List.getElem?_eq_some_iff.mp hj).1
        have hj4 : j < 4 := hj4
        exact (nI_eq (by omega) (by omega)).mp (hx.symm.trans h1)
      have ht : some 40 = some t := hj
      cases ht
      conv => whnf
      refine jg hR.1.1.2.2.2.1 ?_
      conv => whnf
      rw [hc.2.1]
      exact hk _ _ _ _ (r_H_done_47 (jH_same hR))
    · rw [if_neg h1]
      by_cases h2 : x = nI 2
      · rw [if_pos h2]
        refine jm_run ok_H_done [] 90 (fun kk hk => ?_)
        conv => whnf
        refine ⟨fun j t hj hx => ?_, fun hn => absurd h2 (hn 2 (by decide))⟩
        obtain rfl : j = 2 := by
          have hj4 := (List.getElem?_eq_some_iff.mp hj).1
          have hj4 : j < 4 := hj4
          exact (nI_eq (by omega) (by omega)).mp (hx.symm.trans h2)
        have ht : some 48 = some t := hj
        cases ht
        conv => whnf
        refine jg hR.1.1.2.2.2.1 ?_
        conv => whnf
        rw [hc.2.2.1]
        exact hk _ _ _ _ (r_H_done_55 (jH_same hR))
      · rw [if_neg h2]
        by_cases h3 : x = nI 3
        · rw [if_pos h3]
          refine jm_run ok_H_done [] 90 (fun kk hk => ?_)
          conv => whnf
          refine ⟨fun j t hj hx => ?_, fun hn => absurd h3 (hn 3 (by decide))⟩
          obtain rfl : j = 3 := by
            have hj4 := (List.getElem?_eq_some_iff.mp hj).1
            have hj4 : j < 4 := hj4
            exact (nI_eq (by omega) (by omega)).mp (hx.symm.trans h3)
          have ht : some 56 = some t := hj
          cases ht
          conv => whnf
          refine jg hR.1.1.2.2.2.1 ?_
          conv => whnf
          rw [hc.2.2.2]
          exact hk _ _ _ _ (r_H_done_63 (jH_same hR))
        · rw [if_neg h3]
          refine jm_run ok_H_done [] 90 (fun kk hk => ?_)
          conv => whnf
          refine ⟨fun j t hj hx => ?_, fun hn => ?_⟩
          · have hj4 := (List.getElem?_eq_some_iff.mp hj).1
            have hj4 : j < 4 := hj4
            have : j = 0 ∨ j = 1 ∨ j = 2 ∨ j = 3 := by omega
            rcases this with e | e | e | e <;> subst e
            · exact absurd hx h0
            · exact absurd hx h1
            · exact absurd hx h2
            · exact absurd hx h3
          · conv => whnf
            exact hk _ _ _ _ (r_H_done_66 (jH_same hR))
def op_generator (S : sp_H) (x : Int32) : Int32 × sp_H := if sp_ip x = true then (if (hgn S).length = 8 then (-4, S) else (nI (hgn S).length, sp_off S (hgn S ++ [pg S x.toNatClampNeg]))) else (-1, S)
theorem PL_app {f f' : Nat → Nat → Int32} {a : Nat} {l : List sp_P} {p : sp_P} (hP : PL f a l) (hp : PA f' (a + 4 * l.length) p) (hf : ∀ q, a ≤ q → q < a + 4 * l.length → f' q = f q) : PL f' a (l ++ [p]) := fun k p' hk => by
  by_cases hl : k < l.length
  · rw [List.getElem?_append_left hl] at hk
    exact PA_frame (hP k p' hk) (hf _ (by omega) (by omega)) (hf _ (by omega) (by omega)) (hf _ (by omega) (by omega)) (hf _ (by omega) (by omega))
  · have h1 := (List.getElem?_eq_some_iff.mp hk).1
    rw [List.length_append] at h1
    have h1 : k < l.length + 1 := h1
    obtain rfl : k = l.length := by omega
    rw [List.getElem?_append_right (Nat.le_refl _), Nat.sub_self] at hk
    cases hk
    exact hp
theorem c_generator2 {x : Int32} (hR : HR g σ h S) (hG : GS S) : J g (d + 1) 40 0 [some (aR 1 h), some (aI x)] [] σ (jH g σ h (op_generator S x).1 (op_generator S x).2) := by
  refine jm_run ok_H_generator [] 90 (fun kk hk => ?_)
  conv => whnf
  refine hk _ _ _ _ (k_H_generator_1 rfl c_isPlace (fun u hu => ?_))
  subst hu
  show J g (d + 1) 40 4 _ _ σ _
  unfold op_generator
  have hgl := hG.2.2.2.1
  cases hx : sp_ip x with
  | false =>
    rw [if_neg (by decide)]
    refine jm_run ok_H_generator [] 90 (fun kk hk => ?_)
    conv => whnf
    refine b_nz (b := false) rfl (fun h => by cases h) (fun _ => ?_)
    conv => whnf
    exact hk _ _ _ _ (r_H_generator_8 (jH_same hR))
  | true =>
    rw [if_pos rfl]
    obtain ⟨k, hk40, rfl⟩ := sp_ip_t hx
    have hP := hR.pl hG hk40
    have hpr := hR.1.2.2.2.1 k hk40
    rw [nI_clamp (by omega)]
    by_cases h8 : (hgn S).length = 8
    · rw [if_pos h8]
      refine jm_run ok_H_generator [] 90 (fun kk hk => ?_)
      conv => whnf
      refine b_nz (b := true) rfl (fun _ => ?_) (fun h => by cases h)
      conv => whnf
      refine b_ne hR.2.1.2.2.1 (b := 8) rfl (fun q => absurd h8 q) (fun _ => ?_)
      conv => whnf
      exact hk _ _ _ _ (r_H_generator_20 (jH_same hR))
    · rw [if_neg h8]
      have hgr := hR.1.2.2.2.2.1 (hgn S).length (by omega)
      refine jm_run ok_H_generator [] 90 (fun kk hk => ?_)
      conv => whnf
      refine b_nz (b := true) rfl (fun _ => ?_) (fun h => by cases h)
      conv => whnf
      refine b_ne hR.2.1.2.2.1 (b := 8) rfl (fun _ => ?_) (fun q => absurd q h8)
      conv => whnf
      refine jg hR.1.1.2.2.1 ?_
      conv => whnf
      refine jr hR.2.1.2.2.1 hR.1.2.1.2.2.1 hgr.1 ?_
      conv => whnf
      refine jg hR.1.1.2.1 ?_
      conv => whnf
      refine jr rfl hR.1.2.1.2.1 hpr.1 ?_
      conv => whnf
      refine hk _ _ _ _ (k_H_generator_36 rfl (c_become hgr.2 hpr.2 hP (pg_ok hG hk40).1.1 (by unfold dj; omega)) (fun u hu => ?_))
      obtain ⟨f, hf, hu, hPA⟩ := jO_some hu
      subst hu
      show J g (d + 1) 40 39 _ _ (f, σ.2) _
      have fh : f h = σ.1 h := hf h (by omega) (by omega)
      refine jm_run ok_H_generator [] 90 (fun kk hk => ?_)
      conv => whnf
      refine ⟨Or.inl rfl, ?_⟩
      conv => whnf
      have e5 : (jm_wi (f, σ.2) h 8 0).1 h 5 = nI (hgn S).length := by rw [jm_wi_k (by decide)]; exact (congrFun fh 5).trans hR.2.1.2.2.1
      rw [e5, nI_1]
      have hst : ∀ y, jm_wi (jm_wi (f, σ.2) h 8 0) h 5 y = ((jm_wi (jm_wi (f, σ.2) h 8 0) h 5 y).1, σ.2) := fun _ => rfl
      rw [hst]
      have hq0 : ∀ (y : Int32) (q : Nat), q ≠ h → (jm_wi (jm_wi (f, σ.2) h 8 0) h 5 y).1 q = f q := fun y q hq => (jm_wi_q hq).trans (jm_wi_q hq)
      refine hk _ _ _ _ (r_H_generator_55 (jH_ret (HR_off hR hG rfl ⟨?_, ?_, ?_, ?_, ?_⟩ (PL_app hR.2.2.2.1 ?_ (fun q h1 h2 => ?_)) (fun q _ _ h3 h4 => ?_)) (fun q hq => ?_) (fun _ _ => rfl) rfl))
      · exact (jm_wi_k (by decide)).trans ((jm_wi_k (by decide)).trans (congrFun fh 0))
      · exact (jm_wi_k (by decide)).trans ((jm_wi_k (by decide)).trans (congrFun fh 2))
      · rw [List.length_append]; exact jm_wi_at
      · exact (jm_wi_k (by decide)).trans jm_wi_at
      · exact (jm_wi_k (by decide)).trans ((jm_wi_k (by decide)).trans (congrFun fh 9))
      · exact PA_frame hPA (hq0 _ _ (by omega)) (hq0 _ _ (by omega)) (hq0 _ _ (by omega)) (hq0 _ _ (by omega))
      · exact (hq0 _ q (by omega)).trans (hf q (by omega) (by omega))
      · exact (hq0 _ q h3).trans (hf q (by omega) (by omega))
      · exact (hq0 _ q (by omega)).trans (hf q (by omega) (by omega))
def op_same (S : sp_H) (x y : Int32) : Int32 × sp_H := (if sp_ip x = true ∧ sp_ip y = true then sp_bi (sp_same (pg S x.toNatClampNeg) (pg S y.toNatClampNeg)) else -1, S)
theorem c_same {x y : Int32} (hR : HR g σ h S) (hG : GS S) : J g (d + 1) 36 0 [some (aR 1 h), some (aI x), some (aI y)] [] σ (jH g σ h (op_same S x y).1 (op_same S x y).2) := by
  refine jm_run ok_H_same [] 90 (fun kk hk => ?_)
  conv => whnf
  refine hk _ _ _ _ (k_H_same_1 rfl c_isPlace (fun u hu => ?_))
  subst hu
  show J g (d + 1) 36 4 _ _ σ _
  unfold op_same
  cases hx : sp_ip x with
  | false =>
    rw [if_neg (fun q => by cases q.1)]
    refine jm_run ok_H_same [] 90 (fun kk hk => ?_)
    conv => whnf
    refine b_z (b := false) rfl (fun _ => ?_) (fun h => by cases h)
    conv => whnf
    exact hk _ _ _ _ (r_H_same_41 (jH_same hR))
  | true =>
    refine jm_run ok_H_same [] 90 (fun kk hk => ?_)
    conv => whnf
    refine b_z (b := true) rfl (fun h => by cases h) (fun _ => ?_)
    conv => whnf
    refine hk _ _ _ _ (k_H_same_8 rfl c_isPlace (fun u hu => ?_))
    subst hu
    show J g (d + 1) 36 11 _ _ σ _
    cases hy : sp_ip y with
    | false =>
      rw [if_neg (fun q => by cases q.2)]
      refine jm_run ok_H_same [] 90 (fun kk hk => ?_)
      conv => whnf
      refine b_nz (b := false) rfl (fun h => by cases h) (fun _ => ?_)
      conv => whnf
      exact hk _ _ _ _ (r_H_same_41 (jH_same hR))
    | true =>
      rw [if_pos ⟨rfl, rfl⟩]
      obtain ⟨k, hk40, rfl⟩ := sp_ip_t hx
      obtain ⟨l, hl40, rfl⟩ := sp_ip_t hy
      have hP := hR.pl hG hk40
      have hpr := hR.1.2.2.2.1 k hk40
      have hP2 := hR.pl hG hl40
      have hpr2 := hR.1.2.2.2.1 l hl40
      rw [nI_clamp (by omega), nI_clamp (by omega)]
      refine jm_run ok_H_same [] 90 (fun kk hk => ?_)
      conv => whnf
      refine b_nz (b := true) rfl (fun _ => ?_) (fun h => by cases h)
      conv => whnf
      refine jg hR.1.1.2.1 ?_
      conv => whnf
      refine jr rfl hR.1.2.1.2.1 hpr.1 ?_
      conv => whnf
      refine jg hR.1.1.2.1 ?_
      conv => whnf
      refine jr rfl hR.1.2.1.2.1 hpr2.1 ?_
      conv => whnf
      refine hk _ _ _ _ (k_H_same_30 rfl (c_isSame hpr.2 hpr2.2 hP hP2 (pg_ok hG hk40).1 (pg_ok hG hl40).1) (fun u hu => ?_))
      subst hu
      show J g (d + 1) 36 33 _ _ σ _
      cases hs : sp_same (pg S k) (pg S l) with
      | false =>
        refine jm_run ok_H_same [] 90 (fun kk hk => ?_)
        conv => whnf
        refine b_z (b := false) rfl (fun _ => ?_) (fun h => by cases h)
        conv => whnf
        exact hk _ _ _ _ (r_H_same_41 (jH_same hR))
      | true =>
        refine jm_run ok_H_same [] 90 (fun kk hk => ?_)
        conv => whnf
        refine b_z (b := true) rfl (fun h => by cases h) (fun _ => ?_)
        conv => whnf
        exact hk _ _ _ _ (r_H_same_41 (jH_same hR))
end
