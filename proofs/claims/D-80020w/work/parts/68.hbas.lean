/-! the House: basis -/
def sp_is (x : Int32) : Bool := decide (0 ≤ x.toInt ∧ x.toInt < 20001)
theorem sp_is_t {x : Int32} (h : sp_is x = true) : ∃ k : Nat, k < 20001 ∧ x = nI k := vp_in_of (n := 20001) (vp_in_iff.mpr (of_decide_eq_true h)) (by decide)
/-- the generators become elements; or how many did, when one was too big -/
def sp_gns (sh : Nat) : Nat → List sp_P → sp_ES → Nat ⊕ sp_ES
  | _, [], st => .inr st
  | k, p :: r, st => match sp_gen sh k p st with
    | none => .inl st.1.length
    | some st' => sp_gns sh (k + 1) r st'
/-- a basis: the steps left, pairs, those passed over, elements before, and how it ended -/
def sp_bas (j sh : Nat) (gens : List sp_P) (lim : Nat) : Nat × (Nat × (Nat × (Nat × (Int32 ⊕ List sp_E)))) := match sp_gns sh 0 gens ([], fun _ _ => false) with
  | .inl c => (lim, (0, (0, (c, .inl (-7)))))
  | .inr st => sp_fin j (sp_lp j 300 lim 0 0 st)
def sp_ba2 (S : sp_H) (lim : Nat) (r : Nat × (Nat × (Nat × (Nat × (Int32 ⊕ List sp_E))))) : Int32 × sp_H := match r with
  | (m, (pr, (ps, (bf, .inl y)))) => (y, (S.1, (S.2.1, ((hel S, (false, false)), (hkp S, (lim - m, (pr, (ps, bf))))))))
  | (m, (pr, (ps, (bf, .inr els)))) => (nI els.length, (S.1, (S.2.1, ((els, (true, false)), (hkp S, (lim - m, (pr, (ps, bf))))))))
def op_basis (S : sp_H) (x : Int32) : Int32 × sp_H := if sp_is x = true then sp_ba2 S x.toNatClampNeg (sp_bas (hkd S) (hgn S).length (hgn S) x.toNatClampNeg) else (-2, S)
theorem SE_nil (j v sh : Nat) : SE j v sh [] := ⟨fun E h => (by cases h), Nat.zero_le _, fun E h => (by cases h)⟩
theorem SE_gns {j v sh : Nat} : ∀ {r : List sp_P} {k : Nat} {st st' : sp_ES}, SE j v sh st.1 → st.1.length + r.length ≤ 24 → (∀ p ∈ r, sp_pw p ∧ so j p ∧ HVp v p) → sp_gns sh k r st = .inr st' → SE j v sh st'.1
  | [], k, st, st', hs, _, _, h => by cases h; exact hs
  | p :: r, k, st, st', hs, hl, hp, h => by
    unfold sp_gns at h
    rw [List.length_cons] at hl
    split at h
    · cases h
    · rename_i st2 h2
      have h0 := hp p (List.mem_cons_self ..)
      have h3 := SE_gen hs (by omega) h0.2.1 h0.1 h0.2.2 h2
      exact SE_gns h3.1 (by omega) (fun q hq => hp q (List.mem_cons_of_mem _ hq)) h
theorem SS_gns {j v sh : Nat} : ∀ {r : List sp_P} {k : Nat} {st st' : sp_ES}, SS j st.1 → sp_gns sh k r st = .inr st' → SS j st'.1
  | [], k, st, st', hs, h => by cases h; exact hs
  | p :: r, k, st, st', hs, h => by
    unfold sp_gns at h
    split at h
    · cases h
    · rename_i st2 h2
      exact SS_gns (v := v) (SS_gen hs h2) h
theorem SE_bas {j v sh lim m pr ps bf : Nat} {gens : List sp_P} {els : List sp_E} (hl : gens.length ≤ 24) (hp : ∀ p ∈ gens, sp_pw p ∧ so j p ∧ HVp v p) (h : sp_bas j sh gens lim = (m, (pr, (ps, (bf, .inr els))))) : SE j v sh els ∧ ND els ∧ SS j els := by
  unfold sp_bas at h
  split at h
  · cases h
  · rename_i st hst
    have h1 := SE_gns (SE_nil j v sh) (by show 0 + gens.length ≤ 24; omega) hp hst
    have h2 := SE_fin h1 h
    exact ⟨h2.1, h2.2, SS_fin h1.1 (SS_gns (v := v) (fun E h => (by cases h)) hst) h⟩
theorem GS_ba2 {S : sp_H} {lim : Nat} {r : Nat × (Nat × (Nat × (Nat × (Int32 ⊕ List sp_E))))} (hG : GS S) (hr : ∀ m pr ps bf els, r = (m, (pr, (ps, (bf, .inr els)))) → SE (hkd S) (hv S) (hgn S).length els ∧ ND els ∧ SS (hkd S) els) : GS (sp_ba2 S lim r).2 := by
  obtain ⟨a1, a2, a3, a4, a5, a6, a7, a8⟩ := hG
  obtain ⟨m, pr, ps, bf, o⟩ := r
  cases o with
  | inl y => exact ⟨a1, a2, a3, a4, a5, a6, fun h => (by cases h), fun h => (by cases h)⟩
  | inr els => exact ⟨a1, a2, a3, a4, a5, a6, fun _ => hr m pr ps bf els rfl, fun _ h => (by cases h)⟩
theorem GS_basis {S : sp_H} {x : Int32} (hG : GS S) : GS (op_basis S x).2 := by
  unfold op_basis
  split
  · exact GS_ba2 hG (fun m pr ps bf els h => SE_bas (by have := hG.2.2.2.1; omega) hG.2.2.2.2.2.1 h)
  · exact hG
theorem EL_congr8 {g : jm_G} {σ τ : jm_S} {e n : Nat} (h0 : ∀ k, k ≠ 8 → τ.2.1 e k = σ.2.1 e k) (h : ∀ q, e < q → q < eo e n 25 → q ≠ e + 2 → τ.2.1 q = σ.2.1 q) (hE : EL g σ e n) : EL g τ e n := by
  obtain ⟨⟨x0, x1, x2, x3, x4, x5, x16⟩, a2, a3, a4, a5, a6⟩ := hE
  have hg := eo_ge e n 25
  refine ⟨⟨(h0 0 (by decide)).trans x0, (h0 1 (by decide)).trans x1, (h0 2 (by decide)).trans x2, (h0 3 (by decide)).trans x3, (h0 4 (by decide)).trans x4, (h0 5 (by decide)).trans x5, (h0 16 (by decide)).trans x16⟩, a2, fun k hk => ⟨by rw [h _ (by omega) (by omega) (by omega)]; exact (a3 k hk).1, pl_congr (h _ (by omega) (by omega) (by omega)) (a3 k hk).2⟩, pl_congr (h _ (by omega) (by omega) (by omega)) a4, pl_congr (h _ (by omega) (by omega) (by omega)) a5, fun s hs => ?_⟩
  obtain ⟨b1, b2, b3, b4, b5⟩ := a6 s hs
  have hge := eo_ge e n s
  have h25 := eo_25 (e := e) (n := n) hs
  exact ⟨by rw [h _ (by omega) (by omega) (by omega)]; exact b1, by rw [h _ (by omega) (by omega) (by omega)]; exact b2, pl_congr (h _ (by omega) (by omega) (by omega)) b3, b4, fun k hk => ⟨by rw [h _ (by omega) (by omega) (by omega)]; exact (b5 k hk).1, pl_congr (h _ (by omega) (by omega) (by omega)) (b5 k hk).2⟩⟩
theorem HL_mv {g : jm_G} {σ τ : jm_S} {h : Nat} (hH : HL g σ h) (e1 : EL g τ (h + 196) 8) (e2 : EL g τ (h + 1260) 0) (hq : ∀ q, h ≤ q → q < h + 1631 → ¬ (h + 196 ≤ q ∧ q < h + 1524) → τ.2.1 q = σ.2.1 q) : HL g τ h := by
  obtain ⟨a1, a2, a3, a4, a5, a6, a7, a8, a9, a10⟩ := hH
  exact ⟨by rw [hq h (by omega) (by omega) (by omega)]; exact a1, a2, fun j hj => by rw [hq _ (by omega) (by omega) (by omega)]; exact a3 j hj,
    fun k hk => ⟨by rw [hq _ (by omega) (by omega) (by omega)]; exact (a4 k hk).1, pl_congr (hq _ (by omega) (by omega) (by omega)) (a4 k hk).2⟩,
    fun k hk => ⟨by rw [hq _ (by omega) (by omega) (by omega)]; exact (a5 k hk).1, pl_congr (hq _ (by omega) (by omega) (by omega)) (a5 k hk).2⟩,
    fun k hk => ⟨by rw [hq _ (by omega) (by omega) (by omega)]; exact (a6 k hk).1, pl_congr (hq _ (by omega) (by omega) (by omega)) (a6 k hk).2⟩,
    pl_congr (hq _ (by omega) (by omega) (by omega)) a7, pl_congr (hq _ (by omega) (by omega) (by omega)) a8, e1, e2⟩
section
variable {g : jm_G} {d : Nat} {σ τ : jm_S} {h : Nat} {S : sp_H}
theorem c_isSteps {x : Int32} : J g d 43 0 [some (aI x)] [] σ (jR σ (aI (sp_bi (sp_is x)))) := by
  have e0 : (0 : Int32).toInt = 0 := rfl
  have e40 : (20000 : Int32).toInt = 20000 := rfl
  refine jm_run ok_H_isSteps [] 90 (fun kk hk => ?_)
  conv => whnf
  refine ⟨fun h1 => ?_, fun h1 => ?_⟩
  · have h2 := Int32.lt_iff_toInt_lt.mp h1
    have h3 : sp_is x = false := decide_eq_false (fun q => by omega)
    conv => whnf
    exact hk _ _ _ _ (r_H_isSteps_16 (Or.inl rfl) (by rw [h3]; exact rfl))
  · have h2 : ¬ x.toInt < (0 : Int32).toInt := fun q => h1 (Int32.lt_iff_toInt_lt.mpr q)
    conv => whnf
    refine ⟨fun h3 => ?_, fun h3 => ?_⟩
    · have h4 := Int32.lt_iff_toInt_lt.mp h3
      have h5 : sp_is x = false := decide_eq_false (fun q => by omega)
      conv => whnf
      exact hk _ _ _ _ (r_H_isSteps_16 (Or.inl rfl) (by rw [h5]; exact rfl))
    · have h4 : ¬ (20000 : Int32).toInt < x.toInt := fun q => h3 (Int32.lt_iff_toInt_lt.mpr q)
      have h5 : sp_is x = true := decide_eq_true (by omega)
      conv => whnf
      exact hk _ _ _ _ (r_H_isSteps_16 (Or.inr rfl) (by rw [h5]; exact rfl))
theorem HR_bas {f : Nat → Nat → Int32} {ρ : (Nat → Nat → Nat) × (Nat × Nat)} {el : List sp_E} {B : Bool} {ct : Nat × (Nat × (Nat × Nat))} (hR : HR g σ h S) (hG : GS S) (hρ : ∀ q, ¬ (h + 196 ≤ q ∧ q < h + 1260) → ρ.1 q = σ.2.1 q) (hE : EL g (f, ρ) (h + 196) 8) (hf : ∀ q, q ≠ h → ¬ (h + 196 ≤ q ∧ q < h + 1260) → f q = σ.1 q)
    (hF : f h 0 = σ.1 h 0 ∧ f h 2 = σ.1 h 2 ∧ f h 5 = σ.1 h 5 ∧ f h 8 = sp_bi B ∧ f h 9 = 0) (hHE : HE g (f, ρ) h (S.1, (S.2.1, ((el, (B, false)), (hkp S, ct))))) : HR g (f, ρ) h (S.1, (S.2.1, ((el, (B, false)), (hkp S, ct)))) := by
  obtain ⟨a1, a2, a3, a4, a5, ⟨s, a6⟩, a7⟩ := hR
  have hl := hG.2.2.1
  have hgl := hG.2.2.2.1
  have e26 : eo (h + 1260) 0 25 = h + 1524 := by unfold eo; omega
  exact ⟨HL_mv a1 hE (EL_congr (fun q h1 h2 => hρ q (by omega)) a1.e2) (fun q h1 h2 h3 => hρ q (by omega)), ⟨hF.1.trans a2.1, hF.2.1.trans a2.2.1, hF.2.2.1.trans a2.2.2.1, hF.2.2.2.1, hF.2.2.2.2⟩, PL_fr (n := 40) a3 (Nat.le_of_eq hl) (fun q h1 h2 => hf q (by omega) (by omega)), PL_fr (n := 8) a4 hgl (fun q h1 h2 => hf q (by omega) (by omega)), hHE, ⟨s, EPp_congr (hρ _ (by omega)) a6⟩, fun _ hq => (by cases hq)⟩
theorem c_basis {x : Int32} (hR : HR g σ h S) (hG : GS S) (hr : sp_rm g σ) (hh : h + 1631 ≤ σ.2.2.1) : J g (d + 11) 42 0 [some (aR 1 h), some (aI x), none] [] σ (jH g σ h (op_basis S x).1 (op_basis S x).2) := by
  have hH := hR.1
  have hj := hG.2.1
  have hgl := hG.2.2.2.1
  have e25 : eo (h + 196) 8 25 = h + 1260 := by unfold eo; omega
  refine jm_run ok_H_basis [] 90 (fun kk hk => ?_)
  conv => whnf
  refine hk _ _ _ _ (k_H_basis_1 rfl c_isSteps (fun u hu => ?_))
  subst hu
  show J g (d + 11) 42 4 _ _ σ _
  unfold op_basis
  cases hx : sp_is x with
  | false =>
    rw [if_neg (by decide)]
    refine jm_run ok_H_basis [] 90 (fun kk hk => ?_)
    conv => whnf
    refine b_nz (b := false) rfl (fun h => by cases h) (fun _ => ?_)
    conv => whnf
    exact hk _ _ _ _ (r_H_basis_9 (jH_same hR))
  | true =>
    rw [if_pos rfl]
    obtain ⟨lim, hlim, rfl⟩ := sp_is_t hx
    rw [nI_clamp (by omega)]
    have hGo : GS (sp_ba2 S lim (sp_bas (hkd S) (hgn S).length (hgn S) lim)).2 := GS_ba2 hG (fun m pr ps bf els h => SE_bas (by omega) hG.2.2.2.2.2.1 h)
    have hst : jm_wi (jm_wi σ h 8 0) h 9 0 = ((jm_wi (jm_wi σ h 8 0) h 9 0).1, σ.2) := rfl
    have f00 : (jm_wi (jm_wi σ h 8 0) h 9 0).1 h 0 = σ.1 h 0 := (jm_wi_k (by decide)).trans (jm_wi_k (by decide))
    have f02 : (jm_wi (jm_wi σ h 8 0) h 9 0).1 h 2 = σ.1 h 2 := (jm_wi_k (by decide)).trans (jm_wi_k (by decide))
    have f05 : (jm_wi (jm_wi σ h 8 0) h 9 0).1 h 5 = σ.1 h 5 := (jm_wi_k (by decide)).trans (jm_wi_k (by decide))
    have f08 : (jm_wi (jm_wi σ h 8 0) h 9 0).1 h 8 = 0 := (jm_wi_k (by decide)).trans jm_wi_at
    have f09 : (jm_wi (jm_wi σ h 8 0) h 9 0).1 h 9 = 0 := jm_wi_at
    have f0q : ∀ q, q ≠ h → (jm_wi (jm_wi σ h 8 0) h 9 0).1 q = σ.1 q := fun q hq => (jm_wi_q hq).trans (jm_wi_q hq)
    generalize (jm_wi (jm_wi σ h 8 0) h 9 0).1 = f0 at hst f00 f02 f05 f08 f09 f0q
    obtain ⟨s, ⟨es1, es2⟩, -⟩ := hR.2.2.2.2.1.1
    refine jm_run ok_H_basis [] 90 (fun kk hk => ?_)
    conv => whnf
    refine b_nz (b := true) rfl (fun _ => ?_) (fun h => by cases h)
    conv => whnf
    refine ⟨Or.inl rfl, ?_⟩
    conv => whnf
    refine ⟨Or.inl rfl, ?_⟩
    conv => whnf
    rw [hst]
    refine jg hH.fe ?_
    conv => whnf
    refine hk _ _ _ _ (k_H_basis_25 rfl (c_order2 (σ := (f0, σ.2)) hH hj (f02.trans hR.2.1.2.1)) (fun u hu => ?_))
    subst hu
    show J g (d + 11) 42 28 _ _ (f0, σ.2) _
    refine jm_run ok_H_basis [] 90 (fun kk hk => ?_)
    conv => whnf
    refine hk _ _ _ _ (k_H_basis_29 rfl (c_begin (σ := (f0, σ.2))) (fun u hu => ?_))
    obtain ⟨fB, b1, b7, b9, b10, b11, b12, b13, b14, b15, hu⟩ := hu
    subst hu
    have r1 : ∀ q, q ≠ h + 196 → (jm_wr (f0, σ.2) (h + 196) 8 (goa g (hkd S) + 1)).2.1 q = σ.2.1 q := fun q hq => jm_wr_q hq
    have r2 : ∀ k, k ≠ 8 → (jm_wr (f0, σ.2) (h + 196) 8 (goa g (hkd S) + 1)).2.1 (h + 196) k = σ.2.1 (h + 196) k := fun k hk => jm_wr_k hk
    have r3 : (jm_wr (f0, σ.2) (h + 196) 8 (goa g (hkd S) + 1)).2.1 (h + 196) 8 = goa g (hkd S) + 1 := jm_wr_at
    have r4 : (jm_wr (f0, σ.2) (h + 196) 8 (goa g (hkd S) + 1)).2.2 = σ.2.2 := rfl
    show J g (d + 11) 42 32 _ _ (fB, (jm_wr (f0, σ.2) (h + 196) 8 (goa g (hkd S) + 1)).2) _
    generalize (jm_wr (f0, σ.2) (h + 196) 8 (goa g (hkd S) + 1)).2 = ρ at r1 r2 r3 r4
    have hrρ : ∀ f : Nat → Nat → Int32, sp_rm g (f, ρ) := fun f => by
      unfold sp_rm at hr ⊢
      show gdm g ρ.2.1 = 7 ∧ ρ.2.1 + 1 ≤ _ ∧ ρ.2.2 + 7 ≤ _
      rw [r4]; exact hr
    have hEρ : ∀ f : Nat → Nat → Int32, EL g (f, ρ) (h + 196) 8 := fun f => EL_congr8 (σ := σ) r2 (fun q h1 _ _ => r1 q (by omega)) hH.e1
    have hSρ : ∀ f : Nat → Nat → Int32, EP g (f, ρ) (h + 196) 8 (hkd S) s := fun f => ⟨hj, r3, fun i hi => ⟨(es1 i hi).1, by rw [r1 _ (by omega)]; exact (es1 i hi).2⟩, es2⟩
    have hHρ : ∀ f : Nat → Nat → Int32, HL g (f, ρ) h := fun f => HL_mv hH (hEρ f) (EL_congr (fun q h1 _ => r1 q (by omega)) hH.e2) (fun q h1 h2 h3 => r1 q (by omega))
    have loop : ∀ (r : List sp_P) (i : Nat) (st : sp_ES) (f : Nat → Nat → Int32), (hgn S).drop i = r → i ≤ (hgn S).length → st.1.length ≤ i → SI (hkd S) st.1 → sp_gns (hgn S).length 0 (hgn S) ([], fun _ _ => false) = sp_gns (hgn S).length i r st → ER f (h + 196) 8 s (hgn S).length st.1 st.2 → (∀ q, ¬ (h + 196 ≤ q ∧ q < h + 1260) → f q = f0 q) → f (h + 196) 9 = nI i → f (h + 196) 15 = nI st.1.length → f (h + 196) 11 = 0 → f (h + 196) 12 = nI lim → f (h + 196) 13 = 0 → f (h + 196) 14 = 0 →
        J g (d + 11) 42 34 [some (aR 1 h), some (aI (nI lim)), some (aI (nI i))] [] (f, ρ) (jH g σ h (sp_ba2 S lim (sp_bas (hkd S) (hgn S).length (hgn S) lim)).1 (sp_ba2 S lim (sp_bas (hkd S) (hgn S).length (hgn S) lim)).2) := by
      intro r
      induction r with
      | nil =>
        intro i st f hdr hil hsl hSI hgns hER hf h9 h15 h11 h12 h13 h14
        have hi2 : (hgn S).length ≤ i := List.drop_eq_nil_iff.mp hdr
        have fh : f h = f0 h := hf h (by omega)
        have hbas : sp_bas (hkd S) (hgn S).length (hgn S) lim = sp_fin (hkd S) (sp_lp (hkd S) 300 lim 0 0 st) := by unfold sp_bas; rw [hgns]; rfl
        rw [hbas] at hGo ⊢
        refine jm_run ok_H_basis [34] 90 (fun kk hk => ?_)
        conv => whnf
        refine b_le ((congrFun fh 5).trans (f05.trans hR.2.1.2.2.1)) rfl (fun _ => ?_) (fun h => by omega)
        conv => whnf
        refine jg (hHρ f).fe ?_
        conv => whnf
        rw [show (f, ρ).1 h 5 = nI (hgn S).length from (congrFun fh 5).trans (f05.trans hR.2.1.2.2.1)]
        refine hk _ _ _ _ (k_H_basis_73 rfl (c_complete (σ := (f, ρ)) (hEρ f) (hSρ f) (by decide) hgl (by omega) (Nat.le_refl _) (hrρ f) hER hSI (by rw [Nat.sub_self]; exact h11) h12 h13 h14 h15) (fun u hu => ?_))
        generalize sp_fin (hkd S) (sp_lp (hkd S) 300 lim 0 0 st) = rr at hu hGo
        obtain ⟨m, pr, ps, bf, o⟩ := rr
        obtain ⟨f2, ρ2, s2, c1, c2, c3, c4, c5, c6, c7, c8, c9, c10⟩ := hu
        have hρ2 : ∀ q, ¬ (h + 196 ≤ q ∧ q < h + 1260) → ρ2.1 q = σ.2.1 q := fun q hq => (c1.1 q (by omega)).trans (r1 q (by omega))
        have hρ22 : ρ2.2 = σ.2.2 := c1.2.trans r4
        have hE2 : ∀ f : Nat → Nat → Int32, EL g (f, ρ2) (h + 196) 8 := fun f' => c1.el (hEρ f)
        have hff : ∀ q, q ≠ h → ¬ (h + 196 ≤ q ∧ q < h + 1260) → f2 q = σ.1 q := fun q h1 h2 => (c3 q (by omega)).trans ((hf q h2).trans (f0q q h1))
        have f2h : f2 h = f0 h := (c3 h (by omega)).trans fh
        rcases c10 with ⟨els, ho, hu, hX⟩ | ⟨y, ho, hu⟩
        · subst hu
          have ho' : o = .inr els := ho
          subst ho'
          have hH2 : HL g (f2, ρ2) h := HL_mv hH (hE2 f2) (EL_congr (fun q h1 _ => hρ2 q (by omega)) hH.e2) (fun q h1 h2 h3 => hρ2 q (by omega))
          show J g (d + 11) 42 76 _ _ (f2, ρ2) _
          refine jm_run ok_H_basis [] 90 (fun kk hk => ?_)
          conv => whnf
          refine ⟨Or.inr rfl, ?_⟩
          conv => whnf
          refine jg hH2.fe ?_
          conv => whnf
          have w1 : (jm_wi (f2, ρ2) h 8 1).1 (h + 196) = f2 (h + 196) := jm_wi_q (by omega)
          rw [w1, hX.2.1]
          have hst2 : jm_wi (f2, ρ2) h 8 1 = ((jm_wi (f2, ρ2) h 8 1).1, ρ2) := rfl
          rw [hst2]
          have wq : ∀ q, q ≠ h → (jm_wi (f2, ρ2) h 8 1).1 q = f2 q := fun q hq => jm_wi_q hq
          have wk : ∀ k, k ≠ 8 → (jm_wi (f2, ρ2) h 8 1).1 h k = f0 h k := fun k hk => (jm_wi_k hk).trans (congrFun f2h k)
          have w8 : (jm_wi (f2, ρ2) h 8 1).1 h 8 = 1 := jm_wi_at
          generalize (jm_wi (f2, ρ2) h 8 1).1 = f3 at wq wk w8 w1
          refine hk _ _ _ _ (r_H_basis_97 (jH_ret (HR_bas hR hG hρ2 (hE2 f3) (fun q h1 h2 => (wq q h1).trans (hff q h1 h2)) ⟨(wk 0 (by decide)).trans f00, (wk 2 (by decide)).trans f02, (wk 5 (by decide)).trans f05, w8, (wk 9 (by decide)).trans f09⟩ ⟨⟨s2, ⟨c2.2.2.1, c2.2.2.2⟩, fun _ => ⟨c2.2.1, hX.1, (congrFun w1 10).trans hX.2.1, fun i E hE => ?_⟩⟩, ⟨(congrFun w1 11).trans c4, (congrFun w1 13).trans c7, (congrFun w1 14).trans c8, (congrFun w1 15).trans c9⟩⟩) (fun q hq => (wq q (by omega)).trans (hff q (by omega) (by omega))) (fun q hq => hρ2 q (by omega)) hρ22))
          refine gd_frame (hX.2.2 i E hE) (fun q h1 h2 => wq q ?_)
          have := eo_ge (h + 196) 8 (s2 i)
          omega
        · subst hu
          have ho' : o = .inl y := ho
          subst ho'
          show J g (d + 11) 42 79 _ [aR 7 _] (jm_wi (jm_nw (f2, ρ2) 7) ρ2.2.1 0 y) _
          refine jm_run ok_H_basis [] 90 (fun kk hk => ?_)
          conv => whnf
          refine hk _ _ _ _ (r_H_basis_84 (jH_thr (HR_bas hR hG hρ2 (hE2 f2) hff ⟨(congrFun f2h 0).trans f00, (congrFun f2h 2).trans f02, (congrFun f2h 5).trans f05, (congrFun f2h 8).trans f08, (congrFun f2h 9).trans f09⟩ ⟨⟨s2, ⟨c2.2.2.1, c2.2.2.2⟩, fun hb => (by cases hb)⟩, ⟨c4, c7, c8, c9⟩⟩) hGo hh (fun q hq => hff q (by omega) (by omega)) (fun q hq => hρ2 q (by omega)) hρ22))
      | cons p r ih =>
        intro i st f hdr hil hsl hSI hgns hER hf h9 h15 h11 h12 h13 h14
        have hti : (hgn S)[i]? = some p := by rw [← Nat.add_zero i, ← List.getElem?_drop, hdr]; rfl
        have hi2 : i < (hgn S).length := (List.getElem?_eq_some_iff.mp hti).1
        have hdr2 : (hgn S).drop (i + 1) = r := by rw [← List.drop_drop, hdr]; rfl
        have fh : f h = f0 h := hf h (by omega)
        have hgr := (hHρ f).gne (k := i) (by omega)
        have hpok := hG.2.2.2.2.2.1 p (List.mem_of_getElem? hti)
        have hPA : PA f (h + 164 + 4 * i) p := PA_frame (hR.2.2.2.1 i p hti) ((hf _ (by omega)).trans (f0q _ (by omega))) ((hf _ (by omega)).trans (f0q _ (by omega))) ((hf _ (by omega)).trans (f0q _ (by omega))) ((hf _ (by omega)).trans (f0q _ (by omega)))
        rw [sp_gns] at hgns
        refine jm_run ok_H_basis [34] 90 (fun kk hk => ?_)
        conv => whnf
        refine b_le ((congrFun fh 5).trans (f05.trans hR.2.1.2.2.1)) rfl (fun h => by omega) (fun _ => ?_)
        conv => whnf
        refine jg (hHρ f).fe ?_
        conv => whnf
        refine jg (hHρ f).fgn ?_
        conv => whnf
        refine jr rfl (hHρ f).ngn hgr.1 ?_
        conv => whnf
        rw [show (f, ρ).1 h 5 = nI (hgn S).length from (congrFun fh 5).trans (f05.trans hR.2.1.2.2.1)]
        refine hk _ _ _ _ (k_H_basis_56 rfl (c_generator (σ := (f, ρ)) (hEρ f) (hSρ f) (by decide) hgl hgr.2 hPA hpok.1 (by omega) hER (by omega) h9 (by omega) h15 (hrρ f)) (fun u hu => ?_))
        obtain ⟨f2, c1, c2, c3, c4⟩ := hu
        have hf2 : ∀ q, ¬ (h + 196 ≤ q ∧ q < h + 1260) → f2 q = f0 q := fun q hq => (c1 q (by omega)).trans (hf q hq)
        rcases c4 with ⟨st2, ho, hu, hER2, h152⟩ | ⟨ho, hu, h152⟩
        · subst hu
          rw [ho] at hgns
          have hlen : st2.1.length ≤ st.1.length + 1 := by
            unfold sp_gen at ho
            split at ho
            · cases ho; omega
            · cases hm : sp_mon (p, sp_us (hgn S).length i) with
              | none => rw [hm] at ho; cases ho
              | some E => rw [hm] at ho; cases ho; show (st.1 ++ [E]).length ≤ _; rw [List.length_append]; exact Nat.le_refl _
          show J g (d + 11) 42 59 _ _ (f2, ρ) _
          refine jm_run ok_H_basis [34] 90 (fun kk hk => ?_)
          conv => whnf
          rw [nI_1]
          exact hk _ _ _ _ (ih (i + 1) st2 f2 hdr2 (by omega) (by omega) (SI_gen hSI hpok.2.1 hpok.1 ho) hgns hER2 hf2 c3 h152 ((c2 11 (by decide) (by decide) (by decide)).trans h11) ((c2 12 (by decide) (by decide) (by decide)).trans h12) ((c2 13 (by decide) (by decide) (by decide)).trans h13) ((c2 14 (by decide) (by decide) (by decide)).trans h14))
        · subst hu
          rw [ho] at hgns
          have hbas : sp_bas (hkd S) (hgn S).length (hgn S) lim = (lim, (0, (0, (st.1.length, .inl (-7))))) := by unfold sp_bas; rw [hgns]
          rw [hbas] at hGo ⊢
          have f2h : f2 h = f0 h := hf2 h (by omega)
          have hff : ∀ q, q ≠ h → ¬ (h + 196 ≤ q ∧ q < h + 1260) → f2 q = σ.1 q := fun q h1 h2 => (hf2 q h2).trans (f0q q h1)
          show J g (d + 11) 42 79 _ [aR 7 _] (jm_wi (jm_nw (f2, ρ) 7) ρ.2.1 0 (-7)) _
          refine jm_run ok_H_basis [] 90 (fun kk hk => ?_)
          conv => whnf
          refine hk _ _ _ _ (r_H_basis_84 (jH_thr (HR_bas hR hG (fun q hq => r1 q (by omega)) (hEρ f2) hff ⟨(congrFun f2h 0).trans f00, (congrFun f2h 2).trans f02, (congrFun f2h 5).trans f05, (congrFun f2h 8).trans f08, (congrFun f2h 9).trans f09⟩ ⟨⟨s, ⟨(hSρ f2).2.2.1, es2⟩, fun hb => (by cases hb)⟩, ?_⟩) hGo hh (fun q hq => hff q (by omega) (by omega)) (fun q hq => r1 q (by omega)) r4))
          refine ⟨?_, (c2 13 (by decide) (by decide) (by decide)).trans h13, (c2 14 (by decide) (by decide) (by decide)).trans h14, h152⟩
          show f2 (h + 196) 11 = nI (lim - lim)
          rw [Nat.sub_self]
          exact (c2 11 (by decide) (by decide) (by decide)).trans h11
    refine jm_run ok_H_basis [34] 90 (fun kk hk => ?_)
    conv => whnf
    exact hk _ _ _ _ (loop (hgn S) 0 ([], fun _ _ => false) fB rfl (Nat.zero_le _) (Nat.le_refl _) (fun E hE => (by cases hE)) rfl ⟨Nat.zero_le _, b10, fun i E hE => (by cases hE), fun i k h1 h2 => absurd h2 (Nat.not_lt_zero _)⟩ (fun q hq => b1 q (by omega)) b9 b15 b11 b12 b13 b14)
end
