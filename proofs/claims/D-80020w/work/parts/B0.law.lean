/-! THE LAW: its acts -/
section
variable {g : jm_G} {σ : jm_S} {h i N b : Nat} {S : sp_H} {K : jm_O → Prop}
/-- what holds between two acts -/
def LI (g : jm_G) (h N : Nat) (σ : jm_S) (S : sp_H) : Prop := HR g σ h S ∧ MR g σ (h + 1631) S ∧ GS S ∧ h + 1640 ≤ σ.2.2.1 ∧ σ.2.2.1 ≤ h + 1640 + N ∧ σ.2.2.2 ≤ 1000000 + 7 * N
/-- what the addresses beyond must be -/
def LG (g : jm_G) (h : Nat) : Prop := h = gb g ∧ (∀ q, h + 1640 ≤ q → gdm g q = 7) ∧ gsL g ≤ 3073
theorem LI.rm (hI : LI g h N σ S) (hg : LG g h) (hN : N ≤ 4000) : sp_rm g σ := by
  obtain ⟨-, -, -, h1, h2, h3⟩ := hI
  refine ⟨hg.2.1 _ h1, ?_, ?_⟩
  · show σ.2.2.1 + 1 ≤ gb g + 601024
    rw [← hg.1]; omega
  · show σ.2.2.2 + 7 ≤ 7293000
    omega
theorem MR_fr {σ' : jm_S} {m : Nat} (hM : MR g σ m S) (h1 : ∀ q, m ≤ q → q ≤ m + 8 → σ'.1 q = σ.1 q) (h2 : σ'.2.1 m = σ.2.1 m) : MR g σ' m S := by
  obtain ⟨a1, a2, a3, T, a4, a5⟩ := hM
  refine ⟨?_, MF_fr a2 (fun k _ => congrFun (h1 m (by omega) (by omega)) k), MD_fr a3 (h1 _ (by omega) (by omega)), T, MS_fr a4 (fun q b c => h1 q (by omega) (by omega)), a5⟩
  unfold ML at a1 ⊢
  rw [h2]
  exact a1
/-- behind the House's act -/
theorem af_H {a : Int32} {S' : sp_H} {u : jm_O} (hI : LI g h N σ S) (hu : jH g σ h a S' u) : ∃ σ' : jm_S, u = (σ', .inl (some (aI a))) ∧ HR g σ' h S' ∧ MR g σ' (h + 1631) S ∧ h + 1640 ≤ σ'.2.2.1 ∧ σ'.2.2.1 ≤ h + 1640 + (N + 1) ∧ σ'.2.2.2 ≤ 1000000 + 7 * (N + 1) := by
  obtain ⟨i1, i2, i3, i4, i5, i6⟩ := hI
  obtain ⟨σ', r1, r2, r3, r4, r5, r6⟩ := hu
  have r3 : σ.2.2.1 ≤ σ'.2.2.1 := r3
  have r4 : σ'.2.2.1 ≤ σ.2.2.1 + 1 := r4
  have r5 : σ'.2.2.2 ≤ σ.2.2.2 + 7 := r5
  have r6 : ∀ q, ¬ (h ≤ q ∧ q < h + 1631) → q < σ.2.2.1 → σ'.1 q = σ.1 q ∧ σ'.2.1 q = σ.2.1 q := r6
  exact ⟨σ', r2, r1, MR_fr i2 (fun q b c => (r6 q (by omega) (by omega)).1) (r6 _ (by omega) (by omega)).2, by omega, by omega, by omega⟩
/-- behind the Model's act -/
theorem af_M {a : Int32} {S' : sp_H} {u : jm_O} (hR : HR g σ h S') (hG : GS S') (h1 : h + 1640 ≤ σ.2.2.1) (h2 : σ.2.2.1 ≤ h + 1640 + N) (h3 : σ.2.2.2 ≤ 1000000 + 7 * N) (hu : jMd g σ (h + 1631) a S' u) : ∃ σ' : jm_S, u = (σ', .inl (some (aI a))) ∧ LI g h N σ' S' := by
  obtain ⟨f, r1, r2, r3⟩ := hu
  exact ⟨(f, σ.2), r3, HR_fr hR hG (fun _ _ _ => rfl) (fun q a b _ _ => r2 q (by omega)), r1, hG, h1, h2, h3⟩
theorem jx {k n : Nat} {x : Int32} {L : List (Option jm_V)} {r : List jm_V} {P : Nat → List (Option jm_V) → List jm_V → jm_S → Prop} (hx : x = nI k) (hL : gsL g ≤ 3073) (hk : k < gsL g) (hp : P n L (aI (gsx g k) :: r) σ) : vp_in x (gsL g) ∧ P n L (aI (gsx g x.toNatClampNeg) :: r) σ := by
  subst hx
  rw [nI_clamp (by omega)]
  refine ⟨vp_in_iff.mpr ?_, hp⟩
  rw [nI_toInt (by omega)]
  omega
set_option maxRecDepth 8000 in
theorem lc_variables (hI : LI g h N σ S) (hg : LG g h) (hN : N ≤ 4000) (hi : i + 6 ≤ gsL g) (nx : ∀ (σ' : jm_S) (S' : sp_H), LI g h (N + 1) σ' S' → J g 14 130 810 [some (aR 14 b), some (aR 1 h), some (aR 6 (h + 1631)), some (aI (nI i))] [] σ' K) :
    J g 14 130 144 [some (aR 14 b), some (aR 1 h), some (aR 6 (h + 1631)), some (aI (nI i))] [] σ K := by
  refine jm_run ok_law_law [810] 90 (fun kk hk => ?_)
  conv => whnf
  refine hk _ _ _ _ (k_law_law_145 rfl (c_variables hI.1) (fun u hu => ?_))
  obtain ⟨σ1, hu, r1, m1, l1, l2, l3⟩ := af_H hI hu
  subst hu
  show J g 14 130 148 _ _ σ1 _
  refine jm_run ok_law_law [810] 90 (fun kk hk => ?_)
  conv => whnf
  refine hk _ _ _ _ (k_law_law_149 rfl (c_mvariables m1) (fun u hu => ?_))
  obtain ⟨σ2, hu, hI2⟩ := af_M r1 hI.2.2.1 l1 l2 l3 hu
  subst hu
  show J g 14 130 152 _ _ σ2 _
  refine jm_run ok_law_law [810] 90 (fun kk hk => ?_)
  conv => whnf
  refine ⟨fun _ => ?_, fun h => absurd rfl h⟩
  conv => whnf
  exact hk _ _ _ _ (nx σ2 _ hI2)
set_option maxRecDepth 8000 in
theorem lc_order (hI : LI g h N σ S) (hg : LG g h) (hN : N ≤ 4000) (hi : i + 6 ≤ gsL g) (nx : ∀ (σ' : jm_S) (S' : sp_H), LI g h (N + 1) σ' S' → J g 14 130 810 [some (aR 14 b), some (aR 1 h), some (aR 6 (h + 1631)), some (aI (nI i))] [] σ' K) :
    J g 14 130 157 [some (aR 14 b), some (aR 1 h), some (aR 6 (h + 1631)), some (aI (nI i))] [] σ K := by
  refine jm_run ok_law_law [810] 90 (fun kk hk => ?_)
  conv => whnf
  refine jx (nI_add i 1) hg.2.2 (by omega) ?_
  conv => whnf
  refine hk _ _ _ _ (k_law_law_163 rfl (c_order (d := 9) hI.1 hI.2.2.1) (fun u hu => ?_))
  obtain ⟨σ1, hu, r1, m1, l1, l2, l3⟩ := af_H hI hu
  subst hu
  show J g 14 130 166 _ _ σ1 _
  refine jm_run ok_law_law [810] 90 (fun kk hk => ?_)
  conv => whnf
  refine jx (nI_add i 1) hg.2.2 (by omega) ?_
  conv => whnf
  refine hk _ _ _ _ (k_law_law_172 rfl (c_morder (d := 9) m1 hI.2.2.1) (fun u hu => ?_))
  obtain ⟨σ2, hu, hI2⟩ := af_M r1 (GS_order hI.2.2.1) l1 l2 l3 hu
  subst hu
  show J g 14 130 175 _ _ σ2 _
  refine jm_run ok_law_law [810] 90 (fun kk hk => ?_)
  conv => whnf
  refine ⟨fun _ => ?_, fun h => absurd rfl h⟩
  conv => whnf
  exact hk _ _ _ _ (nx σ2 _ hI2)
set_option maxRecDepth 8000 in
theorem lc_term (hI : LI g h N σ S) (hg : LG g h) (hN : N ≤ 4000) (hi : i + 6 ≤ gsL g) (nx : ∀ (σ' : jm_S) (S' : sp_H), LI g h (N + 1) σ' S' → J g 14 130 810 [some (aR 14 b), some (aR 1 h), some (aR 6 (h + 1631)), some (aI (nI i))] [] σ' K) :
    J g 14 130 180 [some (aR 14 b), some (aR 1 h), some (aR 6 (h + 1631)), some (aI (nI i))] [] σ K := by
  refine jm_run ok_law_law [810] 90 (fun kk hk => ?_)
  conv => whnf
  refine jx (nI_add i 1) hg.2.2 (by omega) ?_
  conv => whnf
  refine jx (nI_add i 2) hg.2.2 (by omega) ?_
  conv => whnf
  refine jx (nI_add i 3) hg.2.2 (by omega) ?_
  conv => whnf
  refine jx (nI_add i 4) hg.2.2 (by omega) ?_
  conv => whnf
  refine hk _ _ _ _ (k_law_law_201 rfl (c_term (d := 6) hI.1 hI.2.2.1 (hI.rm hg hN) (by have := hI.2.2.2.1; omega)) (fun u hu => ?_))
  obtain ⟨σ1, hu, r1, m1, l1, l2, l3⟩ := af_H hI hu
  subst hu
  show J g 14 130 204 _ _ σ1 _
  refine jm_run ok_law_law [810] 90 (fun kk hk => ?_)
  conv => whnf
  refine jx (nI_add i 1) hg.2.2 (by omega) ?_
  conv => whnf
  refine jx (nI_add i 2) hg.2.2 (by omega) ?_
  conv => whnf
  refine jx (nI_add i 3) hg.2.2 (by omega) ?_
  conv => whnf
  refine jx (nI_add i 4) hg.2.2 (by omega) ?_
  conv => whnf
  refine hk _ _ _ _ (k_law_law_225 rfl (c_mterm (d := 9) m1 hI.2.2.1) (fun u hu => ?_))
  obtain ⟨σ2, hu, hI2⟩ := af_M r1 (GS_term hI.2.2.1) l1 l2 l3 hu
  subst hu
  show J g 14 130 228 _ _ σ2 _
  refine jm_run ok_law_law [810] 90 (fun kk hk => ?_)
  conv => whnf
  refine ⟨fun _ => ?_, fun h => absurd rfl h⟩
  conv => whnf
  exact hk _ _ _ _ (nx σ2 _ hI2)
set_option maxRecDepth 8000 in
theorem lc_zero (hI : LI g h N σ S) (hg : LG g h) (hN : N ≤ 4000) (hi : i + 6 ≤ gsL g) (nx : ∀ (σ' : jm_S) (S' : sp_H), LI g h (N + 1) σ' S' → J g 14 130 810 [some (aR 14 b), some (aR 1 h), some (aR 6 (h + 1631)), some (aI (nI i))] [] σ' K) :
    J g 14 130 233 [some (aR 14 b), some (aR 1 h), some (aR 6 (h + 1631)), some (aI (nI i))] [] σ K := by
  refine jm_run ok_law_law [810] 90 (fun kk hk => ?_)
  conv => whnf
  refine jx (nI_add i 1) hg.2.2 (by omega) ?_
  conv => whnf
  refine hk _ _ _ _ (k_law_law_239 rfl (c_zero (d := 12) hI.1 hI.2.2.1) (fun u hu => ?_))
  obtain ⟨σ1, hu, r1, m1, l1, l2, l3⟩ := af_H hI hu
  subst hu
  show J g 14 130 242 _ _ σ1 _
  refine jm_run ok_law_law [810] 90 (fun kk hk => ?_)
  conv => whnf
  refine jx (nI_add i 1) hg.2.2 (by omega) ?_
  conv => whnf
  refine hk _ _ _ _ (k_law_law_248 rfl (c_mzero (d := 12) m1 hI.2.2.1) (fun u hu => ?_))
  obtain ⟨σ2, hu, hI2⟩ := af_M r1 (GS_zero hI.2.2.1) l1 l2 l3 hu
  subst hu
  show J g 14 130 251 _ _ σ2 _
  refine jm_run ok_law_law [810] 90 (fun kk hk => ?_)
  conv => whnf
  refine ⟨fun _ => ?_, fun h => absurd rfl h⟩
  conv => whnf
  exact hk _ _ _ _ (nx σ2 _ hI2)
set_option maxRecDepth 8000 in
theorem lc_size (hI : LI g h N σ S) (hg : LG g h) (hN : N ≤ 4000) (hi : i + 6 ≤ gsL g) (nx : ∀ (σ' : jm_S) (S' : sp_H), LI g h (N + 1) σ' S' → J g 14 130 810 [some (aR 14 b), some (aR 1 h), some (aR 6 (h + 1631)), some (aI (nI i))] [] σ' K) :
    J g 14 130 256 [some (aR 14 b), some (aR 1 h), some (aR 6 (h + 1631)), some (aI (nI i))] [] σ K := by
  refine jm_run ok_law_law [810] 90 (fun kk hk => ?_)
  conv => whnf
  refine jx (nI_add i 1) hg.2.2 (by omega) ?_
  conv => whnf
  refine hk _ _ _ _ (k_law_law_262 rfl (c_size (d := 12) hI.1 hI.2.2.1) (fun u hu => ?_))
  obtain ⟨σ1, hu, r1, m1, l1, l2, l3⟩ := af_H hI hu
  subst hu
  show J g 14 130 265 _ _ σ1 _
  refine jm_run ok_law_law [810] 90 (fun kk hk => ?_)
  conv => whnf
  refine jx (nI_add i 1) hg.2.2 (by omega) ?_
  conv => whnf
  refine hk _ _ _ _ (k_law_law_271 rfl (c_msize (d := 12) m1 hI.2.2.1) (fun u hu => ?_))
  obtain ⟨σ2, hu, hI2⟩ := af_M r1 hI.2.2.1 l1 l2 l3 hu
  subst hu
  show J g 14 130 274 _ _ σ2 _
  refine jm_run ok_law_law [810] 90 (fun kk hk => ?_)
  conv => whnf
  refine ⟨fun _ => ?_, fun h => absurd rfl h⟩
  conv => whnf
  exact hk _ _ _ _ (nx σ2 _ hI2)
set_option maxRecDepth 8000 in
theorem lc_told (hI : LI g h N σ S) (hg : LG g h) (hN : N ≤ 4000) (hi : i + 6 ≤ gsL g) (nx : ∀ (σ' : jm_S) (S' : sp_H), LI g h (N + 1) σ' S' → J g 14 130 810 [some (aR 14 b), some (aR 1 h), some (aR 6 (h + 1631)), some (aI (nI i))] [] σ' K) :
    J g 14 130 279 [some (aR 14 b), some (aR 1 h), some (aR 6 (h + 1631)), some (aI (nI i))] [] σ K := by
  refine jm_run ok_law_law [810] 90 (fun kk hk => ?_)
  conv => whnf
  refine jx (nI_add i 1) hg.2.2 (by omega) ?_
  conv => whnf
  refine jx (nI_add i 2) hg.2.2 (by omega) ?_
  conv => whnf
  refine jx (nI_add i 3) hg.2.2 (by omega) ?_
  conv => whnf
  refine hk _ _ _ _ (k_law_law_295 rfl (c_told (d := 12) hI.1 hI.2.2.1) (fun u hu => ?_))
  obtain ⟨σ1, hu, r1, m1, l1, l2, l3⟩ := af_H hI hu
  subst hu
  show J g 14 130 298 _ _ σ1 _
  refine jm_run ok_law_law [810] 90 (fun kk hk => ?_)
  conv => whnf
  refine jx (nI_add i 1) hg.2.2 (by omega) ?_
  conv => whnf
  refine jx (nI_add i 2) hg.2.2 (by omega) ?_
  conv => whnf
  refine jx (nI_add i 3) hg.2.2 (by omega) ?_
  conv => whnf
  refine hk _ _ _ _ (k_law_law_314 rfl (c_mtold (d := 12) m1 hI.2.2.1) (fun u hu => ?_))
  obtain ⟨σ2, hu, hI2⟩ := af_M r1 hI.2.2.1 l1 l2 l3 hu
  subst hu
  show J g 14 130 317 _ _ σ2 _
  refine jm_run ok_law_law [810] 90 (fun kk hk => ?_)
  conv => whnf
  refine ⟨fun _ => ?_, fun h => absurd rfl h⟩
  conv => whnf
  exact hk _ _ _ _ (nx σ2 _ hI2)
set_option maxRecDepth 8000 in
theorem lc_plus (hI : LI g h N σ S) (hg : LG g h) (hN : N ≤ 4000) (hi : i + 6 ≤ gsL g) (nx : ∀ (σ' : jm_S) (S' : sp_H), LI g h (N + 1) σ' S' → J g 14 130 810 [some (aR 14 b), some (aR 1 h), some (aR 6 (h + 1631)), some (aI (nI i))] [] σ' K) :
    J g 14 130 322 [some (aR 14 b), some (aR 1 h), some (aR 6 (h + 1631)), some (aI (nI i))] [] σ K := by
  refine jm_run ok_law_law [810] 90 (fun kk hk => ?_)
  conv => whnf
  refine jx (nI_add i 1) hg.2.2 (by omega) ?_
  conv => whnf
  refine jx (nI_add i 2) hg.2.2 (by omega) ?_
  conv => whnf
  refine jx (nI_add i 3) hg.2.2 (by omega) ?_
  conv => whnf
  refine hk _ _ _ _ (k_law_law_338 rfl (c_plus2 (d := 5) hI.1 hI.2.2.1 (hI.rm hg hN) (by have := hI.2.2.2.1; omega)) (fun u hu => ?_))
  obtain ⟨σ1, hu, r1, m1, l1, l2, l3⟩ := af_H hI hu
  subst hu
  show J g 14 130 341 _ _ σ1 _
  refine jm_run ok_law_law [810] 90 (fun kk hk => ?_)
  conv => whnf
  refine jx (nI_add i 1) hg.2.2 (by omega) ?_
  conv => whnf
  refine jx (nI_add i 2) hg.2.2 (by omega) ?_
  conv => whnf
  refine jx (nI_add i 3) hg.2.2 (by omega) ?_
  conv => whnf
  refine hk _ _ _ _ (k_law_law_357 rfl (c_mplus (d := 8) m1 hI.2.2.1) (fun u hu => ?_))
  obtain ⟨σ2, hu, hI2⟩ := af_M r1 (GS_plus hI.2.2.1) l1 l2 l3 hu
  subst hu
  show J g 14 130 360 _ _ σ2 _
  refine jm_run ok_law_law [810] 90 (fun kk hk => ?_)
  conv => whnf
  refine ⟨fun _ => ?_, fun h => absurd rfl h⟩
  conv => whnf
  exact hk _ _ _ _ (nx σ2 _ hI2)
set_option maxRecDepth 8000 in
theorem lc_times (hI : LI g h N σ S) (hg : LG g h) (hN : N ≤ 4000) (hi : i + 6 ≤ gsL g) (nx : ∀ (σ' : jm_S) (S' : sp_H), LI g h (N + 1) σ' S' → J g 14 130 810 [some (aR 14 b), some (aR 1 h), some (aR 6 (h + 1631)), some (aI (nI i))] [] σ' K) :
    J g 14 130 365 [some (aR 14 b), some (aR 1 h), some (aR 6 (h + 1631)), some (aI (nI i))] [] σ K := by
  refine jm_run ok_law_law [810] 90 (fun kk hk => ?_)
  conv => whnf
  refine jx (nI_add i 1) hg.2.2 (by omega) ?_
  conv => whnf
  refine jx (nI_add i 2) hg.2.2 (by omega) ?_
  conv => whnf
  refine jx (nI_add i 3) hg.2.2 (by omega) ?_
  conv => whnf
  refine hk _ _ _ _ (k_law_law_381 rfl (c_times2 (d := 4) hI.1 hI.2.2.1 (hI.rm hg hN) (by have := hI.2.2.2.1; omega)) (fun u hu => ?_))
  obtain ⟨σ1, hu, r1, m1, l1, l2, l3⟩ := af_H hI hu
  subst hu
  show J g 14 130 384 _ _ σ1 _
  refine jm_run ok_law_law [810] 90 (fun kk hk => ?_)
  conv => whnf
  refine jx (nI_add i 1) hg.2.2 (by omega) ?_
  conv => whnf
  refine jx (nI_add i 2) hg.2.2 (by omega) ?_
  conv => whnf
  refine jx (nI_add i 3) hg.2.2 (by omega) ?_
  conv => whnf
  refine hk _ _ _ _ (k_law_law_400 rfl (c_mtimes (d := 7) m1 hI.2.2.1) (fun u hu => ?_))
  obtain ⟨σ2, hu, hI2⟩ := af_M r1 (GS_times hI.2.2.1) l1 l2 l3 hu
  subst hu
  show J g 14 130 403 _ _ σ2 _
  refine jm_run ok_law_law [810] 90 (fun kk hk => ?_)
  conv => whnf
  refine ⟨fun _ => ?_, fun h => absurd rfl h⟩
  conv => whnf
  exact hk _ _ _ _ (nx σ2 _ hI2)
set_option maxRecDepth 8000 in
theorem lc_same (hI : LI g h N σ S) (hg : LG g h) (hN : N ≤ 4000) (hi : i + 6 ≤ gsL g) (nx : ∀ (σ' : jm_S) (S' : sp_H), LI g h (N + 1) σ' S' → J g 14 130 810 [some (aR 14 b), some (aR 1 h), some (aR 6 (h + 1631)), some (aI (nI i))] [] σ' K) :
    J g 14 130 408 [some (aR 14 b), some (aR 1 h), some (aR 6 (h + 1631)), some (aI (nI i))] [] σ K := by
  refine jm_run ok_law_law [810] 90 (fun kk hk => ?_)
  conv => whnf
  refine jx (nI_add i 1) hg.2.2 (by omega) ?_
  conv => whnf
  refine jx (nI_add i 2) hg.2.2 (by omega) ?_
  conv => whnf
  refine hk _ _ _ _ (k_law_law_419 rfl (c_same (d := 12) hI.1 hI.2.2.1) (fun u hu => ?_))
  obtain ⟨σ1, hu, r1, m1, l1, l2, l3⟩ := af_H hI hu
  subst hu
  show J g 14 130 422 _ _ σ1 _
  refine jm_run ok_law_law [810] 90 (fun kk hk => ?_)
  conv => whnf
  refine jx (nI_add i 1) hg.2.2 (by omega) ?_
  conv => whnf
  refine jx (nI_add i 2) hg.2.2 (by omega) ?_
  conv => whnf
  refine hk _ _ _ _ (k_law_law_433 rfl (c_msame (d := 12) m1 hI.2.2.1) (fun u hu => ?_))
  obtain ⟨σ2, hu, hI2⟩ := af_M r1 hI.2.2.1 l1 l2 l3 hu
  subst hu
  show J g 14 130 436 _ _ σ2 _
  refine jm_run ok_law_law [810] 90 (fun kk hk => ?_)
  conv => whnf
  refine ⟨fun _ => ?_, fun h => absurd rfl h⟩
  conv => whnf
  exact hk _ _ _ _ (nx σ2 _ hI2)
set_option maxRecDepth 8000 in
theorem lc_vanishes (hI : LI g h N σ S) (hg : LG g h) (hN : N ≤ 4000) (hi : i + 6 ≤ gsL g) (nx : ∀ (σ' : jm_S) (S' : sp_H), LI g h (N + 1) σ' S' → J g 14 130 810 [some (aR 14 b), some (aR 1 h), some (aR 6 (h + 1631)), some (aI (nI i))] [] σ' K) :
    J g 14 130 441 [some (aR 14 b), some (aR 1 h), some (aR 6 (h + 1631)), some (aI (nI i))] [] σ K := by
  refine jm_run ok_law_law [810] 90 (fun kk hk => ?_)
  conv => whnf
  refine jx (nI_add i 1) hg.2.2 (by omega) ?_
  conv => whnf
  refine jx (nI_add i 2) hg.2.2 (by omega) ?_
  conv => whnf
  refine jx (nI_add i 3) hg.2.2 (by omega) ?_
  conv => whnf
  refine jx (nI_add i 4) hg.2.2 (by omega) ?_
  conv => whnf
  refine jx (nI_add i 5) hg.2.2 (by omega) ?_
  conv => whnf
  refine hk _ _ _ _ (k_law_law_467 rfl (c_vanishes (d := 6) hI.1 hI.2.2.1 (hI.rm hg hN) (by have := hI.2.2.2.1; omega)) (fun u hu => ?_))
  obtain ⟨σ1, hu, r1, m1, l1, l2, l3⟩ := af_H hI hu
  subst hu
  show J g 14 130 470 _ _ σ1 _
  refine jm_run ok_law_law [810] 90 (fun kk hk => ?_)
  conv => whnf
  refine jx (nI_add i 1) hg.2.2 (by omega) ?_
  conv => whnf
  refine jx (nI_add i 2) hg.2.2 (by omega) ?_
  conv => whnf
  refine jx (nI_add i 3) hg.2.2 (by omega) ?_
  conv => whnf
  refine jx (nI_add i 4) hg.2.2 (by omega) ?_
  conv => whnf
  refine jx (nI_add i 5) hg.2.2 (by omega) ?_
  conv => whnf
  refine hk _ _ _ _ (k_law_law_496 rfl (c_mvanishes (d := 11) m1 hI.2.2.1) (fun u hu => ?_))
  obtain ⟨σ2, hu, hI2⟩ := af_M r1 hI.2.2.1 l1 l2 l3 hu
  subst hu
  show J g 14 130 499 _ _ σ2 _
  refine jm_run ok_law_law [810] 90 (fun kk hk => ?_)
  conv => whnf
  refine ⟨fun _ => ?_, fun h => absurd rfl h⟩
  conv => whnf
  exact hk _ _ _ _ (nx σ2 _ hI2)
set_option maxRecDepth 8000 in
theorem lc_generator (hI : LI g h N σ S) (hg : LG g h) (hN : N ≤ 4000) (hi : i + 6 ≤ gsL g) (nx : ∀ (σ' : jm_S) (S' : sp_H), LI g h (N + 1) σ' S' → J g 14 130 810 [some (aR 14 b), some (aR 1 h), some (aR 6 (h + 1631)), some (aI (nI i))] [] σ' K) :
    J g 14 130 504 [some (aR 14 b), some (aR 1 h), some (aR 6 (h + 1631)), some (aI (nI i))] [] σ K := by
  refine jm_run ok_law_law [810] 90 (fun kk hk => ?_)
  conv => whnf
  refine jx (nI_add i 1) hg.2.2 (by omega) ?_
  conv => whnf
  refine hk _ _ _ _ (k_law_law_510 rfl (c_generator2 (d := 12) hI.1 hI.2.2.1) (fun u hu => ?_))
  obtain ⟨σ1, hu, r1, m1, l1, l2, l3⟩ := af_H hI hu
  subst hu
  show J g 14 130 513 _ _ σ1 _
  refine jm_run ok_law_law [810] 90 (fun kk hk => ?_)
  conv => whnf
  refine jx (nI_add i 1) hg.2.2 (by omega) ?_
  conv => whnf
  refine hk _ _ _ _ (k_law_law_519 rfl (c_mgenerator (d := 12) m1 hI.2.2.1) (fun u hu => ?_))
  obtain ⟨σ2, hu, hI2⟩ := af_M r1 (GS_generator hI.2.2.1) l1 l2 l3 hu
  subst hu
  show J g 14 130 522 _ _ σ2 _
  refine jm_run ok_law_law [810] 90 (fun kk hk => ?_)
  conv => whnf
  refine ⟨fun _ => ?_, fun h => absurd rfl h⟩
  conv => whnf
  exact hk _ _ _ _ (nx σ2 _ hI2)
set_option maxRecDepth 8000 in
theorem lc_clear (hI : LI g h N σ S) (hg : LG g h) (hN : N ≤ 4000) (hi : i + 6 ≤ gsL g) (nx : ∀ (σ' : jm_S) (S' : sp_H), LI g h (N + 1) σ' S' → J g 14 130 810 [some (aR 14 b), some (aR 1 h), some (aR 6 (h + 1631)), some (aI (nI i))] [] σ' K) :
    J g 14 130 527 [some (aR 14 b), some (aR 1 h), some (aR 6 (h + 1631)), some (aI (nI i))] [] σ K := by
  refine jm_run ok_law_law [810] 90 (fun kk hk => ?_)
  conv => whnf
  refine hk _ _ _ _ (k_law_law_528 rfl (c_clear hI.1 hI.2.2.1) (fun u hu => ?_))
  obtain ⟨σ1, hu, r1, m1, l1, l2, l3⟩ := af_H hI hu
  subst hu
  show J g 14 130 531 _ _ σ1 _
  refine jm_run ok_law_law [810] 90 (fun kk hk => ?_)
  conv => whnf
  refine hk _ _ _ _ (k_law_law_532 rfl (c_mclear m1 hI.2.2.1) (fun u hu => ?_))
  obtain ⟨σ2, hu, hI2⟩ := af_M r1 (GS_clear hI.2.2.1) l1 l2 l3 hu
  subst hu
  show J g 14 130 535 _ _ σ2 _
  refine jm_run ok_law_law [810] 90 (fun kk hk => ?_)
  conv => whnf
  refine ⟨fun _ => ?_, fun h => absurd rfl h⟩
  conv => whnf
  exact hk _ _ _ _ (nx σ2 _ hI2)
set_option maxRecDepth 8000 in
theorem lc_basis (hI : LI g h N σ S) (hg : LG g h) (hN : N ≤ 4000) (hi : i + 6 ≤ gsL g) (nx : ∀ (σ' : jm_S) (S' : sp_H), LI g h (N + 1) σ' S' → J g 14 130 810 [some (aR 14 b), some (aR 1 h), some (aR 6 (h + 1631)), some (aI (nI i))] [] σ' K) :
    J g 14 130 540 [some (aR 14 b), some (aR 1 h), some (aR 6 (h + 1631)), some (aI (nI i))] [] σ K := by
  refine jm_run ok_law_law [810] 90 (fun kk hk => ?_)
  conv => whnf
  refine jx (nI_add i 1) hg.2.2 (by omega) ?_
  conv => whnf
  refine hk _ _ _ _ (k_law_law_546 rfl (c_basis (d := 2) hI.1 hI.2.2.1 (hI.rm hg hN) (by have := hI.2.2.2.1; omega)) (fun u hu => ?_))
  obtain ⟨σ1, hu, r1, m1, l1, l2, l3⟩ := af_H hI hu
  subst hu
  show J g 14 130 549 _ _ σ1 _
  refine jm_run ok_law_law [810] 90 (fun kk hk => ?_)
  conv => whnf
  refine jx (nI_add i 1) hg.2.2 (by omega) ?_
  conv => whnf
  refine hk _ _ _ _ (k_law_law_555 rfl (c_mbasis (d := 5) m1 hI.2.2.1) (fun u hu => ?_))
  obtain ⟨σ2, hu, hI2⟩ := af_M r1 (GS_basis hI.2.2.1) l1 l2 l3 hu
  subst hu
  show J g 14 130 558 _ _ σ2 _
  refine jm_run ok_law_law [810] 90 (fun kk hk => ?_)
  conv => whnf
  refine ⟨fun _ => ?_, fun h => absurd rfl h⟩
  conv => whnf
  exact hk _ _ _ _ (nx σ2 _ hI2)
set_option maxRecDepth 8000 in
theorem lc_done (hI : LI g h N σ S) (hg : LG g h) (hN : N ≤ 4000) (hi : i + 6 ≤ gsL g) (nx : ∀ (σ' : jm_S) (S' : sp_H), LI g h (N + 1) σ' S' → J g 14 130 810 [some (aR 14 b), some (aR 1 h), some (aR 6 (h + 1631)), some (aI (nI i))] [] σ' K) :
    J g 14 130 563 [some (aR 14 b), some (aR 1 h), some (aR 6 (h + 1631)), some (aI (nI i))] [] σ K := by
  refine jm_run ok_law_law [810] 90 (fun kk hk => ?_)
  conv => whnf
  refine jx (nI_add i 1) hg.2.2 (by omega) ?_
  conv => whnf
  refine hk _ _ _ _ (k_law_law_569 rfl (c_done hI.1) (fun u hu => ?_))
  obtain ⟨σ1, hu, r1, m1, l1, l2, l3⟩ := af_H hI hu
  subst hu
  show J g 14 130 572 _ _ σ1 _
  refine jm_run ok_law_law [810] 90 (fun kk hk => ?_)
  conv => whnf
  refine jx (nI_add i 1) hg.2.2 (by omega) ?_
  conv => whnf
  refine hk _ _ _ _ (k_law_law_578 rfl (c_mdone m1) (fun u hu => ?_))
  obtain ⟨σ2, hu, hI2⟩ := af_M r1 hI.2.2.1 l1 l2 l3 hu
  subst hu
  show J g 14 130 581 _ _ σ2 _
  refine jm_run ok_law_law [810] 90 (fun kk hk => ?_)
  conv => whnf
  refine ⟨fun _ => ?_, fun h => absurd rfl h⟩
  conv => whnf
  exact hk _ _ _ _ (nx σ2 _ hI2)
set_option maxRecDepth 8000 in
theorem lc_element (hI : LI g h N σ S) (hg : LG g h) (hN : N ≤ 4000) (hi : i + 6 ≤ gsL g) (nx : ∀ (σ' : jm_S) (S' : sp_H), LI g h (N + 1) σ' S' → J g 14 130 810 [some (aR 14 b), some (aR 1 h), some (aR 6 (h + 1631)), some (aI (nI i))] [] σ' K) :
    J g 14 130 586 [some (aR 14 b), some (aR 1 h), some (aR 6 (h + 1631)), some (aI (nI i))] [] σ K := by
  refine jm_run ok_law_law [810] 90 (fun kk hk => ?_)
  conv => whnf
  refine jx (nI_add i 1) hg.2.2 (by omega) ?_
  conv => whnf
  refine jx (nI_add i 2) hg.2.2 (by omega) ?_
  conv => whnf
  refine hk _ _ _ _ (k_law_law_597 rfl (c_element (d := 11) hI.1 hI.2.2.1) (fun u hu => ?_))
  obtain ⟨σ1, hu, r1, m1, l1, l2, l3⟩ := af_H hI hu
  subst hu
  show J g 14 130 600 _ _ σ1 _
  refine jm_run ok_law_law [810] 90 (fun kk hk => ?_)
  conv => whnf
  refine jx (nI_add i 1) hg.2.2 (by omega) ?_
  conv => whnf
  refine jx (nI_add i 2) hg.2.2 (by omega) ?_
  conv => whnf
  refine hk _ _ _ _ (k_law_law_611 rfl (c_melement (d := 12) m1 hI.2.2.1) (fun u hu => ?_))
  obtain ⟨σ2, hu, hI2⟩ := af_M r1 (GS_element hI.2.2.1) l1 l2 l3 hu
  subst hu
  show J g 14 130 614 _ _ σ2 _
  refine jm_run ok_law_law [810] 90 (fun kk hk => ?_)
  conv => whnf
  refine ⟨fun _ => ?_, fun h => absurd rfl h⟩
  conv => whnf
  exact hk _ _ _ _ (nx σ2 _ hI2)
set_option maxRecDepth 8000 in
theorem lc_share (hI : LI g h N σ S) (hg : LG g h) (hN : N ≤ 4000) (hi : i + 6 ≤ gsL g) (nx : ∀ (σ' : jm_S) (S' : sp_H), LI g h (N + 1) σ' S' → J g 14 130 810 [some (aR 14 b), some (aR 1 h), some (aR 6 (h + 1631)), some (aI (nI i))] [] σ' K) :
    J g 14 130 619 [some (aR 14 b), some (aR 1 h), some (aR 6 (h + 1631)), some (aI (nI i))] [] σ K := by
  refine jm_run ok_law_law [810] 90 (fun kk hk => ?_)
  conv => whnf
  refine jx (nI_add i 1) hg.2.2 (by omega) ?_
  conv => whnf
  refine jx (nI_add i 2) hg.2.2 (by omega) ?_
  conv => whnf
  refine jx (nI_add i 3) hg.2.2 (by omega) ?_
  conv => whnf
  refine hk _ _ _ _ (k_law_law_635 rfl (c_share (d := 11) hI.1 hI.2.2.1) (fun u hu => ?_))
  obtain ⟨σ1, hu, r1, m1, l1, l2, l3⟩ := af_H hI hu
  subst hu
  show J g 14 130 638 _ _ σ1 _
  refine jm_run ok_law_law [810] 90 (fun kk hk => ?_)
  conv => whnf
  refine jx (nI_add i 1) hg.2.2 (by omega) ?_
  conv => whnf
  refine jx (nI_add i 2) hg.2.2 (by omega) ?_
  conv => whnf
  refine jx (nI_add i 3) hg.2.2 (by omega) ?_
  conv => whnf
  refine hk _ _ _ _ (k_law_law_654 rfl (c_mshare (d := 12) m1 hI.2.2.1) (fun u hu => ?_))
  obtain ⟨σ2, hu, hI2⟩ := af_M r1 (GS_share hI.2.2.1) l1 l2 l3 hu
  subst hu
  show J g 14 130 657 _ _ σ2 _
  refine jm_run ok_law_law [810] 90 (fun kk hk => ?_)
  conv => whnf
  refine ⟨fun _ => ?_, fun h => absurd rfl h⟩
  conv => whnf
  exact hk _ _ _ _ (nx σ2 _ hI2)
set_option maxRecDepth 8000 in
theorem lc_divide (hI : LI g h N σ S) (hg : LG g h) (hN : N ≤ 4000) (hi : i + 6 ≤ gsL g) (nx : ∀ (σ' : jm_S) (S' : sp_H), LI g h (N + 1) σ' S' → J g 14 130 810 [some (aR 14 b), some (aR 1 h), some (aR 6 (h + 1631)), some (aI (nI i))] [] σ' K) :
    J g 14 130 662 [some (aR 14 b), some (aR 1 h), some (aR 6 (h + 1631)), some (aI (nI i))] [] σ K := by
  refine jm_run ok_law_law [810] 90 (fun kk hk => ?_)
  conv => whnf
  refine jx (nI_add i 1) hg.2.2 (by omega) ?_
  conv => whnf
  refine jx (nI_add i 2) hg.2.2 (by omega) ?_
  conv => whnf
  refine hk _ _ _ _ (k_law_law_673 rfl (c_divide2 (d := 4) hI.1 hI.2.2.1 (hI.rm hg hN) (by have := hI.2.2.2.1; omega)) (fun u hu => ?_))
  obtain ⟨σ1, hu, r1, m1, l1, l2, l3⟩ := af_H hI hu
  subst hu
  show J g 14 130 676 _ _ σ1 _
  refine jm_run ok_law_law [810] 90 (fun kk hk => ?_)
  conv => whnf
  refine jx (nI_add i 1) hg.2.2 (by omega) ?_
  conv => whnf
  refine jx (nI_add i 2) hg.2.2 (by omega) ?_
  conv => whnf
  refine hk _ _ _ _ (k_law_law_687 rfl (c_mdivide (d := 7) m1 hI.2.2.1) (fun u hu => ?_))
  obtain ⟨σ2, hu, hI2⟩ := af_M r1 (GS_divide hI.2.2.1) l1 l2 l3 hu
  subst hu
  show J g 14 130 690 _ _ σ2 _
  refine jm_run ok_law_law [810] 90 (fun kk hk => ?_)
  conv => whnf
  refine ⟨fun _ => ?_, fun h => absurd rfl h⟩
  conv => whnf
  exact hk _ _ _ _ (nx σ2 _ hI2)
set_option maxRecDepth 8000 in
theorem lc_certificate (hI : LI g h N σ S) (hg : LG g h) (hN : N ≤ 4000) (hi : i + 6 ≤ gsL g) (nx : ∀ (σ' : jm_S) (S' : sp_H), LI g h (N + 1) σ' S' → J g 14 130 810 [some (aR 14 b), some (aR 1 h), some (aR 6 (h + 1631)), some (aI (nI i))] [] σ' K) :
    J g 14 130 695 [some (aR 14 b), some (aR 1 h), some (aR 6 (h + 1631)), some (aI (nI i))] [] σ K := by
  refine jm_run ok_law_law [810] 90 (fun kk hk => ?_)
  conv => whnf
  refine jx (nI_add i 1) hg.2.2 (by omega) ?_
  conv => whnf
  refine jx (nI_add i 2) hg.2.2 (by omega) ?_
  conv => whnf
  refine hk _ _ _ _ (k_law_law_706 rfl (c_certificate (d := 5) hI.1 hI.2.2.1 (hI.rm hg hN) (by have := hI.2.2.2.1; omega)) (fun u hu => ?_))
  obtain ⟨σ1, hu, r1, m1, l1, l2, l3⟩ := af_H hI hu
  subst hu
  show J g 14 130 709 _ _ σ1 _
  refine jm_run ok_law_law [810] 90 (fun kk hk => ?_)
  conv => whnf
  refine jx (nI_add i 1) hg.2.2 (by omega) ?_
  conv => whnf
  refine jx (nI_add i 2) hg.2.2 (by omega) ?_
  conv => whnf
  refine hk _ _ _ _ (k_law_law_720 rfl (c_mcertificate (d := 7) m1 hI.2.2.1) (fun u hu => ?_))
  obtain ⟨σ2, hu, hI2⟩ := af_M r1 (GS_certificate hI.2.2.1) l1 l2 l3 hu
  subst hu
  show J g 14 130 723 _ _ σ2 _
  refine jm_run ok_law_law [810] 90 (fun kk hk => ?_)
  conv => whnf
  refine ⟨fun _ => ?_, fun h => absurd rfl h⟩
  conv => whnf
  exact hk _ _ _ _ (nx σ2 _ hI2)
set_option maxRecDepth 8000 in
theorem lc_check (hI : LI g h N σ S) (hg : LG g h) (hN : N ≤ 4000) (hi : i + 6 ≤ gsL g) (nx : ∀ (σ' : jm_S) (S' : sp_H), LI g h (N + 1) σ' S' → J g 14 130 810 [some (aR 14 b), some (aR 1 h), some (aR 6 (h + 1631)), some (aI (nI i))] [] σ' K) :
    J g 14 130 728 [some (aR 14 b), some (aR 1 h), some (aR 6 (h + 1631)), some (aI (nI i))] [] σ K := by
  refine jm_run ok_law_law [810] 90 (fun kk hk => ?_)
  conv => whnf
  refine hk _ _ _ _ (k_law_law_729 rfl (c_check (d := 4) hI.1 hI.2.2.1 (hI.rm hg hN) (by have := hI.2.2.2.1; omega)) (fun u hu => ?_))
  obtain ⟨σ1, hu, r1, m1, l1, l2, l3⟩ := af_H hI hu
  subst hu
  show J g 14 130 732 _ _ σ1 _
  refine jm_run ok_law_law [810] 90 (fun kk hk => ?_)
  conv => whnf
  refine hk _ _ _ _ (k_law_law_733 rfl (c_mcheck (d := 7) m1 hI.2.2.1) (fun u hu => ?_))
  obtain ⟨σ2, hu, hI2⟩ := af_M r1 hI.2.2.1 l1 l2 l3 hu
  subst hu
  show J g 14 130 736 _ _ σ2 _
  refine jm_run ok_law_law [810] 90 (fun kk hk => ?_)
  conv => whnf
  refine ⟨fun _ => ?_, fun h => absurd rfl h⟩
  conv => whnf
  exact hk _ _ _ _ (nx σ2 _ hI2)
set_option maxRecDepth 8000 in
theorem lc_radical (hI : LI g h N σ S) (hg : LG g h) (hN : N ≤ 4000) (hi : i + 6 ≤ gsL g) (nx : ∀ (σ' : jm_S) (S' : sp_H), LI g h (N + 1) σ' S' → J g 14 130 810 [some (aR 14 b), some (aR 1 h), some (aR 6 (h + 1631)), some (aI (nI i))] [] σ' K) :
    J g 14 130 741 [some (aR 14 b), some (aR 1 h), some (aR 6 (h + 1631)), some (aI (nI i))] [] σ K := by
  refine jm_run ok_law_law [810] 90 (fun kk hk => ?_)
  conv => whnf
  refine jx (nI_add i 1) hg.2.2 (by omega) ?_
  conv => whnf
  refine jx (nI_add i 2) hg.2.2 (by omega) ?_
  conv => whnf
  refine hk _ _ _ _ (k_law_law_752 rfl (c_radical (d := 2) hI.1 hI.2.2.1 (hI.rm hg hN) (by have := hI.2.2.2.1; omega)) (fun u hu => ?_))
  obtain ⟨σ1, hu, r1, m1, l1, l2, l3⟩ := af_H hI hu
  subst hu
  show J g 14 130 755 _ _ σ1 _
  refine jm_run ok_law_law [810] 90 (fun kk hk => ?_)
  conv => whnf
  refine jx (nI_add i 1) hg.2.2 (by omega) ?_
  conv => whnf
  refine jx (nI_add i 2) hg.2.2 (by omega) ?_
  conv => whnf
  refine hk _ _ _ _ (k_law_law_766 rfl (c_mradical (d := 5) m1 hI.2.2.1) (fun u hu => ?_))
  obtain ⟨σ2, hu, hI2⟩ := af_M r1 hI.2.2.1 l1 l2 l3 hu
  subst hu
  show J g 14 130 769 _ _ σ2 _
  refine jm_run ok_law_law [810] 90 (fun kk hk => ?_)
  conv => whnf
  refine ⟨fun _ => ?_, fun h => absurd rfl h⟩
  conv => whnf
  exact hk _ _ _ _ (nx σ2 _ hI2)
set_option maxRecDepth 8000 in
theorem lc_free (hI : LI g h N σ S) (hg : LG g h) (hN : N ≤ 4000) (hi : i + 6 ≤ gsL g) (nx : ∀ (σ' : jm_S) (S' : sp_H), LI g h (N + 1) σ' S' → J g 14 130 810 [some (aR 14 b), some (aR 1 h), some (aR 6 (h + 1631)), some (aI (nI i))] [] σ' K) :
    J g 14 130 774 [some (aR 14 b), some (aR 1 h), some (aR 6 (h + 1631)), some (aI (nI i))] [] σ K := by
  refine jm_run ok_law_law [810] 90 (fun kk hk => ?_)
  conv => whnf
  refine jx (nI_add i 1) hg.2.2 (by omega) ?_
  conv => whnf
  refine hk _ _ _ _ (k_law_law_780 rfl (c_free (d := 12) hI.1 hI.2.2.1) (fun u hu => ?_))
  obtain ⟨σ1, hu, r1, m1, l1, l2, l3⟩ := af_H hI hu
  subst hu
  show J g 14 130 783 _ _ σ1 _
  refine jm_run ok_law_law [810] 90 (fun kk hk => ?_)
  conv => whnf
  refine jx (nI_add i 1) hg.2.2 (by omega) ?_
  conv => whnf
  refine hk _ _ _ _ (k_law_law_789 rfl (c_mfree m1 hI.2.2.1) (fun u hu => ?_))
  obtain ⟨σ2, hu, hI2⟩ := af_M r1 hI.2.2.1 l1 l2 l3 hu
  subst hu
  show J g 14 130 792 _ _ σ2 _
  refine jm_run ok_law_law [810] 90 (fun kk hk => ?_)
  conv => whnf
  refine ⟨fun _ => ?_, fun h => absurd rfl h⟩
  conv => whnf
  exact hk _ _ _ _ (nx σ2 _ hI2)
set_option maxRecDepth 8000 in
theorem lc_stairs (hI : LI g h N σ S) (hg : LG g h) (hN : N ≤ 4000) (hi : i + 6 ≤ gsL g) (nx : ∀ (σ' : jm_S) (S' : sp_H), LI g h (N + 1) σ' S' → J g 14 130 810 [some (aR 14 b), some (aR 1 h), some (aR 6 (h + 1631)), some (aI (nI i))] [] σ' K) :
    J g 14 130 797 [some (aR 14 b), some (aR 1 h), some (aR 6 (h + 1631)), some (aI (nI i))] [] σ K := by
  refine jm_run ok_law_law [810] 90 (fun kk hk => ?_)
  conv => whnf
  refine hk _ _ _ _ (k_law_law_798 rfl (c_stairs (d := 11) hI.1 hI.2.2.1) (fun u hu => ?_))
  obtain ⟨σ1, hu, r1, m1, l1, l2, l3⟩ := af_H hI hu
  subst hu
  show J g 14 130 801 _ _ σ1 _
  refine jm_run ok_law_law [810] 90 (fun kk hk => ?_)
  conv => whnf
  refine hk _ _ _ _ (k_law_law_802 rfl (c_mstairs (d := 10) m1 hI.2.2.1) (fun u hu => ?_))
  obtain ⟨σ2, hu, hI2⟩ := af_M r1 hI.2.2.1 l1 l2 l3 hu
  subst hu
  show J g 14 130 805 _ _ σ2 _
  refine jm_run ok_law_law [810] 90 (fun kk hk => ?_)
  conv => whnf
  refine ⟨fun _ => ?_, fun h => absurd rfl h⟩
  conv => whnf
  exact hk _ _ _ _ (nx σ2 _ hI2)
end
