/-! Fraction times, plus; Poly insert, come -/
theorem sp_mulb {a b : Int} {m n : Nat} (ha : a.natAbs ≤ m) (hb : b.natAbs ≤ n) : (a * b).natAbs ≤ m * n := by
  rw [Int.natAbs_mul]
  exact Nat.mul_le_mul ha hb
theorem sp_set_el {σ : jm_S} {q : Nat} {A B : Int} {u : jm_O} {P : Prop} (hu : sp_set σ q A B u) (h0 : sp_fr A B = none → u = jT σ σ.1 (-7) → P) (h1 : ∀ r, sp_fr A B = some r → u = (jm_wi (jm_wi σ q 0 (sp_i r.1)) q 1 (sp_i r.2), .inl none) → P) : P := by
  unfold sp_set at hu
  cases h : sp_fr A B with
  | none => rw [h] at hu; exact h0 h hu
  | some r => rw [h] at hu; exact h1 r h hu
theorem sp_fr_b {a b : Int} {r : Int × Int} (hb : b ≠ 0) (h : sp_fr a b = some r) : r.1.natAbs ≤ 1000000000 ∧ 1 ≤ r.2 ∧ r.2 ≤ 1000000000 ∧ (r.1 = 0 ↔ a = 0) := by
  unfold sp_fr at h
  by_cases hc : (a.tdiv (Int.gcd a b)).natAbs ≤ 1000000000 ∧ (b.tdiv (Int.gcd a b)).natAbs ≤ 1000000000
  · rw [if_pos hc] at h
    have h := Option.some.inj h
    have hg0 : 0 < Int.gcd a b := Int.gcd_pos_iff.mpr (Or.inr hb)
    have ea : a.tdiv (Int.gcd a b) * (Int.gcd a b : Nat) = a := Int.tdiv_mul_cancel (Int.gcd_dvd_left ..)
    have eb : b.tdiv (Int.gcd a b) * (Int.gcd a b : Nat) = b := Int.tdiv_mul_cancel (Int.gcd_dvd_right ..)
    have hb2 : b.tdiv (Int.gcd a b) ≠ 0 := by intro q; rw [q] at eb; omega
    have ha2 : a.tdiv (Int.gcd a b) = 0 ↔ a = 0 := by
      constructor
      · intro q; rw [q] at ea; omega
      · intro q; rw [q, Int.zero_tdiv]
    rw [← h]
    refine ⟨?_, ?_, ?_, ?_⟩
    · show (if b < 0 then -(a.tdiv (Int.gcd a b)) else a.tdiv (Int.gcd a b)).natAbs ≤ _
      split <;> omega
    · show 1 ≤ ((b.tdiv (Int.gcd a b)).natAbs : Int)
      omega
    · show ((b.tdiv (Int.gcd a b)).natAbs : Int) ≤ _
      omega
    · show (if b < 0 then -(a.tdiv (Int.gcd a b)) else a.tdiv (Int.gcd a b)) = 0 ↔ _
      rw [← ha2]
      split <;> omega
  · rw [if_neg hc] at h
    cases h
theorem sp_c_inj {a b : sp_M} (ha : sp_ok a) (hb : sp_ok b) (h : sp_6 a = sp_6 b) : a = b := by
  obtain ⟨a0, a1, a2, a3, a4⟩ := ha
  obtain ⟨b0, b1, b2, b3, b4⟩ := hb
  unfold sp_6 at h
  have e0 : a.1 = b.1 := by omega
  have e1 : a.2.1 = b.2.1 := by omega
  have e2 : a.2.2.1 = b.2.2.1 := by omega
  have e3 : a.2.2.2.1 = b.2.2.2.1 := by omega
  have e4 : a.2.2.2.2 = b.2.2.2.2 := by omega
  exact Prod.ext e0 (Prod.ext e1 (Prod.ext e2 (Prod.ext e3 e4)))
theorem PA_frame {f f' : Nat → Nat → Int32} {a : Nat} {p : sp_P} (h : PA f a p) (h0 : f' a = f a) (h1 : f' (a + 1) = f (a + 1)) (h2 : f' (a + 2) = f (a + 2)) (h3 : f' (a + 3) = f (a + 3)) : PA f' a p := by
  unfold PA
  rw [h0, h1, h2, h3]
  exact h
section
variable {g : jm_G} {d : Nat} {σ : jm_S}
theorem c_ftimes {A B C D : Int} {q : Nat} (hA : A.natAbs ≤ 1000000000) (hB : B.natAbs ≤ 1000000000) (hC : C.natAbs ≤ 1000000000) (hD : D.natAbs ≤ 1000000000) (hB0 : B ≠ 0) (hD0 : D ≠ 0) (hr : sp_rm g σ) : J g (d + 5) 33 0 [some (aR 4 q), some (aI (sp_i A)), some (aI (sp_i B)), some (aI (sp_i C)), some (aI (sp_i D))] [] σ (sp_set σ q (A * C) (B * D)) := by
  have h1 := sp_mulb hA hC
  have h2 := sp_mulb hB hD
  refine jm_run ok_F_times [] 90 (fun kk hk => ?_)
  conv => whnf
  rw [sp_il (by omega), sp_il (by omega), sp_il (by omega), sp_il (by omega), sp_lmul, sp_lmul]
  refine hk _ _ _ _ (k_F_times_12 rfl (c_set (by omega) (by omega) (Int.mul_ne_zero hB0 hD0) hr) (fun u hu => ?_))
  refine sp_set_el hu (fun h e => ?_) (fun r h e => ?_)
  · subst e
    show sp_set _ _ _ _ _
    unfold sp_set; rw [h]; exact rfl
  · subst e
    refine r_F_times_15 ?_
    unfold sp_set; rw [h]
theorem c_fplus {A B C D : Int} {q : Nat} (hA : A.natAbs ≤ 1000000000) (hB : B.natAbs ≤ 1000000000) (hC : C.natAbs ≤ 1000000000) (hD : D.natAbs ≤ 1000000000) (hB0 : B ≠ 0) (hD0 : D ≠ 0) (hr : sp_rm g σ) : J g (d + 5) 25 0 [some (aR 4 q), some (aI (sp_i A)), some (aI (sp_i B)), some (aI (sp_i C)), some (aI (sp_i D))] [] σ (sp_set σ q (A * D + C * B) (B * D)) := by
  have h1 := sp_mulb hA hD
  have h3 := sp_mulb hC hB
  have h2 := sp_mulb hB hD
  refine jm_run ok_F_plus [] 90 (fun kk hk => ?_)
  conv => whnf
  rw [sp_il (by omega), sp_il (by omega), sp_il (by omega), sp_il (by omega), sp_lmul, sp_lmul, sp_lmul, sp_ladd]
  refine hk _ _ _ _ (k_F_plus_19 rfl (c_set (by omega) (by omega) (Int.mul_ne_zero hB0 hD0) hr) (fun u hu => ?_))
  refine sp_set_el hu (fun h e => ?_) (fun r h e => ?_)
  · subst e
    show sp_set _ _ _ _ _
    unfold sp_set; rw [h]; exact rfl
  · subst e
    refine r_F_plus_22 ?_
    unfold sp_set; rw [h]
/-- the memory behind an insertion -/
def insF (σ : jm_S) (a k n : Nat) (x y z : Int32) : jm_S := jm_wi (jm_wi (jm_wi (jm_wi (shU σ.1 a k n, σ.2) (a + 1) k x) (a + 2) k y) (a + 3) k z) a 0 (nI (n + 1))
theorem c_insert {a n k0 : Nat} {x y z : Int32} (hp : pl g σ a) (hn : n ≤ 100) (hk0 : k0 ≤ n) (hs : σ.1 a 0 = nI n) (hr : sp_rm g σ) : J g (d + 4) 24 0 [some (aR 5 a), some (aI (nI k0)), some (aI x), some (aI y), some (aI z), none] [] σ (fun u => (n = 100 ∧ u = jT σ σ.1 (-7)) ∨ (n < 100 ∧ u = (insF σ a k0 n x y z, .inl none))) := by
  obtain ⟨p1, p2, p3, l1, l2, l3⟩ := hp
  have loop : n < 100 → ∀ m i, k0 + m = i → i ≤ n → ∀ τ, τ = (shU σ.1 a i n, σ.2) → J g (d + 4) 24 25 [some (aR 5 a), some (aI (nI k0)), some (aI x), some (aI y), some (aI z), some (aI (nI i))] [] τ (jV (insF σ a k0 n x y z)) := by
    intro hn1 m
    induction m with
    | zero =>
      intro i hi hki τ hτ
      have e0 : τ.1 a 0 = nI n := by rw [hτ]; dsimp only [shU]; rw [if_neg (by omega), hs]
      have e2 : τ.2 = σ.2 := by rw [hτ]
      rw [← e2] at p1 p2 p3
      refine jm_run ok_P_insert [25] 90 (fun kk hk => ?_)
      conv => whnf
      refine b_le rfl rfl (fun _ => ?_) (fun h => by omega)
      conv => whnf
      refine jg p1 ?_
      conv => whnf
      refine jw rfl l1 ?_
      conv => whnf
      refine jg p2 ?_
      conv => whnf
      refine jw rfl l2 ?_
      conv => whnf
      refine jg p3 ?_
      conv => whnf
      refine jw rfl l3 ?_
      conv => whnf
      refine hk _ _ _ _ (r_P_insert_117 ?_)
      show (_, _) = (_, _)
      unfold insF
      rw [jm_wi_q (by omega), jm_wi_q (by omega), jm_wi_q (by omega), e0, nI_1, hτ, show i = k0 by omega]
    | succ m ih =>
      intro i hi hki τ hτ
      have e2 : τ.2 = σ.2 := by rw [hτ]
      obtain ⟨i, rfl⟩ : ∃ i', i = i' + 1 := ⟨i - 1, by omega⟩
      have e1 : ∀ q, τ.1 q i = σ.1 q i := by intro q; rw [hτ]; dsimp only [shU]; rw [if_neg (by omega)]
      rw [← e2] at p1 p2 p3
      refine jm_run ok_P_insert [25] 90 (fun kk hk => ?_)
      conv => whnf
      refine b_le rfl rfl (fun h => by omega) (fun _ => ?_)
      conv => whnf
      refine jg p1 ?_
      conv => whnf
      refine jg p1 ?_
      conv => whnf
      refine ja (nI_pred i) l1 (e1 _) ?_
      conv => whnf
      refine jw rfl l1 ?_
      conv => whnf
      refine jg p2 ?_
      conv => whnf
      refine jg p2 ?_
      conv => whnf
      refine ja (nI_pred i) l2 ((congrFun (jm_wi_q (by omega)) _).trans (e1 _)) ?_
      conv => whnf
      refine jw rfl l2 ?_
      conv => whnf
      refine jg p3 ?_
      conv => whnf
      refine jg p3 ?_
      conv => whnf
      refine ja (nI_pred i) l3 ((congrFun (jm_wi_q (by omega)) _).trans ((congrFun (jm_wi_q (by omega)) _).trans (e1 _))) ?_
      conv => whnf
      refine jw rfl l3 ?_
      conv => whnf
      rw [pk_m1, hτ, shU_s (by omega)]
      exact hk _ _ _ _ (ih i (by omega) (by omega) _ rfl)
  refine jm_run ok_P_insert [25] 90 (fun kk hk => ?_)
  conv => whnf
  refine b_ne (b := 100) hs rfl (fun h => ?_) (fun h => ?_)
  · conv => whnf
    rw [hs]
    have := loop (by omega) (n - k0) n (by omega) (by omega) σ (by rw [shU_0])
    exact hk _ _ _ _ (J_mono this (fun u hu => Or.inr ⟨by omega, hu⟩))
  · conv => whnf
    exact hk _ _ _ _ (k_P_insert_9 (by omega) rfl hr.1 hr.2 (r_P_insert_18 (Or.inl ⟨h, rfl⟩)))
end
theorem insF_1 (σ : jm_S) (a k n : Nat) (x y z : Int32) (i : Nat) : (insF σ a k n x y z).1 (a + 1) i = if i = k then x else shU σ.1 a k n (a + 1) i := by
  unfold insF
  rw [jm_wi_q (show a + 1 ≠ a by omega), jm_wi_q (show a + 1 ≠ a + 3 by omega), jm_wi_q (show a + 1 ≠ a + 2 by omega), jm_wi_1]
  simp only [true_and, eq_self]
theorem insF_2 (σ : jm_S) (a k n : Nat) (x y z : Int32) (i : Nat) : (insF σ a k n x y z).1 (a + 2) i = if i = k then y else shU σ.1 a k n (a + 2) i := by
  unfold insF
  rw [jm_wi_q (show a + 2 ≠ a by omega), jm_wi_q (show a + 2 ≠ a + 3 by omega), jm_wi_1, jm_wi_q (show a + 2 ≠ a + 1 by omega)]
  simp only [true_and, eq_self]
theorem insF_3 (σ : jm_S) (a k n : Nat) (x y z : Int32) (i : Nat) : (insF σ a k n x y z).1 (a + 3) i = if i = k then z else shU σ.1 a k n (a + 3) i := by
  unfold insF
  rw [jm_wi_q (show a + 3 ≠ a by omega), jm_wi_1, jm_wi_q (show a + 3 ≠ a + 2 by omega), jm_wi_q (show a + 3 ≠ a + 1 by omega)]
  simp only [true_and, eq_self]
theorem insF_q {σ : jm_S} {a k n : Nat} {x y z : Int32} {q : Nat} (h : ¬ (a ≤ q ∧ q ≤ a + 3)) : (insF σ a k n x y z).1 q = σ.1 q := by
  unfold insF
  rw [jm_wi_q (by omega), jm_wi_q (by omega), jm_wi_q (by omega), jm_wi_q (by omega)]
  funext t
  dsimp only [shU]
  rw [if_neg (by omega)]
theorem shD_q {f : Nat → Nat → Int32} {a k n q : Nat} (h : ¬ (a ≤ q ∧ q ≤ a + 3)) : shD f a k n q = f q := by
  funext t
  unfold shD
  rw [if_neg (by omega)]
theorem PA_ins {σ : jm_S} {a : Nat} {p : sp_P} {k : Nat} {t : sp_T} (h : PA σ.1 a p) (hk : k ≤ p.length) : PA (insF σ a k p.length (sp_i t.1) (sp_i t.2.1) (sp_c t.2.2)).1 a (p.insertIdx k t) := by
  refine ⟨?_, fun i s hs => ?_⟩
  · unfold insF
    rw [jm_wi_at, List.length_insertIdx, if_pos hk]
  · have hx : ∀ q, q = a + 1 ∨ q = a + 2 ∨ q = a + 3 → i ≠ k → shU σ.1 a k p.length q i = σ.1 q (if i < k then i else i - 1) := by
      intro q hq hik
      have hil : i < (p.insertIdx k t).length := (List.getElem?_eq_some_iff.mp hs).1
      rw [List.length_insertIdx, if_pos hk] at hil
      unfold shU
      by_cases h1 : i < k
      · rw [if_neg (by omega), if_pos h1]
      · rw [if_pos ⟨hq, by omega, by omega⟩, if_neg h1]
    rw [insF_1, insF_2, insF_3]
    rw [List.getElem?_insertIdx] at hs
    by_cases hik : i = k
    · subst hik
      rw [if_neg (by omega), if_pos rfl, if_pos hk] at hs
      cases hs
      rw [if_pos rfl, if_pos rfl, if_pos rfl]
      exact ⟨rfl, rfl, rfl⟩
    · rw [if_neg hik, if_neg hik, if_neg hik, hx _ (Or.inl rfl) hik, hx _ (Or.inr (Or.inl rfl)) hik, hx _ (Or.inr (Or.inr rfl)) hik]
      by_cases h1 : i < k
      · rw [if_pos h1] at hs ⊢
        exact h.2 _ _ hs
      · rw [if_neg h1, if_neg hik] at hs
        rw [if_neg h1]
        exact h.2 _ _ hs
theorem PA_rem {σ : jm_S} {a : Nat} {p : sp_P} {k n : Nat} (h : PA σ.1 a p) (hk : k ≤ n) (hn : p.length = n + 1) : PA (shD (jm_wi σ a 0 (nI n)).1 a k n) a (p.eraseIdx k) := by
  refine ⟨?_, fun i s hs => ?_⟩
  · unfold shD
    rw [if_neg (by omega), jm_wi_at, List.length_eraseIdx, if_pos (by omega), hn]
    rfl
  · have hil : i < (p.eraseIdx k).length := (List.getElem?_eq_some_iff.mp hs).1
    rw [List.length_eraseIdx, if_pos (by omega)] at hil
    rw [List.getElem?_eraseIdx] at hs
    have hx : ∀ q, q = a + 1 ∨ q = a + 2 ∨ q = a + 3 → shD (jm_wi σ a 0 (nI n)).1 a k n q i = σ.1 q (if i < k then i else i + 1) := by
      intro q hq
      unfold shD
      rw [jm_wi_q (by omega)]
      by_cases h1 : i < k
      · rw [if_neg (by omega), if_pos h1]
      · rw [if_pos ⟨hq, by omega, by omega⟩, if_neg h1]
    rw [hx _ (Or.inl rfl), hx _ (Or.inr (Or.inl rfl)), hx _ (Or.inr (Or.inr rfl))]
    by_cases h1 : i < k
    · rw [if_pos h1] at hs ⊢
      exact h.2 _ _ hs
    · rw [if_neg h1] at hs ⊢
      exact h.2 _ _ hs
