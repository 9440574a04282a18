/-! the Engine: layout, lead, step, waiting -/
/-- where the element s of an engine at e lies, with n shares -/
def eo (e n s : Nat) : Nat := e + 114 + (6 + 4 * n) * s
theorem eo_sep {e n s t : Nat} (h : s < t) : eo e n s + 6 + 4 * n ≤ eo e n t := by
  unfold eo
  have := Nat.mul_le_mul_left (6 + 4 * n) (Nat.succ_le_of_lt h)
  rw [Nat.mul_succ] at this
  omega
theorem eo_ge (e n s : Nat) : e + 114 ≤ eo e n s := by unfold eo; omega
theorem eo_ne {e n s t : Nat} (h : s ≠ t) : eo e n s + 6 + 4 * n ≤ eo e n t ∨ eo e n t + 6 + 4 * n ≤ eo e n s := by
  rcases Nat.lt_or_gt_of_ne h with h | h
  · exact Or.inl (eo_sep h)
  · exact Or.inr (eo_sep h)
/-- what of the engine's references never changes -/
def EL (g : jm_G) (σ : jm_S) (e n : Nat) : Prop :=
  (σ.2.1 e 0 = e + 1 + 1 ∧ σ.2.1 e 1 = e + 2 + 1 ∧ σ.2.1 e 2 = e + 3 + 1 ∧ σ.2.1 e 3 = e + 4 + 1 ∧ σ.2.1 e 4 = e + 101 + 1 ∧ σ.2.1 e 5 = e + 105 + 1 ∧ σ.2.1 e 16 = e + 113 + 1) ∧
  (gln g (e + 2) = 25 ∧ gln g (e + 3) = 576 ∧ gln g (e + 4) = 24 ∧ gln g (e + 113) = 24) ∧
  (∀ k, k < 24 → σ.2.1 (e + 4) k = e + 5 + 4 * k + 1 ∧ pl g σ (e + 5 + 4 * k)) ∧ pl g σ (e + 101) ∧ pl g σ (e + 105) ∧
  ∀ s, s < 25 → σ.2.1 (eo e n s) 0 = eo e n s + 1 + 1 ∧ σ.2.1 (eo e n s) 1 = eo e n s + 5 + 1 ∧ pl g σ (eo e n s + 1) ∧ gln g (eo e n s + 5) = n ∧ ∀ k, k < n → σ.2.1 (eo e n s + 5) k = eo e n s + 6 + 4 * k + 1 ∧ pl g σ (eo e n s + 6 + 4 * k)
/-- its order, and the elements in their order -/
def EP (g : jm_G) (σ : jm_S) (e n j : Nat) (s : Nat → Nat) : Prop :=
  j < 3 ∧ σ.2.1 e 8 = goa g j + 1 ∧ (∀ i, i < 25 → s i < 25 ∧ σ.2.1 (e + 2) i = eo e n (s i) + 1) ∧ ∀ i k, i < 25 → k < 25 → s i = s k → i = k
def sp_ld (p : sp_P) : sp_M := match p with
  | [] => (0, (0, (0, (0, 0))))
  | t :: _ => t.2.2
theorem sp_ld_ok {p : sp_P} (h : sp_pw p) : sp_ok (sp_ld p) := by
  cases p with
  | nil => exact ⟨by decide, by decide, by decide, by decide, by decide⟩
  | cons t r => exact (h.2 t (List.mem_cons_self ..)).2.2.2.2
theorem PA_ld {f : Nat → Nat → Int32} {a : Nat} {p : sp_P} (h : PA f a p) (h0 : p ≠ []) : f (a + 3) 0 = sp_c (sp_ld p) := by
  cases p with
  | nil => exact absurd rfl h0
  | cons t r => exact (h.2 0 t rfl).2.2
section
variable {g : jm_G} {d : Nat} {σ : jm_S} {e n j : Nat} {s : Nat → Nat}
theorem c_lead {i : Nat} {p : sp_P} (hE : EL g σ e n) (hS : EP g σ e n j s) (hi : i < 25) (hP : PA σ.1 (eo e n (s i) + 1) p) (h0 : p ≠ []) : J g d 51 0 [some (aR 2 e), some (aI (nI i))] [] σ (jR σ (aI (sp_c (sp_ld p)))) := by
  have hs := hS.2.2.1 i hi
  have he := hE.2.2.2.2.2 (s i) hs.1
  have hp := he.2.2.1
  have hl := PA_ld hP h0
  refine jm_run ok_G_lead [] 90 (fun kk hk => ?_)
  conv => whnf
  refine jg hE.1.2.1 ?_
  conv => whnf
  refine jr rfl hE.2.1.1 hs.2 ?_
  conv => whnf
  refine jg he.1 ?_
  conv => whnf
  refine jg hp.2.2.1 ?_
  conv => whnf
  refine ja (i := 0) rfl hp.2.2.2.2.2 hl ?_
  conv => whnf
  exact hk _ _ _ _ (r_G_lead_14 rfl)
/-- a step; the steps left are n + 1 or none -/
theorem c_step {a b : Nat} (h1 : σ.1 e 11 = nI a) (h2 : σ.1 e 12 = nI b) (ha : a ≤ b) (hb : b ≤ 20000) (hr : sp_rm g σ) : J g (d + 4) 58 0 [some (aR 2 e)] [] σ (fun u => (a = b ∧ u = jT σ σ.1 (-6)) ∨ (a < b ∧ u = (jm_wi σ e 11 (nI (a + 1)), .inl none))) := by
  refine jm_run ok_G_step [] 90 (fun kk hk => ?_)
  conv => whnf
  refine b_ne h1 h2 (fun h => ?_) (fun h => ?_)
  · conv => whnf
    rw [h1, nI_1]
    exact hk _ _ _ _ (r_G_step_31 (Or.inr ⟨by omega, rfl⟩))
  · conv => whnf
    exact hk _ _ _ _ (k_G_step_11 (by omega) rfl hr.1 hr.2 (r_G_step_20 (Or.inl ⟨h, rfl⟩)))
/-- whether two elements wait, whichever comes first -/
def sp_wt (w : Nat → Nat → Bool) (i j : Nat) : Bool := if i < j then w i j else w j i
theorem c_isWaiting {i k : Nat} {w : Nat → Nat → Bool} (hE : EL g σ e n) (hi : i < 24) (hk24 : k < 24) (hw : i < k → σ.1 (e + 3) (24 * i + k) = sp_bi (w i k)) (hw' : k ≤ i → σ.1 (e + 3) (24 * k + i) = sp_bi (w k i)) : J g d 55 0 [some (aR 2 e), some (aI (nI i)), some (aI (nI k))] [] σ (jR σ (aI (sp_bi (sp_wt w i k)))) := by
  refine jm_run ok_G_isWaiting [] 90 (fun kk hk => ?_)
  conv => whnf
  refine b_le rfl rfl (fun h => ?_) (fun h => ?_)
  · conv => whnf
    refine jg hE.1.2.2.1 ?_
    conv => whnf
    refine ja (i := 24 * k + i) (by rw [show (24 : Int32) = nI 24 from rfl, pk_mul, nI_add]) hE.2.1.2.1 (hw' h) ?_
    conv => whnf
    refine hk _ _ _ _ (r_G_isWaiting_30 (sp_bi_01 _) ?_)
    unfold sp_wt
    rw [if_neg (by omega)]
    exact rfl
  · conv => whnf
    refine jg hE.1.2.2.1 ?_
    conv => whnf
    refine ja (i := 24 * i + k) (by rw [show (24 : Int32) = nI 24 from rfl, pk_mul, nI_add]) hE.2.1.2.1 (hw h) ?_
    conv => whnf
    refine hk _ _ _ _ (r_G_isWaiting_30 (sp_bi_01 _) ?_)
    unfold sp_wt
    rw [if_pos h]
    exact rfl
end
/-- the difference of two monomials -/
def sp_sb (a b : sp_M) : sp_M := (a.1 - b.1, (a.2.1 - b.2.1, (a.2.2.1 - b.2.2.1, (a.2.2.2.1 - b.2.2.2.1, a.2.2.2.2 - b.2.2.2.2))))
theorem sp_dv_iff {a b : sp_M} : sp_dv a b = true ↔ a.1 ≤ b.1 ∧ a.2.1 ≤ b.2.1 ∧ a.2.2.1 ≤ b.2.2.1 ∧ a.2.2.2.1 ≤ b.2.2.2.1 ∧ a.2.2.2.2 ≤ b.2.2.2.2 := by
  constructor
  · intro h
    have h := List.all_eq_true.mp h
    have key : ∀ i, i < 5 → sp_ex a i ≤ sp_ex b i := fun i hi => of_decide_eq_true (h i (List.mem_range.mpr hi))
    exact ⟨key 0 (by decide), key 1 (by decide), key 2 (by decide), key 3 (by decide), key 4 (by decide)⟩
  · intro h
    refine List.all_eq_true.mpr (fun i hi => decide_eq_true ?_)
    have hi := List.mem_range.mp hi
    have : i = 0 ∨ i = 1 ∨ i = 2 ∨ i = 3 ∨ i = 4 := by omega
    rcases this with rfl | rfl | rfl | rfl | rfl
    · exact h.1
    · exact h.2.1
    · exact h.2.2.1
    · exact h.2.2.2.1
    · exact h.2.2.2.2
theorem sp_sb_ok {a : sp_M} (b : sp_M) (h : sp_ok a) : sp_ok (sp_sb a b) := by
  obtain ⟨a0, a1, a2, a3, a4⟩ := h
  exact ⟨by show a.1 - b.1 ≤ 30; omega, by show a.2.1 - b.2.1 ≤ 30; omega, by show a.2.2.1 - b.2.2.1 ≤ 30; omega, by show a.2.2.2.1 - b.2.2.2.1 ≤ 30; omega, by show a.2.2.2.2 - b.2.2.2.2 ≤ 30; omega⟩
theorem sp_sb_c {a b : sp_M} (h : sp_dv b a = true) : sp_c a - sp_c b = sp_c (sp_sb a b) := by
  obtain ⟨h0, h1, h2, h3, h4⟩ := sp_dv_iff.mp h
  unfold sp_c
  rw [pk_sub (by unfold sp_6; omega)]
  exact congrArg nI (by unfold sp_6 sp_sb; dsimp only; omega)
/-- the first of a row, but for one, whose leading monomial divides m -/
def sp_fd (but : Nat) (m : sp_M) : Nat → List sp_P → Nat
  | i, [] => i
  | i, p :: r => if i ≠ but ∧ sp_dv (sp_ld p) m = true then i else sp_fd but m (i + 1) r
theorem sp_fd_le (but : Nat) (m : sp_M) : ∀ i r, sp_fd but m i r ≤ i + r.length
  | i, [] => Nat.le_refl _
  | i, p :: r => by
    have := sp_fd_le but m (i + 1) r
    unfold sp_fd
    rw [List.length_cons]
    split <;> omega
theorem sp_fd_hit (but : Nat) (m : sp_M) : ∀ i r p, i ≤ sp_fd but m i r ∧ (r[sp_fd but m i r - i]? = some p → sp_fd but m i r ≠ but ∧ sp_dv (sp_ld p) m = true)
  | i, [], p => ⟨Nat.le_refl _, fun h => by cases h⟩
  | i, q :: r, p => by
    unfold sp_fd
    split
    · rename_i hc
      refine ⟨Nat.le_refl _, fun h => ?_⟩
      rw [Nat.sub_self] at h
      cases h
      exact hc
    · have ih := sp_fd_hit but m (i + 1) r p
      refine ⟨by omega, fun h => ih.2 ?_⟩
      rw [show sp_fd but m (i + 1) r - i = (sp_fd but m (i + 1) r - (i + 1)) + 1 by omega] at h
      exact h
def sp_hd (p : sp_P) : Int × Int := match p with
  | [] => (1, 1)
  | t :: _ => (t.1, t.2.1)
/-- the quotient of a term by the first of a polynomial -/
def sp_qt (t : sp_T) (p : sp_P) : Option (Int × Int) := sp_fr (t.1 * (if (sp_hd p).1 < 0 then -(sp_hd p).2 else (sp_hd p).2)) (t.2.1 * ((sp_hd p).1.natAbs : Int))
/-- dividing: the steps left, what is left to divide, the quotients, the rest -/
def sp_dl (j : Nat) (G : List sp_P) (but : Nat) : Nat → sp_P → List sp_P → sp_P → Nat × (Int32 ⊕ (List sp_P × sp_P))
  | n, [], qs, rest => (n, .inr (qs, rest))
  | 0, _ :: _, _, _ => (0, .inl (-6))
  | n + 1, t :: w, qs, rest => match G[sp_fd but t.2.2 0 G]? with
    | none => match sp_come j rest t.1 t.2.1 t.2.2 with
      | none => (n, .inl (-7))
      | some rest' => sp_dl j G but n w qs rest'
    | some gp => match sp_qt t gp with
      | none => (n, .inl (-7))
      | some r => match sp_plus j (-r.1) r.2 (sp_sb t.2.2 (sp_ld gp)) (t :: w) gp with
        | none => (n, .inl (-7))
        | some w' => match sp_come j (qs.getD (sp_fd but t.2.2 0 G) []) r.1 r.2 (sp_sb t.2.2 (sp_ld gp)) with
          | none => (n, .inl (-7))
          | some q' => sp_dl j G but n w' (qs.set (sp_fd but t.2.2 0 G) q') rest
