/-! power, common; Engine join, begin, isPassed -/
theorem nI_or {k p a b : Nat} (hp : 2 ^ k = p) (ha : a < p) (h : b * p + a < 2 ^ 32) : nI (b * p) ||| nI a = nI (b * p + a) := by
  apply Int32.toBitVec_inj.mp
  rw [Int32.toBitVec_or]
  apply BitVec.eq_of_toNat_eq
  rw [BitVec.toNat_or, pk_tn (by omega), pk_tn (by omega), pk_tn h, ← hp, Nat.mul_comm]
  rw [← hp] at ha
  exact (Nat.two_pow_add_eq_or_of_lt ha b).symm
def sp_cm (a b : sp_M) : sp_M := (max a.1 b.1, (max a.2.1 b.2.1, (max a.2.2.1 b.2.2.1, (max a.2.2.2.1 b.2.2.2.1, max a.2.2.2.2 b.2.2.2.2))))
theorem sp_cm_ok {a b : sp_M} (ha : sp_ok a) (hb : sp_ok b) : sp_ok (sp_cm a b) := by
  obtain ⟨a0, a1, a2, a3, a4⟩ := ha
  obtain ⟨b0, b1, b2, b3, b4⟩ := hb
  exact ⟨Nat.max_le.mpr ⟨a0, b0⟩, Nat.max_le.mpr ⟨a1, b1⟩, Nat.max_le.mpr ⟨a2, b2⟩, Nat.max_le.mpr ⟨a3, b3⟩, Nat.max_le.mpr ⟨a4, b4⟩⟩
theorem sp_cm_ex (a b : sp_M) (v : Nat) : sp_ex (sp_cm a b) v = max (sp_ex a v) (sp_ex b v) := by
  unfold sp_ex
  split <;> rfl
theorem sp_cm_dv (a b : sp_M) : sp_dv a (sp_cm a b) = true ∧ sp_dv b (sp_cm a b) = true :=
  ⟨sp_dv_iff.mpr ⟨Nat.le_max_left .., Nat.le_max_left .., Nat.le_max_left .., Nat.le_max_left .., Nat.le_max_left ..⟩, sp_dv_iff.mpr ⟨Nat.le_max_right .., Nat.le_max_right .., Nat.le_max_right .., Nat.le_max_right .., Nat.le_max_right ..⟩⟩
def sp_pt (m : sp_M) : Nat → Nat
  | 0 => 0
  | v + 1 => sp_pt m v + sp_ex m v * 2 ^ (6 * (4 - v))
theorem sp_pt5 (m : sp_M) : sp_pt m 5 = sp_6 m := by
  show 0 + m.1 * 2 ^ 24 + m.2.1 * 2 ^ 18 + m.2.2.1 * 2 ^ 12 + m.2.2.2.1 * 2 ^ 6 + m.2.2.2.2 * 2 ^ 0 = _
  unfold sp_6
  omega
theorem sp_pt_or {m : sp_M} (hm : sp_ok m) {v : Nat} (hv : v < 5) : nI (sp_pt m v) ||| nI (sp_ex m v * 2 ^ (6 * (4 - v))) = nI (sp_pt m (v + 1)) := by
  obtain ⟨h0, h1, h2, h3, h4⟩ := hm
  have : v = 0 ∨ v = 1 ∨ v = 2 ∨ v = 3 ∨ v = 4 := by omega
  rcases this with rfl | rfl | rfl | rfl | rfl
  · have := nI_or (k := 30) (b := 0) (a := m.1 * 2 ^ 24) rfl (by omega) (by omega)
    rw [Nat.zero_mul] at this
    exact this
  · have := nI_or (k := 24) (b := m.1) (a := m.2.1 * 2 ^ 18) rfl (by omega) (by omega)
    rw [show sp_pt m 1 = m.1 * 2 ^ 24 from Nat.zero_add _, show sp_pt m (1 + 1) = m.1 * 2 ^ 24 + m.2.1 * 2 ^ 18 from congrArg (· + _) (Nat.zero_add _)]
    exact this
  · have := nI_or (k := 18) (b := m.1 * 64 + m.2.1) (a := m.2.2.1 * 2 ^ 12) rfl (by omega) (by omega)
    rw [show sp_pt m 2 = (m.1 * 64 + m.2.1) * 2 ^ 18 from by show 0 + m.1 * 2 ^ 24 + m.2.1 * 2 ^ 18 = _; omega, show sp_pt m (2 + 1) = (m.1 * 64 + m.2.1) * 2 ^ 18 + m.2.2.1 * 2 ^ 12 from by show 0 + m.1 * 2 ^ 24 + m.2.1 * 2 ^ 18 + m.2.2.1 * 2 ^ 12 = _; omega]
    exact this
  · have := nI_or (k := 12) (b := (m.1 * 64 + m.2.1) * 64 + m.2.2.1) (a := m.2.2.2.1 * 2 ^ 6) rfl (by omega) (by omega)
    rw [show sp_pt m 3 = ((m.1 * 64 + m.2.1) * 64 + m.2.2.1) * 2 ^ 12 from by show 0 + m.1 * 2 ^ 24 + m.2.1 * 2 ^ 18 + m.2.2.1 * 2 ^ 12 = _; omega, show sp_pt m (3 + 1) = ((m.1 * 64 + m.2.1) * 64 + m.2.2.1) * 2 ^ 12 + m.2.2.2.1 * 2 ^ 6 from by show 0 + m.1 * 2 ^ 24 + m.2.1 * 2 ^ 18 + m.2.2.1 * 2 ^ 12 + m.2.2.2.1 * 2 ^ 6 = _; omega]
    exact this
  · have := nI_or (k := 6) (b := ((m.1 * 64 + m.2.1) * 64 + m.2.2.1) * 64 + m.2.2.2.1) (a := m.2.2.2.2 * 2 ^ 0) rfl (by omega) (by omega)
    rw [show sp_pt m 4 = (((m.1 * 64 + m.2.1) * 64 + m.2.2.1) * 64 + m.2.2.2.1) * 2 ^ 6 from by show 0 + m.1 * 2 ^ 24 + m.2.1 * 2 ^ 18 + m.2.2.1 * 2 ^ 12 + m.2.2.2.1 * 2 ^ 6 = _; omega, show sp_pt m (4 + 1) = (((m.1 * 64 + m.2.1) * 64 + m.2.2.1) * 64 + m.2.2.2.1) * 2 ^ 6 + m.2.2.2.2 * 2 ^ 0 from by show 0 + m.1 * 2 ^ 24 + m.2.1 * 2 ^ 18 + m.2.2.1 * 2 ^ 12 + m.2.2.2.1 * 2 ^ 6 + m.2.2.2.2 * 2 ^ 0 = _; omega]
    exact this
section
variable {g : jm_G} {d : Nat} {σ : jm_S}
theorem c_power {v e : Nat} (hv : v < 5) (he : e < 64) : J g d 18 0 [some (aI (nI v)), some (aI (nI e))] [] σ (jR σ (aI (nI (e * 2 ^ (6 * (4 - v)))))) := by
  refine jm_run ok_H_power [] 90 (fun kk hk => ?_)
  conv => whnf
  refine hk _ _ _ _ (r_H_power_8 ?_)
  have : v = 0 ∨ v = 1 ∨ v = 2 ∨ v = 3 ∨ v = 4 := by omega
  rcases this with rfl | rfl | rfl | rfl | rfl
  · rw [pk_shlN _ 24 (by decide) (by omega)]; exact rfl
  · rw [pk_shlN _ 18 (by decide) (by omega)]; exact rfl
  · rw [pk_shlN _ 12 (by decide) (by omega)]; exact rfl
  · rw [pk_shlN _ 6 (by decide) (by omega)]; exact rfl
  · rw [pk_shlN _ 0 (by decide) (by omega)]; exact rfl
theorem c_common {a b : sp_M} (ha : sp_ok a) (hb : sp_ok b) : J g (d + 1) 52 0 [some (aI (sp_c a)), some (aI (sp_c b)), none, none] [] σ (jR σ (aI (sp_c (sp_cm a b)))) := by
  have hc := sp_cm_ok ha hb
  have loop : ∀ k v, v + k = 5 → J g (d + 1) 52 4 [some (aI (sp_c a)), some (aI (sp_c b)), some (aI (nI (sp_pt (sp_cm a b) v))), some (aI (nI v))] [] σ (jR σ (aI (sp_c (sp_cm a b)))) := by
    intro k
    induction k with
    | zero =>
      intro v hv
      have : v = 5 := by omega
      subst this
      refine jm_run ok_H_common [4] 90 (fun kk hk => ?_)
      conv => whnf
      refine b_le (a := 5) (b := 5) rfl rfl (fun _ => ?_) (fun h => by omega)
      conv => whnf
      rw [sp_pt5]
      exact hk _ _ _ _ (r_H_common_36 rfl)
    | succ k ih =>
      intro v hv
      have x1 := sp_ok_ex ha v
      have x2 := sp_ok_ex hb v
      have x3 := sp_cm_ex a b v
      refine jm_run ok_H_common [4] 90 (fun kk hk => ?_)
      conv => whnf
      refine b_le (a := 5) rfl rfl (fun h => by omega) (fun _ => ?_)
      conv => whnf
      refine hk _ _ _ _ (k_H_common_13 rfl (c_exponent ha (by omega)) (fun u hu => ?_))
      subst hu
      refine jm_run ok_H_common [4] 90 (fun kk hk => ?_)
      conv => whnf
      refine hk _ _ _ _ (k_H_common_18 rfl (c_exponent hb (by omega)) (fun u hu => ?_))
      subst hu
      refine jm_run ok_H_common [4] 90 (fun kk hk => ?_)
      conv => whnf
      have hmx : (if nI (sp_ex a v) < nI (sp_ex b v) then nI (sp_ex b v) else nI (sp_ex a v)) = nI (sp_ex (sp_cm a b) v) := by
        rw [x3]
        by_cases h : sp_ex a v < sp_ex b v
        · rw [if_pos (nI_lt h (by omega)), Nat.max_eq_right (by omega)]
        · rw [if_neg (nI_nlt (by omega) (by omega)), Nat.max_eq_left (by omega)]
      rw [hmx]
      refine hk _ _ _ _ (k_H_common_24 rfl (c_power (by omega) (by omega)) (fun u hu => ?_))
      subst hu
      refine jm_run ok_H_common [4] 90 (fun kk hk => ?_)
      conv => whnf
      rw [nI_1, sp_pt_or hc (by omega)]
      exact hk _ _ _ _ (ih (v + 1) (by omega))
  refine jm_run ok_H_common [4] 90 (fun kk hk => ?_)
  conv => whnf
  exact hk _ _ _ _ (loop 5 0 rfl)
end
section
variable {g : jm_G} {d : Nat} {σ : jm_S} {e n j : Nat} {s : Nat → Nat}
/-- how join ends -/
def jJ (σ : jm_S) (e c : Nat) : jm_O → Prop := fun u => ∃ f : Nat → Nat → Int32, (∀ q, q ≠ e → q ≠ e + 3 → f q = σ.1 q) ∧ (∀ k, k ≠ 10 → k ≠ 15 → f e k = σ.1 e k) ∧ f e 10 = nI (c + 1) ∧ f e 15 = nI (c + 1) ∧ (∀ i k, k < 24 → f (e + 3) (24 * i + k) = if k = c ∧ i < c then 1 else σ.1 (e + 3) (24 * i + k)) ∧ u = ((f, σ.2), .inl none)
theorem c_join {c : Nat} (hE : EL g σ e n) (h10 : σ.1 e 10 = nI c) (hc : c < 24) : J g d 48 0 [some (aR 2 e), none] [] σ (jJ σ e c) := by
  obtain ⟨⟨x0, x1, x2, x3, x4, x5, x16⟩, ⟨y2, y3, y4, y113⟩, qp, rp, wp, ep⟩ := id hE
  have loop : ∀ k i f, i + k = c → (∀ q, q ≠ e + 3 → f q = σ.1 q) → (∀ i' k, k < 24 → f (e + 3) (24 * i' + k) = if k = c ∧ i' < i then 1 else σ.1 (e + 3) (24 * i' + k)) → J g d 48 2 [some (aR 2 e), some (aI (nI i))] [] (f, σ.2) (jJ σ e c) := by
    intro k
    induction k with
    | zero =>
      intro i f hi hf hw
      have e10 : f e 10 = nI c := by rw [hf e (by omega)]; exact h10
      refine jm_run ok_G_join [2] 90 (fun kk hk => ?_)
      conv => whnf
      refine b_le e10 rfl (fun _ => ?_) (fun h => by omega)
      conv => whnf
      refine hk _ _ _ _ (r_G_join_49 ?_)
      dsimp only
      rw [jm_wi_at, e10, nI_1]
      refine ⟨(jm_wi (jm_wi (f, σ.2) e 10 (nI (c + 1))) e 15 (nI (c + 1))).1, fun q h1 h2 => ?_, fun k h1 h2 => ?_, ?_, jm_wi_at, fun i' k hk => ?_, rfl⟩
      · rw [jm_wi_q h1, jm_wi_q h1]; exact hf q h2
      · rw [jm_wi_k h2, jm_wi_k h1]; exact congrFun (hf e (by omega)) k
      · rw [jm_wi_k (by decide), jm_wi_at]
      · rw [jm_wi_q (by omega), jm_wi_q (by omega)]
        have := hw i' k hk
        rw [show i = c by omega] at this
        exact this
    | succ k ih =>
      intro i f hi hf hw
      have e10 : f e 10 = nI c := by rw [hf e (by omega)]; exact h10
      refine jm_run ok_G_join [2] 90 (fun kk hk => ?_)
      conv => whnf
      refine b_le e10 rfl (fun h => by omega) (fun _ => ?_)
      conv => whnf
      refine jg x2 ?_
      conv => whnf
      refine ⟨Or.inr rfl, ?_⟩
      refine jw (i := 24 * i + c) (by dsimp only; rw [e10, show (24 : Int32) = nI 24 from rfl, pk_mul, nI_add]) y3 ?_
      conv => whnf
      rw [nI_1]
      refine hk _ _ _ _ (ih (i + 1) (jm_wi (f, σ.2) (e + 3) (24 * i + c) 1).1 (by omega) (fun q hq => ?_) (fun i' k hk => ?_))
      · rw [jm_wi_q hq]; exact hf q hq
      · rw [jm_wi_1]
        by_cases h : 24 * i' + k = 24 * i + c
        · rw [if_pos ⟨rfl, h⟩, if_pos (by omega)]
        · rw [if_neg (fun q => h q.2)]
          have h9 := hw i' k hk
          by_cases h7 : k = c ∧ i' < i
          · rw [if_pos h7] at h9; rw [if_pos (by omega)]; exact h9
          · rw [if_neg h7] at h9; rw [if_neg (by omega)]; exact h9
  refine jm_run ok_G_join [2] 90 (fun kk hk => ?_)
  conv => whnf
  refine hk _ _ _ _ (loop c 0 σ.1 (Nat.zero_add _) (fun _ _ => rfl) (fun i' k _ => ?_))
  rw [if_neg (by omega)]
/-- how begin ends: a new order, the counters at 0 -/
def jB (g : jm_G) (σ : jm_S) (e j lim : Nat) : jm_O → Prop := fun u => ∃ f : Nat → Nat → Int32, (∀ q, q ≠ e → f q = σ.1 q) ∧ f e 7 = σ.1 e 7 ∧ f e 9 = 0 ∧ f e 10 = 0 ∧ f e 11 = 0 ∧ f e 12 = nI lim ∧ f e 13 = 0 ∧ f e 14 = 0 ∧ f e 15 = 0 ∧ u = ((f, (jm_wr σ e 8 (goa g j + 1)).2), .inl none)
theorem c_begin {lim : Nat} : J g d 44 0 [some (aR 2 e), some (aR 13 (goa g j)), some (aI (nI lim))] [] σ (jB g σ e j lim) := by
  refine jm_run ok_G_begin [] 90 (fun kk hk => ?_)
  conv => whnf
  refine hk _ _ _ _ (r_G_begin_40 ?_)
  refine ⟨_, fun q hq => ?_, ?_, ?_, ?_, ?_, ?_, ?_, ?_, ?_, rfl⟩
  · show (jm_wi _ e 15 0).1 q = _
    rw [jm_wi_q hq, jm_wi_q hq, jm_wi_q hq, jm_wi_q hq, jm_wi_q hq, jm_wi_q hq, jm_wi_q hq]
    rfl
  · show (jm_wi _ e 15 0).1 e 7 = _
    rw [jm_wi_k (by decide), jm_wi_k (by decide), jm_wi_k (by decide), jm_wi_k (by decide), jm_wi_k (by decide), jm_wi_k (by decide), jm_wi_k (by decide)]
    rfl
  · show (jm_wi _ e 15 0).1 e 9 = _
    rw [jm_wi_k (by decide), jm_wi_k (by decide), jm_wi_k (by decide), jm_wi_k (by decide), jm_wi_k (by decide), jm_wi_at]
  · show (jm_wi _ e 15 0).1 e 10 = _
    rw [jm_wi_k (by decide), jm_wi_k (by decide), jm_wi_k (by decide), jm_wi_k (by decide), jm_wi_at]
  · show (jm_wi _ e 15 0).1 e 11 = _
    rw [jm_wi_k (by decide), jm_wi_k (by decide), jm_wi_k (by decide), jm_wi_at]
  · show (jm_wi _ e 15 0).1 e 12 = _
    rw [jm_wi_k (by decide), jm_wi_k (by decide), jm_wi_k (by decide), jm_wi_k (by decide), jm_wi_k (by decide), jm_wi_k (by decide), jm_wi_at]
  · show (jm_wi _ e 15 0).1 e 13 = _
    rw [jm_wi_k (by decide), jm_wi_k (by decide), jm_wi_at]
  · show (jm_wi _ e 15 0).1 e 14 = _
    rw [jm_wi_k (by decide), jm_wi_at]
  · show (jm_wi _ e 15 0).1 e 15 = _
    rw [jm_wi_at]
end
