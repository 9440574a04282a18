/-! SPEC: fractions; the component's gcd, set, times, plus -/
def sp_i (x : Int) : Int32 := Int32.ofInt x
def sp_l (x : Int) : Int64 := Int64.ofInt x
theorem sp_lN (n : Nat) : lN n = sp_l n := by
  unfold lN sp_l
  exact (Int64.ofInt_eq_ofNat).symm
theorem sp_lI {x : Int} (h : x.natAbs < 9223372036854775808) : (sp_l x).toInt = x := Int64.toInt_ofInt_of_le (by omega) (by omega)
theorem sp_iI {x : Int} (h : x.natAbs < 2147483648) : (sp_i x).toInt = x := Int32.toInt_ofInt_of_le (by omega) (by omega)
theorem sp_il {x : Int} (h : x.natAbs < 2147483648) : (sp_i x).toInt64 = sp_l x := by
  apply Int64.toInt_inj.mp
  rw [Int32.toInt_toInt64, sp_iI h, sp_lI (by omega)]
theorem sp_li (x : Int) : (sp_l x).toInt32 = sp_i x := Int64.toInt32_ofInt
theorem sp_lmul (a b : Int) : sp_l a * sp_l b = sp_l (a * b) := (Int64.ofInt_mul a b).symm
theorem sp_ladd (a b : Int) : sp_l a + sp_l b = sp_l (a + b) := (Int64.ofInt_add a b).symm
theorem sp_lneg (a : Int) : -sp_l a = sp_l (-a) := (Int64.ofInt_neg a).symm
theorem sp_ldiv {a b : Int} (ha : a.natAbs < 9223372036854775808) (hb : b.natAbs < 9223372036854775808) : sp_l a / sp_l b = sp_l (a.tdiv b) :=
  (Int64.ofInt_tdiv (by show -9223372036854775808 ≤ a; omega) (by show a ≤ 9223372036854775807; omega) (by show -9223372036854775808 ≤ b; omega) (by show b ≤ 9223372036854775807; omega)).symm
theorem sp_llt {a b : Int} (ha : a.natAbs < 9223372036854775808) (hb : b.natAbs < 9223372036854775808) : sp_l a < sp_l b ↔ a < b := by
  rw [Int64.lt_iff_toInt_lt, sp_lI ha, sp_lI hb]
theorem sp_lle {a b : Int} (ha : a.natAbs < 9223372036854775808) (hb : b.natAbs < 9223372036854775808) : sp_l a ≤ sp_l b ↔ a ≤ b := by
  rw [Int64.le_iff_toInt_le, sp_lI ha, sp_lI hb]
theorem sp_l0 : (0 : Int64) = sp_l 0 := by decide
theorem sp_labs {a : Int} (ha : a.natAbs < 9223372036854775808) : (if (0 : Int64) < sp_l a then sp_l a else -sp_l a) = lN a.natAbs := by
  have e : (0 : Int64) < sp_l a ↔ 0 < a := by rw [sp_l0]; exact sp_llt (by decide) ha
  rw [sp_lN]
  by_cases h : 0 < a
  · rw [if_pos (e.mpr h)]; congr 1; omega
  · rw [if_neg (fun q => h (e.mp q)), sp_lneg]; congr 1; omega
/-- in lowest terms, the denominator above 0; none when it does not fit -/
def sp_fr (a b : Int) : Option (Int × Int) :=
  if (a.tdiv (Int.gcd a b)).natAbs ≤ 1000000000 ∧ (b.tdiv (Int.gcd a b)).natAbs ≤ 1000000000 then some ((if b < 0 then -(a.tdiv (Int.gcd a b)) else a.tdiv (Int.gcd a b)), ((b.tdiv (Int.gcd a b)).natAbs : Int)) else none
/-- there is room for one Stop more -/
def sp_rm (g : jm_G) (σ : jm_S) : Prop := gdm g (jm_hs σ) = 7 ∧ jm_hs σ + 1 ≤ gb g + 601024 ∧ jm_ns σ + 7 ≤ 7293000
/-- a Stop was thrown, when the numbers were f; nothing else has changed -/
def jT (σ : jm_S) (f : Nat → Nat → Int32) (a : Int32) : jm_O := (jm_wi (jm_nw (f, σ.2) 7) (jm_hs σ) 0 a, .inr (jm_hs σ))
section
variable {g : jm_G} {d : Nat} {σ : jm_S}
theorem c_gcd {A B : Int} (hA : A.natAbs < 9223372036854775808) (hB : B.natAbs < 9223372036854775808) : J g d 21 0 [some (aL (sp_l A)), none, some (aL (sp_l B)), none, none, none, none, none, none, none] [] σ (jR σ (aL (sp_l (Int.gcd A B : Nat)))) := by
  have loop : ∀ n Y X : Nat, Y ≤ n → X < 9223372036854775808 → Y < 9223372036854775808 → Nat.gcd X Y = Int.gcd A B → ∀ z1 z2 : Option jm_V, J g d 21 12 [some (aL (sp_l A)), none, some (aL (sp_l B)), none, some (aL (lN X)), none, some (aL (lN Y)), none, z1, z2] [] σ (jR σ (aL (sp_l (Int.gcd A B : Nat)))) := by
    intro n
    induction n with
    | zero =>
      intro Y X hY hX hY2 hg z1 z2
      have h0 : Y = 0 := by omega
      subst h0
      refine jm_run ok_H_gcd [12] 50 (fun k hk => ?_)
      conv => whnf
      refine ⟨fun _ => ?_, fun h => absurd ((lg_cmp_eq _ _).mpr rfl) h⟩
      conv => whnf
      refine hk _ _ _ _ (r_H_gcd_39 ?_)
      rw [Nat.gcd_zero_right] at hg
      show (σ, _) = (σ, _)
      rw [sp_lN, hg]
    | succ n ih =>
      intro Y X hY hX hY2 hg z1 z2
      refine jm_run ok_H_gcd [12] 50 (fun k hk => ?_)
      conv => whnf
      refine ⟨fun h => ?_, fun h => ?_⟩
      · conv => whnf
        have h0 : lN Y = lN 0 := (lg_cmp_eq _ _).mp h
        have h1 := (pk_lEQ hY2 (by decide)).mp h0
        subst h1
        refine hk _ _ _ _ (r_H_gcd_39 ?_)
        rw [Nat.gcd_zero_right] at hg
        show (σ, _) = (σ, _)
        rw [sp_lN, hg]
      · have h1 : ¬ Y = 0 := fun q => h ((lg_cmp_eq _ _).mpr (by rw [q]; rfl))
        conv => whnf
        refine ⟨fun q => h1 ((pk_lEQ hY2 (by decide)).mp (q.trans (by rfl : (0 : Int64) = lN 0))), ?_⟩
        conv => whnf
        have h2 := ih (X % Y) Y (by have := Nat.mod_lt X (Nat.pos_of_ne_zero h1); omega) hY2 (by have := Nat.mod_lt X (Nat.pos_of_ne_zero h1); omega) (by rw [Nat.gcd_comm, ← Nat.gcd_rec, Nat.gcd_comm]; exact hg) (some (aL (lN (X % Y)))) none
        rw [← pk_lRem hX (Nat.pos_of_ne_zero h1) hY2] at h2
        exact hk _ _ _ _ h2
  refine jm_run ok_H_gcd [12] 50 (fun k hk => ?_)
  conv => whnf
  refine hk _ _ _ _ ?_
  rw [sp_labs hA, sp_labs hB]
  exact loop _ B.natAbs A.natAbs (Nat.le_refl _) hA hB rfl none none
/-- how set ends -/
def sp_set (σ : jm_S) (q : Nat) (a b : Int) : jm_O → Prop := fun u => match sp_fr a b with
  | some r => u = (jm_wi (jm_wi σ q 0 (sp_i r.1)) q 1 (sp_i r.2), .inl none)
  | none => u = jT σ σ.1 (-7)
theorem c_set {A B : Int} {q : Nat} (hA : A.natAbs < 9223372036854775808) (hB : B.natAbs < 9223372036854775808) (hB0 : B ≠ 0) (hr : sp_rm g σ) : J g (d + 4) 20 0 [some (aR 4 q), some (aL (sp_l A)), none, some (aL (sp_l B)), none, none, none, none, none, none, none] [] σ (sp_set σ q A B) := by
  have hg0 : 0 < Int.gcd A B := Int.gcd_pos_iff.mpr (Or.inr hB0)
  have hgA : (Int.gcd A B : Int) ∣ A := Int.gcd_dvd_left ..
  have hgB : (Int.gcd A B : Int) ∣ B := Int.gcd_dvd_right ..
  have hgle : Int.gcd A B ≤ B.natAbs := Nat.gcd_le_right _ (by omega)
  have hx1 : (A.tdiv (Int.gcd A B)).natAbs ≤ A.natAbs := by rw [Int.natAbs_tdiv]; exact Nat.div_le_self _ _
  have hy1 : (B.tdiv (Int.gcd A B)).natAbs ≤ B.natAbs := by rw [Int.natAbs_tdiv]; exact Nat.div_le_self _ _
  have hgn : ((Int.gcd A B : Nat) : Int).natAbs < 9223372036854775808 := by omega
  have tail : ∀ x : Int, x.natAbs = (A.tdiv (Int.gcd A B)).natAbs → x = (if B < 0 then -(A.tdiv (Int.gcd A B)) else A.tdiv (Int.gcd A B)) → J g (d + 4) 20 25 [some (aR 4 q), some (aL (sp_l A)), none, some (aL (sp_l B)), none, some (aL (sp_l (Int.gcd A B : Nat))), none, none, none, none, none] [aL (sp_l x)] σ (sp_set σ q A B) := by
    intro x hxn hxe
    refine jm_run ok_F_set [] 50 (fun k hk => ?_)
    conv => whnf
    refine ⟨fun q => absurd (Int64.toInt_inj.mpr q) (by rw [sp_lI hgn]; show ((Int.gcd A B : Nat) : Int) ≠ 0; omega), ?_⟩
    conv => whnf
    have key : ∀ (b : Bool), b = decide ((A.tdiv (Int.gcd A B)).natAbs ≤ 1000000000 ∧ (B.tdiv (Int.gcd A B)).natAbs ≤ 1000000000) → sp_set σ q A B = (fun u => cond b (u = (jm_wi (jm_wi σ q 0 (sp_i x)) q 1 (sp_i ((B.tdiv (Int.gcd A B)).natAbs : Nat)), .inl none)) (u = jT σ σ.1 (-7))) := by
      intro b hb
      funext u
      unfold sp_set sp_fr
      by_cases hc : (A.tdiv (Int.gcd A B)).natAbs ≤ 1000000000 ∧ (B.tdiv (Int.gcd A B)).natAbs ≤ 1000000000
      · rw [hb, decide_eq_true hc, if_pos hc, hxe]; rfl
      · rw [hb, decide_eq_false hc, if_neg hc]; rfl
    have thr : ¬ ((A.tdiv (Int.gcd A B)).natAbs ≤ 1000000000 ∧ (B.tdiv (Int.gcd A B)).natAbs ≤ 1000000000) → ∀ L, J g (d + 4) 20 57 L [] σ (sp_set σ q A B) := by
      intro hn L
      rw [key false (decide_eq_false hn).symm]
      exact k_F_set_57 (by omega) rfl hr.1 hr.2 (r_F_set_66 rfl)
    have e1 : sp_l B / sp_l (Int.gcd A B : Nat) = sp_l (B.tdiv (Int.gcd A B)) := sp_ldiv hB hgn
    refine ⟨fun h => ?_, fun h => ?_⟩
    · conv => whnf
      have h2 := (lg_cmp_gt _ _).mp h
      rw [sp_labs (by omega), sp_lN, show (1000000000 : Int64) = sp_l 1000000000 from by decide, sp_llt (by decide) (by omega)] at h2
      exact hk _ _ _ _ (thr (by omega) _)
    · conv => whnf
      have h2 : ¬ _ := fun q => h ((lg_cmp_gt _ _).mpr q)
      rw [sp_labs (by omega), sp_lN, show (1000000000 : Int64) = sp_l 1000000000 from by decide, sp_llt (by decide) (by omega)] at h2
      refine ⟨fun h3 => ?_, fun h3 => ?_⟩
      · conv => whnf
        have h4 := (lg_cmp_le _ _).mp h3
        rw [e1, sp_labs (by omega), sp_lN, show (1000000000 : Int64) = sp_l 1000000000 from by decide, sp_lle (by omega) (by decide)] at h4
        refine hk _ _ _ _ (r_F_set_81 ?_)
        rw [key true (decide_eq_true (by omega)).symm]
        show (_, _) = (_, _)
        rw [e1, sp_labs (by omega), sp_lN, sp_li, sp_li]
      · conv => whnf
        have h4 : ¬ _ := fun q => h3 ((lg_cmp_le _ _).mpr q)
        rw [e1, sp_labs (by omega), sp_lN, show (1000000000 : Int64) = sp_l 1000000000 from by decide, sp_lle (by omega) (by decide)] at h4
        exact hk _ _ _ _ (thr (by omega) _)
  refine jm_run ok_F_set [] 50 (fun k hk => ?_)
  conv => whnf
  refine hk _ _ _ _ (k_F_set_2 rfl (c_gcd hA hB) (fun u hu => ?_))
  subst hu
  refine jm_run ok_F_set [25] 50 (fun k hk => ?_)
  conv => whnf
  have hnz : ¬ sp_l (Int.gcd A B : Nat) = 0 := fun q => absurd (Int64.toInt_inj.mpr q) (by rw [sp_lI hgn]; show ((Int.gcd A B : Nat) : Int) ≠ 0; omega)
  refine ⟨fun h => ?_, fun h => ?_⟩
  · have h2 := (lg_cmp_ge _ _).mp h
    rw [sp_l0, sp_lle (by decide) hB] at h2
    conv => whnf
    refine ⟨hnz, ?_⟩
    conv => whnf
    have h3 := tail (A.tdiv (Int.gcd A B)) rfl (by rw [if_neg (by omega)])
    rw [← sp_ldiv hA hgn] at h3
    exact hk _ _ _ _ h3
  · have h2 : ¬ _ := fun q => h ((lg_cmp_ge _ _).mpr q)
    rw [sp_l0, sp_lle (by decide) hB] at h2
    conv => whnf
    refine ⟨hnz, ?_⟩
    conv => whnf
    have h3 := tail (-(A.tdiv (Int.gcd A B))) (by omega) (by rw [if_pos (by omega)])
    rw [← sp_lneg, ← sp_ldiv hA hgn] at h3
    exact hk _ _ _ _ h3
end
