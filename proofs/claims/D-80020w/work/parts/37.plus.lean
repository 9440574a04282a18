/-! Poly plus, scale, become, isSame -/
theorem sp_put_w {p : sp_P} {i : Nat} {m : sp_M} {a b : Int} {r : Int × Int} (hw : sp_pw p) (hb : b ≠ 0) (hr : sp_fr a b = some r) (hm : sp_ok m) : sp_pw (sp_put p i m r) := by
  have rb := sp_fr_b hb hr
  unfold sp_put
  split
  · refine ⟨Nat.le_trans (List.length_eraseIdx_le ..) hw.1, fun t ht => hw.2 t (List.mem_of_mem_eraseIdx ht)⟩
  · rename_i h0
    refine ⟨by rw [List.length_set]; exact hw.1, fun t ht => ?_⟩
    rcases List.mem_or_eq_of_mem_set ht with h | h
    · exact hw.2 t h
    · subst h
      exact ⟨h0, rb.1, rb.2.1, rb.2.2.1, hm⟩
theorem sp_ins_w {p p' : sp_P} {i : Nat} {t : sp_T} (hi : i ≤ p.length) (hw : sp_pw p) (ht : sp_tw t) (h : sp_ins p i t = some p') : sp_pw p' := by
  unfold sp_ins at h
  split at h
  · cases h
  · cases h
    rename_i hn
    have := hw.1
    refine ⟨?_, fun s hs => ?_⟩
    · rw [List.length_insertIdx, if_pos hi]; omega
    · rcases (List.mem_insertIdx hi).mp hs with h | h
      · subst h; exact ht
      · exact hw.2 s h
theorem sp_come_w {j : Nat} {p p' : sp_P} {a b : Int} {m : sp_M} (hw : sp_pw p) (ht : sp_tw (a, (b, m))) (h : sp_come j p a b m = some p') : sp_pw p' := by
  unfold sp_come at h
  split at h
  · rename_i t h0
    split at h
    · cases hf : sp_fr (t.1 * b + a * t.2.1) (t.2.1 * b) with
      | none => rw [hf] at h; cases h
      | some r =>
        rw [hf] at h
        cases h
        have tw := sp_pw_at hw h0
        exact sp_put_w hw (Int.mul_ne_zero (by have := tw.2.2.1; omega) (by have h9 : 1 ≤ b := ht.2.2.1; omega)) hf ht.2.2.2.2
    · exact sp_ins_w (sp_at_le ..) hw ht h
  · exact sp_ins_w (sp_at_le ..) hw ht h
def sp_mm (a b : sp_M) : sp_M := (a.1 + b.1, (a.2.1 + b.2.1, (a.2.2.1 + b.2.2.1, (a.2.2.2.1 + b.2.2.2.1, a.2.2.2.2 + b.2.2.2.2))))
def sp_fk (a b : sp_M) (n : Nat) : Bool := (List.range n).all (fun i => decide (sp_ex a i + sp_ex b i ≤ 30))
def sp_fit (a b : sp_M) : Bool := sp_fk a b 5
theorem sp_fk_s (a b : sp_M) (n : Nat) : sp_fk a b (n + 1) = (sp_fk a b n && decide (sp_ex a n + sp_ex b n ≤ 30)) := by
  simp [sp_fk, List.range_succ, List.all_append]
theorem sp_fk_le {a b : sp_M} {n m : Nat} (h : n ≤ m) (hm : sp_fk a b m = true) : sp_fk a b n = true := by
  rw [sp_fk, List.all_eq_true] at hm ⊢
  intro i hi
  exact hm i (by rw [List.mem_range] at hi ⊢; omega)
theorem sp_fit_ok {a b : sp_M} (h : sp_fit a b = true) : sp_ok (sp_mm a b) := by
  have h := List.all_eq_true.mp h
  have key : ∀ i, i < 5 → sp_ex a i + sp_ex b i ≤ 30 := fun i hi => of_decide_eq_true (h i (List.mem_range.mpr hi))
  exact ⟨key 0 (by decide), key 1 (by decide), key 2 (by decide), key 3 (by decide), key 4 (by decide)⟩
theorem sp_mm_c (a b : sp_M) : sp_c a + sp_c b = sp_c (sp_mm a b) := by
  unfold sp_c
  rw [nI_add]
  exact congrArg nI (by unfold sp_6 sp_mm; dsimp only; omega)
/-- a term's product with a term, which comes to a polynomial -/
def sp_one (j : Nat) (a b : Int) (m : sp_M) (t : sp_T) (p : sp_P) : Option sp_P :=
  if sp_fit m t.2.2 = true then (sp_fr (a * t.1) (b * t.2.1)).bind (fun r => sp_come j p r.1 r.2 (sp_mm m t.2.2)) else none
def sp_plus (j : Nat) (a b : Int) (m : sp_M) : sp_P → sp_P → Option sp_P
  | p, [] => some p
  | p, t :: r => (sp_one j a b m t p).bind (fun p' => sp_plus j a b m p' r)
/-- a factor: not 0, within the bounds -/
def sp_cf (a b : Int) : Prop := a ≠ 0 ∧ a.natAbs ≤ 1000000000 ∧ 1 ≤ b ∧ b ≤ 1000000000
theorem sp_one_w {j : Nat} {a b : Int} {m : sp_M} {t : sp_T} {p p' : sp_P} (hw : sp_pw p) (ht : sp_tw t) (hc : sp_cf a b) (h : sp_one j a b m t p = some p') : sp_pw p' := by
  unfold sp_one at h
  split at h
  · rename_i hf
    cases hr : sp_fr (a * t.1) (b * t.2.1) with
    | none => rw [hr] at h; cases h
    | some r =>
      rw [hr] at h
      have rb := sp_fr_b (Int.mul_ne_zero (by have := hc.2.2.1; omega) (by have := ht.2.2.1; omega)) hr
      have n0 : a * t.1 ≠ 0 := Int.mul_ne_zero hc.1 ht.1
      exact sp_come_w hw ⟨fun q => n0 (rb.2.2.2.mp q), rb.1, rb.2.1, rb.2.2.1, sp_fit_ok hf⟩ h
  · cases h
theorem sp_plus_w {j : Nat} {a b : Int} {m : sp_M} (hc : sp_cf a b) : ∀ {q p p' : sp_P}, sp_pw p → (∀ t ∈ q, sp_tw t) → sp_plus j a b m p q = some p' → sp_pw p'
  | [], p, p', hw, _, h => by cases h; exact hw
  | t :: r, p, p', hw, hq, h => by
    unfold sp_plus at h
    cases h1 : sp_one j a b m t p with
    | none => rw [h1] at h; cases h
    | some p1 =>
      rw [h1] at h
      exact sp_plus_w hc (sp_one_w hw (hq t (List.mem_cons_self ..)) hc h1) (fun s hs => hq s (List.mem_cons_of_mem _ hs)) h
theorem sp_set_el2 {σ : jm_S} {x : Nat} {A B : Int} {u : jm_O} {P : Prop} (hu : sp_set σ x A B u) (h0 : sp_fr A B = none → u = jT σ σ.1 (-7) → P) (h1 : ∀ r f, sp_fr A B = some r → u = ((f, σ.2), .inl none) → (∀ q, q ≠ x → f q = σ.1 q) → f x 0 = sp_i r.1 → f x 1 = sp_i r.2 → P) : P := by
  refine sp_set_el hu h0 (fun r h e => h1 r (jm_wi (jm_wi σ x 0 (sp_i r.1)) x 1 (sp_i r.2)).1 h e (fun q hq => ?_) ?_ jm_wi_at)
  · rw [jm_wi_q hq, jm_wi_q hq]
  · rw [jm_wi_k (by decide), jm_wi_at]
/-- two polynomials lie apart -/
def dj (a b : Nat) : Prop := b + 3 < a ∨ a + 3 < b
section
variable {g : jm_G} {d : Nat} {σ : jm_S}
theorem c_plus {a x j ga : Nat} {p gp : sp_P} {A B : Int} {m : sp_M} (hp : pl g σ a) (hP : PA σ.1 a p) (hw : sp_pw p) (hgp : pl g σ ga) (hG : PA σ.1 ga gp) (hgw : sp_pw gp) (hj : j < 3) (hc : sp_cf A B) (hm : sp_ok m) (hx : ¬ (a ≤ x ∧ x ≤ a + 3)) (hgx : ¬ (ga ≤ x ∧ x ≤ ga + 3)) (hd : dj a ga) (hr : sp_rm g σ) :
    J g (d + 7) 32 0 [some (aR 5 a), some (aR 13 (goa g j)), some (aR 4 x), some (aI (sp_i A)), some (aI (sp_i B)), some (aI (sp_c m)), some (aR 5 ga), none, none] [] σ (jO σ a x (sp_plus j A B m p gp)) := by
  obtain ⟨q1, q2, q3, k1, k2, k3⟩ := hgp
  have hgl := hgw.1
  have hc' := hc
  obtain ⟨c0, c1, c2, c3⟩ := hc'
  have loop : ∀ (r : sp_P) (i : Nat), gp.drop i = r → i ≤ gp.length → ∀ (z : Option jm_V) (f : Nat → Nat → Int32) (p' : sp_P), (∀ q, ¬ (a ≤ q ∧ q ≤ a + 3) → q ≠ x → f q = σ.1 q) → PA f a p' → sp_pw p' → sp_plus j A B m p gp = sp_plus j A B m p' r →
      J g (d + 7) 32 3 [some (aR 5 a), some (aR 13 (goa g j)), some (aR 4 x), some (aI (sp_i A)), some (aI (sp_i B)), some (aI (sp_c m)), some (aR 5 ga), some (aI (nI i)), z] [] (f, σ.2) (jO σ a x (sp_plus j A B m p gp)) := by
    intro r
    induction r with
    | nil =>
      intro i hi hil z f p' hf hPf hpw he
      have hi2 : gp.length ≤ i := List.drop_eq_nil_iff.mp hi
      have hG' : PA f ga gp := PA_frame hG (hf _ (by unfold dj at hd; omega) (by omega)) (hf _ (by unfold dj at hd; omega) (by omega)) (hf _ (by unfold dj at hd; omega) (by omega)) (hf _ (by unfold dj at hd; omega) (by omega))
      refine jm_run ok_P_plus [3] 90 (fun kk hk => ?_)
      conv => whnf
      refine b_le hG'.1 rfl (fun _ => ?_) (fun h => by omega)
      conv => whnf
      exact hk _ _ _ _ (r_P_plus_118 ⟨f, hf, Or.inl ⟨p', he, rfl, hPf⟩⟩)
    | cons t r ih =>
      intro i hi hil z f p' hf hPf hpw he
      have hti : gp[i]? = some t := by rw [← Nat.add_zero i, ← List.getElem?_drop, hi]; rfl
      have hi2 : i < gp.length := (List.getElem?_eq_some_iff.mp hti).1
      have hdr : gp.drop (i + 1) = r := by rw [← List.drop_drop, hi]; rfl
      have hG' : PA f ga gp := PA_frame hG (hf _ (by unfold dj at hd; omega) (by omega)) (hf _ (by unfold dj at hd; omega) (by omega)) (hf _ (by unfold dj at hd; omega) (by omega)) (hf _ (by unfold dj at hd; omega) (by omega))
      have row := hG'.2 _ _ hti
      have tw := sp_pw_at hgw hti
      have tw' := tw
      obtain ⟨t0, t1, t2, t3, t4⟩ := tw'
      rw [sp_plus] at he
      have fin : sp_fit m t.2.2 = true → J g (d + 7) 32 64 [some (aR 5 a), some (aR 13 (goa g j)), some (aR 4 x), some (aI (sp_i A)), some (aI (sp_i B)), some (aI (sp_c m)), some (aR 5 ga), some (aI (nI i)), some (aI (nI 5))] [] (f, σ.2) (jO σ a x (sp_plus j A B m p gp)) := by
        intro hfit
        have ho : sp_one j A B m t p' = (sp_fr (A * t.1) (B * t.2.1)).bind (fun r => sp_come j p' r.1 r.2 (sp_mm m t.2.2)) := by unfold sp_one; rw [if_pos hfit]
        refine jm_run ok_P_plus [3] 90 (fun kk hk => ?_)
        conv => whnf
        refine jg q1 ?_
        conv => whnf
        refine ja rfl k1 row.1 ?_
        conv => whnf
        refine jg q2 ?_
        conv => whnf
        refine ja rfl k2 row.2.1 ?_
        conv => whnf
        refine hk _ _ _ _ (k_P_plus_84 rfl (c_ftimes (σ := (f, σ.2)) c1 (by omega) t1 (by omega) (by omega) (by omega) hr) (fun u hu => ?_))
        refine sp_set_el2 hu (fun h e => ?_) (fun r1 f2 h e hf2 v0 v1 => ?_)
        · subst e
          exact ⟨f, hf, Or.inr ⟨by rw [he, ho, h]; rfl, rfl⟩⟩
        · subst e
          have hG2 : f2 (ga + 3) i = sp_c t.2.2 := by rw [hf2 _ (by omega)]; exact row.2.2
          have rb := sp_fr_b (Int.mul_ne_zero (by omega) (by omega)) h
          have n0 : A * t.1 ≠ 0 := Int.mul_ne_zero c0 t0
          have hP2 : PA f2 a p' := PA_frame hPf (hf2 _ (by omega)) (hf2 _ (by omega)) (hf2 _ (by omega)) (hf2 _ (by omega))
          refine jm_run ok_P_plus [3] 90 (fun kk hk => ?_)
          conv => whnf
          refine jg q3 ?_
          conv => whnf
          refine ja rfl k3 hG2 ?_
          conv => whnf
          dsimp only
          rw [v0, v1, sp_mm_c]
          refine hk _ _ _ _ (k_P_plus_109 rfl (c_come (σ := (f2, σ.2)) hp hP2 hpw hj rb.1 ⟨rb.2.1, rb.2.2.1⟩ (sp_fit_ok hfit) hx hr) (fun u hu => ?_))
          obtain ⟨f3, hf3, h3⟩ := hu
          have hff : ∀ q, ¬ (a ≤ q ∧ q ≤ a + 3) → q ≠ x → f3 q = σ.1 q := fun q h1 h2 => by rw [hf3 q h1 h2]; exact (hf2 q h2).trans (hf q h1 h2)
          rw [ho, h] at he
          rcases h3 with ⟨p2, hp2, hu, hPA⟩ | ⟨hn, hu⟩
          · subst hu
            refine jm_run ok_P_plus [3] 90 (fun kk hk => ?_)
            conv => whnf
            rw [nI_1]
            refine hk _ _ _ _ (ih (i + 1) hdr (by omega) _ f3 p2 hff hPA (sp_come_w hpw ⟨fun q => n0 (rb.2.2.2.mp q), rb.1, rb.2.1, rb.2.2.1, sp_fit_ok hfit⟩ hp2) ?_)
            rw [he]
            show Option.bind (sp_come j p' r1.1 r1.2 (sp_mm m t.2.2)) _ = _
            rw [hp2]; rfl
          · subst hu
            refine ⟨f3, hff, Or.inr ⟨?_, rfl⟩⟩
            rw [he]
            show Option.bind (sp_come j p' r1.1 r1.2 (sp_mm m t.2.2)) _ = _
            rw [hn]; rfl
      have inner : ∀ n v, v + n = 5 → sp_fk m t.2.2 v = true → J g (d + 7) 32 16 [some (aR 5 a), some (aR 13 (goa g j)), some (aR 4 x), some (aI (sp_i A)), some (aI (sp_i B)), some (aI (sp_c m)), some (aR 5 ga), some (aI (nI i)), some (aI (nI v))] [] (f, σ.2) (jO σ a x (sp_plus j A B m p gp)) := by
        intro n
        induction n with
        | zero =>
          intro v hv hfk
          have : v = 5 := by omega
          subst this
          refine jm_run ok_P_plus [16, 64] 90 (fun kk hk => ?_)
          conv => whnf
          refine b_le (a := 5) (b := 5) rfl rfl (fun _ => ?_) (fun h => by omega)
          conv => whnf
          exact hk _ _ _ _ (fin hfk)
        | succ n ihn =>
          intro v hv hfk
          have x1 := sp_ok_ex hm v
          have x2 := sp_ok_ex t4 v
          refine jm_run ok_P_plus [16, 64] 90 (fun kk hk => ?_)
          conv => whnf
          refine b_le (a := 5) rfl rfl (fun h => by omega) (fun _ => ?_)
          conv => whnf
          refine hk _ _ _ _ (k_P_plus_26 rfl (c_exponent hm (by omega)) (fun u hu => ?_))
          subst hu
          refine jm_run ok_P_plus [16, 64] 90 (fun kk hk => ?_)
          conv => whnf
          refine jg q3 ?_
          conv => whnf
          refine ja rfl k3 row.2.2 ?_
          conv => whnf
          refine hk _ _ _ _ (k_P_plus_39 rfl (c_exponent t4 (by omega)) (fun u hu => ?_))
          subst hu
          refine jm_run ok_P_plus [16, 64] 90 (fun kk hk => ?_)
          conv => whnf
          refine b_le (b := 30) (nI_add _ _) rfl (fun h => ?_) (fun h => ?_)
          · conv => whnf
            rw [nI_1]
            exact hk _ _ _ _ (ihn (v + 1) (by omega) (by rw [sp_fk_s, hfk, decide_eq_true h]; rfl))
          · conv => whnf
            refine hk _ _ _ _ (k_P_plus_48 (by omega) rfl hr.1 hr.2 (r_P_plus_57 ⟨f, hf, Or.inr ⟨?_, rfl⟩⟩))
            rw [he]
            have hnf : ¬ sp_fit m t.2.2 = true := by
              intro hfit
              have h7 := sp_fk_le (n := v + 1) (by omega) hfit
              rw [sp_fk_s, decide_eq_false (by omega), Bool.and_false] at h7
              cases h7
            unfold sp_one
            rw [if_neg hnf]; rfl
      refine jm_run ok_P_plus [3, 16] 90 (fun kk hk => ?_)
      conv => whnf
      refine b_le hG'.1 rfl (fun h => by omega) (fun _ => ?_)
      conv => whnf
      exact hk _ _ _ _ (inner 5 0 rfl rfl)
  refine jm_run ok_P_plus [3] 90 (fun kk hk => ?_)
  conv => whnf
  exact hk _ _ _ _ (loop gp 0 rfl (Nat.zero_le _) none σ.1 p (fun _ _ _ => rfl) hP hw rfl)
end
