/-! Poly come -/
def sp_at (j : Nat) (m : sp_M) : sp_P → Nat
  | [] => 0
  | t :: r => if 0 < sp_cmp j t.2.2 m then sp_at j m r + 1 else 0
def sp_ins (p : sp_P) (i : Nat) (t : sp_T) : Option sp_P := if p.length = 100 then none else some (p.insertIdx i t)
def sp_put (p : sp_P) (i : Nat) (m : sp_M) (r : Int × Int) : sp_P := if r.1 = 0 then p.eraseIdx i else p.set i (r.1, (r.2, m))
def sp_come (j : Nat) (p : sp_P) (a b : Int) (m : sp_M) : Option sp_P := match p[sp_at j m p]? with
  | some t => if t.2.2 = m then (sp_fr (t.1 * b + a * t.2.1) (t.2.1 * b)).map (sp_put p (sp_at j m p) m) else sp_ins p (sp_at j m p) (a, (b, m))
  | none => sp_ins p (sp_at j m p) (a, (b, m))
theorem sp_at_le (j : Nat) (m : sp_M) : ∀ p, sp_at j m p ≤ p.length
  | [] => Nat.le_refl _
  | t :: r => by
    have := sp_at_le j m r
    unfold sp_at
    split
    · exact Nat.succ_le_succ this
    · exact Nat.zero_le _
/-- what a polynomial's act leaves: only a and the fraction x have changed -/
def jO (σ : jm_S) (a x : Nat) (o : Option sp_P) : jm_O → Prop := fun u => ∃ f : Nat → Nat → Int32, (∀ q, ¬ (a ≤ q ∧ q ≤ a + 3) → q ≠ x → f q = σ.1 q) ∧ ((∃ p, o = some p ∧ u = ((f, σ.2), .inl none) ∧ PA f a p) ∨ (o = none ∧ u = jT σ f (-7)))
theorem sp_pw_at {p : sp_P} (h : sp_pw p) {i : Nat} {t : sp_T} (hi : p[i]? = some t) : sp_tw t := h.2 t (List.mem_of_getElem? hi)
section
variable {g : jm_G} {d : Nat} {σ : jm_S}
theorem c_come {a x j : Nat} {p : sp_P} {A B : Int} {m : sp_M} (hp : pl g σ a) (hP : PA σ.1 a p) (hw : sp_pw p) (hj : j < 3) (hA : A.natAbs ≤ 1000000000) (hB : 1 ≤ B ∧ B ≤ 1000000000) (hm : sp_ok m) (hx : ¬ (a ≤ x ∧ x ≤ a + 3)) (hr : sp_rm g σ) :
    J g (d + 6) 23 0 [some (aR 5 a), some (aR 13 (goa g j)), some (aR 4 x), some (aI (sp_i A)), some (aI (sp_i B)), some (aI (sp_c m)), none] [] σ (jO σ a x (sp_come j p A B m)) := by
  have hp' := hp
  obtain ⟨p1, p2, p3, l1, l2, l3⟩ := hp
  have hle := sp_at_le j m p
  have hlen := hw.1
  have ins : sp_come j p A B m = sp_ins p (sp_at j m p) (A, (B, m)) → J g (d + 6) 23 55 [some (aR 5 a), some (aR 13 (goa g j)), some (aR 4 x), some (aI (sp_i A)), some (aI (sp_i B)), some (aI (sp_c m)), some (aI (nI (sp_at j m p)))] [] σ (jO σ a x (sp_come j p A B m)) := by
    intro he
    refine jm_run ok_P_come [] 90 (fun kk hk => ?_)
    conv => whnf
    refine hk _ _ _ _ (k_P_come_63 rfl (c_insert hp' hw.1 hle hP.1 hr) (fun u hu => ?_))
    rcases hu with ⟨h1, h2⟩ | ⟨h1, h2⟩
    · subst h2
      exact ⟨σ.1, fun _ _ _ => rfl, Or.inr ⟨by rw [he, sp_ins, if_pos h1], rfl⟩⟩
    · subst h2
      have hPi := PA_ins (t := (A, (B, m))) hP hle
      have hq : ∀ q, ¬ (a ≤ q ∧ q ≤ a + 3) → q ≠ x → (insF σ a (sp_at j m p) p.length (sp_i A) (sp_i B) (sp_c m)).1 q = σ.1 q := fun q hq _ => insF_q hq
      have h2 : (insF σ a (sp_at j m p) p.length (sp_i A) (sp_i B) (sp_c m)).2 = σ.2 := rfl
      refine r_P_come_66 ⟨_, hq, Or.inl ⟨_, by rw [he, sp_ins, if_neg (by omega)], ?_, hPi⟩⟩
      rw [← h2]
  have tail : ∀ i, i = sp_at j m p → J g (d + 6) 23 34 [some (aR 5 a), some (aR 13 (goa g j)), some (aR 4 x), some (aI (sp_i A)), some (aI (sp_i B)), some (aI (sp_c m)), some (aI (nI i))] [] σ (jO σ a x (sp_come j p A B m)) := by
    intro i hi
    subst hi
    cases ht : p[sp_at j m p]? with
    | none =>
      have hn := List.getElem?_eq_none_iff.mp ht
      refine jm_run ok_P_come [55] 90 (fun kk hk => ?_)
      conv => whnf
      refine b_eq rfl hP.1 (fun h => ?_) (fun h => by omega)
      conv => whnf
      exact hk _ _ _ _ (ins (by unfold sp_come; rw [ht]))
    | some t =>
      have hn := (List.getElem?_eq_some_iff.mp ht).1
      have tw := sp_pw_at hw ht
      obtain ⟨t0, t1, t2, t3, t4⟩ := tw
      have row := hP.2 _ _ ht
      have b1 := sp_6_lt t4
      have b2 := sp_6_lt hm
      refine jm_run ok_P_come [55, 67] 90 (fun kk hk => ?_)
      conv => whnf
      refine b_eq rfl hP.1 (fun h => by omega) (fun h => ?_)
      conv => whnf
      refine jg p3 ?_
      conv => whnf
      refine ja rfl l3 row.2.2 ?_
      conv => whnf
      refine b_eq rfl rfl (fun h => ?_) (fun h => ?_)
      · have hmm := sp_c_inj t4 hm h
        conv => whnf
        refine hk _ _ _ _ ?_
        have he : sp_come j p A B m = (sp_fr (t.1 * B + A * t.2.1) (t.2.1 * B)).map (sp_put p (sp_at j m p) m) := by unfold sp_come; rw [ht]; dsimp only; rw [if_pos hmm]
        have hB0 : t.2.1 * B ≠ 0 := Int.mul_ne_zero (by omega) (by omega)
        refine jm_run ok_P_come [] 90 (fun kk hk => ?_)
        conv => whnf
        refine jg p1 ?_
        conv => whnf
        refine ja rfl l1 row.1 ?_
        conv => whnf
        refine jg p2 ?_
        conv => whnf
        refine ja rfl l2 row.2.1 ?_
        conv => whnf
        refine hk _ _ _ _ (k_P_come_85 rfl (c_fplus (by omega) (by omega) (by omega) (by omega) (by omega) (by omega) hr) (fun u hu => ?_))
        refine sp_set_el hu (fun h e => ?_) (fun r h e => ?_)
        · subst e
          exact ⟨σ.1, fun _ _ _ => rfl, Or.inr ⟨by rw [he, h]; rfl, rfl⟩⟩
        · subst e
          have rb := sp_fr_b hB0 h
          rw [h] at he
          have hf : ∀ q, q ≠ x → (jm_wi (jm_wi σ x 0 (sp_i r.1)) x 1 (sp_i r.2)).1 q = σ.1 q := by intro q hq; rw [jm_wi_q hq, jm_wi_q hq]
          have v0 : (jm_wi (jm_wi σ x 0 (sp_i r.1)) x 1 (sp_i r.2)).1 x 0 = sp_i r.1 := by rw [jm_wi_k (by decide), jm_wi_at]
          have v1 : (jm_wi (jm_wi σ x 0 (sp_i r.1)) x 1 (sp_i r.2)).1 x 1 = sp_i r.2 := jm_wi_at
          have e2 : (jm_wi (jm_wi σ x 0 (sp_i r.1)) x 1 (sp_i r.2)).2 = σ.2 := rfl
          generalize jm_wi (jm_wi σ x 0 (sp_i r.1)) x 1 (sp_i r.2) = τ at hf v0 v1 e2
          have hP2 : PA τ.1 a p := PA_frame hP (hf _ (by omega)) (hf _ (by omega)) (hf _ (by omega)) (hf _ (by omega))
          rw [← e2] at p1 p2 p3
          refine jm_run ok_P_come [] 90 (fun kk hk => ?_)
          conv => whnf
          refine bi_ne v0 sp_i0 (fun h0 => ?_) (fun h0 => ?_)
          · conv => whnf
            refine jg p1 ?_
            conv => whnf
            refine jw rfl l1 ?_
            conv => whnf
            refine jg p2 ?_
            conv => whnf
            refine jw rfl l2 ?_
            conv => whnf
            refine hk _ _ _ _ (r_P_come_124 ?_)
            rw [v0, jm_wi_q (show x ≠ a + 1 by omega), v1]
            refine ⟨(jm_wi (jm_wi τ (a + 1) (sp_at j m p) (sp_i r.1)) (a + 2) (sp_at j m p) (sp_i r.2)).1, fun q hq hqx => ?_, Or.inl ⟨_, he, by rw [← e2]; exact rfl, ?_⟩⟩
            · rw [jm_wi_q (by omega), jm_wi_q (by omega), hf q hqx]
            · unfold sp_put
              rw [if_neg h0]
              refine ⟨?_, fun i s hs => ?_⟩
              · rw [jm_wi_q (by omega), jm_wi_q (by omega), hP2.1, List.length_set]
              · rw [List.getElem?_set] at hs
                rw [jm_wi_q (show a + 1 ≠ a + 2 by omega), jm_wi_1, jm_wi_1, jm_wi_q (show a + 2 ≠ a + 1 by omega), jm_wi_q (show a + 3 ≠ a + 2 by omega), jm_wi_q (show a + 3 ≠ a + 1 by omega)]
                by_cases hi : sp_at j m p = i
                · rw [if_pos hi, if_pos (by omega)] at hs
                  cases hs
                  rw [if_pos ⟨rfl, hi.symm⟩, if_pos ⟨rfl, hi.symm⟩]
                  refine ⟨rfl, rfl, ?_⟩
                  rw [← hi, (hP2.2 _ _ ht).2.2, hmm]
                · rw [if_neg hi] at hs
                  rw [if_neg (fun q => hi q.2.symm), if_neg (fun q => hi q.2.symm)]
                  exact hP2.2 _ _ hs
          · conv => whnf
            obtain ⟨n, hn1⟩ : ∃ n, p.length = n + 1 := ⟨p.length - 1, by omega⟩
            refine hk _ _ _ _ (k_P_come_98 rfl (c_remove (n := n) ⟨p1, p2, p3, l1, l2, l3⟩ (by omega) (by omega) (by rw [hP2.1, hn1])) (fun u hu => ?_))
            subst hu
            refine r_P_come_101 ?_
            refine ⟨_, fun q hq hqx => ?_, Or.inl ⟨_, he, by rw [e2], ?_⟩⟩
            · rw [shD_q hq, jm_wi_q (by omega), hf q hqx]
            · unfold sp_put
              rw [if_pos h0]
              exact PA_rem hP2 (by omega) hn1
      · conv => whnf
        exact hk _ _ _ _ (ins (by unfold sp_come; rw [ht]; dsimp only; rw [if_neg (fun q => h (by rw [q]))]))
  have loop : ∀ n i, i + n = p.length → sp_at j m p = i + sp_at j m (p.drop i) → J g (d + 6) 23 3 [some (aR 5 a), some (aR 13 (goa g j)), some (aR 4 x), some (aI (sp_i A)), some (aI (sp_i B)), some (aI (sp_c m)), some (aI (nI i))] [] σ (jO σ a x (sp_come j p A B m)) := by
    intro n
    induction n with
    | zero =>
      intro i hi he
      refine jm_run ok_P_come [3, 34] 90 (fun kk hk => ?_)
      conv => whnf
      refine b_le hP.1 rfl (fun _ => ?_) (fun h => by omega)
      conv => whnf
      refine hk _ _ _ _ (tail i ?_)
      rw [he, List.drop_of_length_le (by omega)]; rfl
    | succ n ih =>
      intro i hi he
      have hil : i < p.length := by omega
      have ht : p[i]? = some p[i] := List.getElem?_eq_getElem hil
      have tw := sp_pw_at hw ht
      have row := hP.2 _ _ ht
      rw [List.drop_eq_getElem_cons hil, sp_at] at he
      have hcb := sp_cmp_b tw.2.2.2.2 hm j
      refine jm_run ok_P_come [3, 34] 90 (fun kk hk => ?_)
      conv => whnf
      refine b_le hP.1 rfl (fun h => by omega) (fun _ => ?_)
      conv => whnf
      refine jg p3 ?_
      conv => whnf
      refine ja rfl l3 row.2.2 ?_
      conv => whnf
      refine hk _ _ _ _ (kc_come hj tw.2.2.2.2 hm rfl ?_)
      refine jm_run ok_P_come [3, 34] 90 (fun kk hk => ?_)
      conv => whnf
      refine bi_le rfl sp_i0 (fun h => ?_) (fun h => ?_)
      · conv => whnf
        refine hk _ _ _ _ (tail i ?_)
        rw [he, if_neg (by omega)]; rfl
      · conv => whnf
        rw [nI_1]
        refine hk _ _ _ _ (ih (i + 1) (by omega) ?_)
        rw [he, if_pos h]; omega
  refine jm_run ok_P_come [3] 90 (fun kk hk => ?_)
  conv => whnf
  exact hk _ _ _ _ (loop _ 0 (Nat.zero_add _) (by rw [List.drop_zero, Nat.zero_add]))
end
