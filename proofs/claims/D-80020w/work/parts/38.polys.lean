/-! Poly scale, become, isSame, sort -/
theorem PA_set {f : Nat → Nat → Int32} {r : (Nat → Nat → Nat) × (Nat × Nat)} {a i : Nat} {p : sp_P} {t : sp_T} {X Y : Int} (h : PA f a p) (ht : p[i]? = some t) : PA (jm_wi (jm_wi (f, r) (a + 1) i (sp_i X)) (a + 2) i (sp_i Y)).1 a (p.set i (X, (Y, t.2.2))) := by
  have hn := (List.getElem?_eq_some_iff.mp ht).1
  refine ⟨?_, fun k s hs => ?_⟩
  · rw [jm_wi_q (by omega), jm_wi_q (by omega), List.length_set]
    exact h.1
  · rw [List.getElem?_set] at hs
    rw [jm_wi_q (show a + 1 ≠ a + 2 by omega), jm_wi_1, jm_wi_1, jm_wi_q (show a + 2 ≠ a + 1 by omega), jm_wi_q (show a + 3 ≠ a + 2 by omega), jm_wi_q (show a + 3 ≠ a + 1 by omega)]
    by_cases hi : i = k
    · rw [if_pos hi, if_pos (by omega)] at hs
      cases hs
      rw [if_pos ⟨rfl, hi.symm⟩, if_pos ⟨rfl, hi.symm⟩]
      refine ⟨rfl, rfl, ?_⟩
      rw [← hi]
      exact (h.2 _ _ ht).2.2
    · rw [if_neg hi] at hs
      rw [if_neg (fun q => hi q.2.symm), if_neg (fun q => hi q.2.symm)]
      exact h.2 _ _ hs
def sp_scale (a b : Int) : sp_P → Option sp_P
  | [] => some []
  | t :: r => (sp_fr (t.1 * a) (t.2.1 * b)).bind (fun f => (sp_scale a b r).map (fun r' => (f.1, (f.2, t.2.2)) :: r'))
theorem sp_scale_w {a b : Int} (hc : sp_cf a b) : ∀ {p p' : sp_P}, (∀ t ∈ p, sp_tw t) → sp_scale a b p = some p' → p'.length = p.length ∧ ∀ t ∈ p', sp_tw t
  | [], p', _, h => by cases h; exact ⟨rfl, fun _ h => by cases h⟩
  | t :: r, p', hp, h => by
    unfold sp_scale at h
    have tw := hp t (List.mem_cons_self ..)
    cases h1 : sp_fr (t.1 * a) (t.2.1 * b) with
    | none => rw [h1] at h; cases h
    | some f =>
      rw [h1] at h
      cases h2 : sp_scale a b r with
      | none => rw [h2] at h; cases h
      | some r' =>
        rw [h2] at h
        cases h
        have ih := sp_scale_w hc (fun s hs => hp s (List.mem_cons_of_mem _ hs)) h2
        have rb := sp_fr_b (Int.mul_ne_zero (by have := tw.2.2.1; omega) (by have := hc.2.2.1; omega)) h1
        have n0 : t.1 * a ≠ 0 := Int.mul_ne_zero tw.1 hc.1
        refine ⟨by rw [List.length_cons, List.length_cons, ih.1], fun s hs => ?_⟩
        rcases List.mem_cons.mp hs with h | h
        · subst h
          exact ⟨fun q => n0 (rb.2.2.2.mp q), rb.1, rb.2.1, rb.2.2.1, tw.2.2.2.2⟩
        · exact ih.2 s h
/-- the polynomial with a hole: u ahead of it, v behind -/
def PH (f : Nat → Nat → Int32) (a : Nat) (u v : sp_P) : Prop := f a 0 = nI (u.length + 1 + v.length) ∧ (∀ i t, u[i]? = some t → f (a + 1) i = sp_i t.1 ∧ f (a + 2) i = sp_i t.2.1 ∧ f (a + 3) i = sp_c t.2.2) ∧ ∀ i t, v[i]? = some t → f (a + 1) (u.length + 1 + i) = sp_i t.1 ∧ f (a + 2) (u.length + 1 + i) = sp_i t.2.1 ∧ f (a + 3) (u.length + 1 + i) = sp_c t.2.2
/-- a term is written at a place -/
def wT (σ : jm_S) (a i : Nat) (t : sp_T) : jm_S := jm_wi (jm_wi (jm_wi σ (a + 1) i (sp_i t.1)) (a + 2) i (sp_i t.2.1)) (a + 3) i (sp_c t.2.2)
theorem wT_1 (σ : jm_S) (a i : Nat) (t : sp_T) (k : Nat) : (wT σ a i t).1 (a + 1) k = if k = i then sp_i t.1 else σ.1 (a + 1) k := by
  unfold wT
  rw [jm_wi_q (show a + 1 ≠ a + 3 by omega), jm_wi_q (show a + 1 ≠ a + 2 by omega), jm_wi_1]
  simp only [true_and, eq_self]
theorem wT_2 (σ : jm_S) (a i : Nat) (t : sp_T) (k : Nat) : (wT σ a i t).1 (a + 2) k = if k = i then sp_i t.2.1 else σ.1 (a + 2) k := by
  unfold wT
  rw [jm_wi_q (show a + 2 ≠ a + 3 by omega), jm_wi_1, jm_wi_q (show a + 2 ≠ a + 1 by omega)]
  simp only [true_and, eq_self]
theorem wT_3 (σ : jm_S) (a i : Nat) (t : sp_T) (k : Nat) : (wT σ a i t).1 (a + 3) k = if k = i then sp_c t.2.2 else σ.1 (a + 3) k := by
  unfold wT
  rw [jm_wi_1, jm_wi_q (show a + 3 ≠ a + 2 by omega), jm_wi_q (show a + 3 ≠ a + 1 by omega)]
  simp only [true_and, eq_self]
theorem wT_q {σ : jm_S} {a i q : Nat} {t : sp_T} (h : ¬ (a + 1 ≤ q ∧ q ≤ a + 3)) : (wT σ a i t).1 q = σ.1 q := by
  unfold wT
  rw [jm_wi_q (by omega), jm_wi_q (by omega), jm_wi_q (by omega)]
theorem PH_of {f : Nat → Nat → Int32} {a : Nat} {u v : sp_P} {t : sp_T} (h : PA f a (u ++ t :: v)) : PH f a u v := by
  refine ⟨?_, fun i s hs => h.2 i s ?_, fun i s hs => h.2 _ s ?_⟩
  · rw [h.1, List.length_append, List.length_cons]; congr 1; omega
  · rw [List.getElem?_append_left (List.getElem?_eq_some_iff.mp hs).1]; exact hs
  · rw [List.getElem?_append_right (by omega), show u.length + 1 + i - u.length = i + 1 by omega]; exact hs
theorem PH_end {σ : jm_S} {a : Nat} {u v : sp_P} {t : sp_T} (h : PH σ.1 a u v) : PA (wT σ a u.length t).1 a (u ++ t :: v) := by
  refine ⟨?_, fun i s hs => ?_⟩
  · rw [wT_q (by omega), h.1, List.length_append, List.length_cons]; congr 1; omega
  · rw [wT_1, wT_2, wT_3]
    by_cases h1 : i < u.length
    · rw [List.getElem?_append_left h1] at hs
      rw [if_neg (by omega), if_neg (by omega), if_neg (by omega)]
      exact h.2.1 _ _ hs
    · rw [List.getElem?_append_right (by omega)] at hs
      by_cases h2 : i = u.length
      · subst h2
        rw [Nat.sub_self] at hs
        cases hs
        rw [if_pos rfl, if_pos rfl, if_pos rfl]
        exact ⟨rfl, rfl, rfl⟩
      · obtain ⟨k, rfl⟩ : ∃ k, i = u.length + 1 + k := ⟨i - u.length - 1, by omega⟩
        rw [show u.length + 1 + k - u.length = k + 1 by omega] at hs
        rw [if_neg h2, if_neg h2, if_neg h2]
        exact h.2.2 _ _ hs
theorem PH_step {σ : jm_S} {a : Nat} {u v : sp_P} {t : sp_T} (h : PH σ.1 a (u ++ [t]) v) : PH (wT σ a (u.length + 1) t).1 a u (t :: v) := by
  have hl : (u ++ [t]).length = u.length + 1 := by rw [List.length_append]; rfl
  obtain ⟨h0, h1, h2⟩ := h
  rw [hl] at h0 h2
  refine ⟨?_, fun i s hs => ?_, fun i s hs => ?_⟩
  · rw [wT_q (by omega), h0, List.length_cons]; congr 1; omega
  · have hi := (List.getElem?_eq_some_iff.mp hs).1
    rw [wT_1, wT_2, wT_3, if_neg (by omega), if_neg (by omega), if_neg (by omega)]
    exact h1 i s (by rw [List.getElem?_append_left hi]; exact hs)
  · rw [wT_1, wT_2, wT_3]
    cases i with
    | zero =>
      cases hs
      rw [if_pos rfl, if_pos rfl, if_pos rfl]
      exact ⟨rfl, rfl, rfl⟩
    | succ i =>
      rw [if_neg (by omega), if_neg (by omega), if_neg (by omega), show u.length + 1 + (i + 1) = u.length + 1 + 1 + i by omega]
      exact h2 i s hs
def sp_iv (j : Nat) (t : sp_T) : sp_P → sp_P
  | [] => [t]
  | x :: r => if 0 < sp_cmp j t.2.2 x.2.2 then x :: sp_iv j t r else t :: x :: r
def sp_so (j : Nat) : sp_P → sp_P → sp_P
  | acc, [] => acc
  | acc, t :: r => sp_so j (sp_iv j t acc) r
/-- the terms in another order -/
def sp_sort (j : Nat) (p : sp_P) : sp_P := (sp_so j [] p).reverse
theorem sp_iv_len (j : Nat) (t : sp_T) : ∀ r, (sp_iv j t r).length = r.length + 1
  | [] => rfl
  | x :: r => by
    unfold sp_iv
    split
    · rw [List.length_cons, sp_iv_len j t r]; rfl
    · rfl
theorem sp_iv_mem {j : Nat} {t s : sp_T} : ∀ {r}, s ∈ sp_iv j t r → s = t ∨ s ∈ r
  | [], h => Or.inl (List.mem_singleton.mp h)
  | x :: r, h => by
    unfold sp_iv at h
    split at h
    · rcases List.mem_cons.mp h with h | h
      · exact Or.inr (h ▸ List.mem_cons_self ..)
      · rcases sp_iv_mem h with h | h
        · exact Or.inl h
        · exact Or.inr (List.mem_cons_of_mem _ h)
    · rcases List.mem_cons.mp h with h | h
      · exact Or.inl h
      · exact Or.inr h
theorem sp_so_w {j : Nat} : ∀ {r acc : sp_P}, (∀ t ∈ acc, sp_tw t) → (∀ t ∈ r, sp_tw t) → (sp_so j acc r).length = acc.length + r.length ∧ ∀ t ∈ sp_so j acc r, sp_tw t
  | [], acc, h, _ => ⟨rfl, h⟩
  | t :: r, acc, h, h2 => by
    have := sp_so_w (j := j) (r := r) (acc := sp_iv j t acc) (fun s hs => by
      rcases sp_iv_mem hs with e | e
      · subst e; exact h2 _ (List.mem_cons_self ..)
      · exact h s e) (fun s hs => h2 s (List.mem_cons_of_mem _ hs))
    rw [sp_iv_len] at this
    refine ⟨?_, this.2⟩
    show (sp_so j (sp_iv j t acc) r).length = _
    rw [this.1, List.length_cons]; omega
theorem sp_sort_w {j : Nat} {p : sp_P} (h : sp_pw p) : sp_pw (sp_sort j p) := by
  have := sp_so_w (j := j) (r := p) (acc := []) (fun _ h => by cases h) h.2
  refine ⟨?_, fun t ht => this.2 t (List.mem_reverse.mp ht)⟩
  rw [sp_sort, List.length_reverse, this.1]
  have := h.1
  show 0 + _ ≤ _
  omega
theorem jm_wa_at {σ : jm_S} {q : Nat} {f : Nat → Int32} : (jm_wa σ q f).1 q = f := by simp [jm_wa, jm_u]
theorem jm_wa_q {σ : jm_S} {q q' : Nat} {f : Nat → Int32} (h : q' ≠ q) : (jm_wa σ q f).1 q' = σ.1 q' := by simp [jm_wa, jm_u, h]
def cp1 (σ : jm_S) (a o n : Nat) : jm_S := jm_wa σ a (va_cpy (σ.1 o) (σ.1 a) 0 0 n)
def beF (σ : jm_S) (a o n : Nat) : jm_S := cp1 (cp1 (cp1 (jm_wi σ a 0 (σ.1 o 0)) (a + 1) (o + 1) n) (a + 2) (o + 2) n) (a + 3) (o + 3) n
theorem cp1_at {σ : jm_S} {a o n i : Nat} (h : i < n) : (cp1 σ a o n).1 a i = σ.1 o i := by
  unfold cp1
  rw [jm_wa_at, pk_cpy_in (by omega) (by omega), show 0 + (i - 0) = i by omega]
theorem cp1_q {σ : jm_S} {a o n q : Nat} (h : q ≠ a) : (cp1 σ a o n).1 q = σ.1 q := jm_wa_q h
/-- polynomials are the same -/
def sp_eqT (s t : sp_T) : Bool := decide (s.1 = t.1) && (decide (s.2.1 = t.2.1) && decide (s.2.2 = t.2.2))
def sp_same : sp_P → sp_P → Bool
  | [], [] => true
  | s :: p, t :: q => sp_eqT s t && sp_same p q
  | _, _ => false
theorem sp_eqT_iff (s t : sp_T) : sp_eqT s t = true ↔ s = t := by
  unfold sp_eqT
  rw [Bool.and_eq_true, Bool.and_eq_true, decide_eq_true_iff, decide_eq_true_iff, decide_eq_true_iff]
  exact ⟨fun h => Prod.ext h.1 (Prod.ext h.2.1 h.2.2), fun h => by subst h; exact ⟨rfl, rfl, rfl⟩⟩
theorem sp_same_iff : ∀ p q : sp_P, sp_same p q = true ↔ p = q
  | [], [] => ⟨fun _ => rfl, fun _ => rfl⟩
  | [], t :: q => ⟨fun h => (by cases h), fun h => (by cases h)⟩
  | t :: q, [] => ⟨fun h => (by cases h), fun h => (by cases h)⟩
  | s :: p, t :: q => by
    show (sp_eqT s t && sp_same p q) = true ↔ _
    rw [Bool.and_eq_true, sp_eqT_iff, sp_same_iff p q, List.cons.injEq]
theorem sp_same_f {p q : sp_P} (h : p ≠ q) : false = sp_same p q := by
  cases e : sp_same p q with
  | false => rfl
  | true => exact absurd ((sp_same_iff p q).mp e) h
theorem jc {g : jm_G} {n : Nat} {L : List (Option jm_V)} {r : List jm_V} {σ : jm_S} {K : Nat → List (Option jm_V) → List jm_V → jm_S → Prop} {a a0 w N M : Nat} {x : Int32} (hx : x = nI w) (h0 : gln g a0 = N) (h1 : gln g a = M) (hp : K n L r (jm_wa σ a (va_cpy (σ.1 a0) (σ.1 a) 0 0 w))) (hw : w ≤ N := by omega) (hw' : w ≤ M := by omega) (hb : w < 2147483648 := by omega) :
    (¬ (0 : Int32) < 0 ∧ ¬ (0 : Int32) < 0 ∧ ¬ x < 0 ∧ (0 : Int32).toNatClampNeg + x.toNatClampNeg ≤ gln g a0 ∧ (0 : Int32).toNatClampNeg + x.toNatClampNeg ≤ gln g a) ∧ K n L r (jm_wa σ a (va_cpy (σ.1 a0) (σ.1 a) (0 : Int32).toNatClampNeg (0 : Int32).toNatClampNeg x.toNatClampNeg)) := by
  subst hx
  have e : (0 : Int32).toNatClampNeg = 0 := by decide
  rw [nI_clamp hb, e]
  exact ⟨⟨by decide, by decide, nI_pos hb, by omega, by omega⟩, hp⟩
section
variable {g : jm_G} {d : Nat} {σ : jm_S}
theorem c_scale {a x : Nat} {p : sp_P} {A B : Int} (hp : pl g σ a) (hP : PA σ.1 a p) (hw : sp_pw p) (hc : sp_cf A B) (hx : ¬ (a ≤ x ∧ x ≤ a + 3)) (hr : sp_rm g σ) :
    J g (d + 6) 47 0 [some (aR 5 a), some (aR 4 x), some (aI (sp_i A)), some (aI (sp_i B)), none] [] σ (jO σ a x (sp_scale A B p)) := by
  obtain ⟨p1, p2, p3, l1, l2, l3⟩ := hp
  have hgl := hw.1
  have hc' := hc
  obtain ⟨c0, c1, c2, c3⟩ := hc'
  have loop : ∀ (r q : sp_P) (f : Nat → Nat → Int32), q.length + r.length = p.length → (∀ t ∈ r, sp_tw t) → (∀ q, ¬ (a ≤ q ∧ q ≤ a + 3) → q ≠ x → f q = σ.1 q) → PA f a (q ++ r) → sp_scale A B p = (sp_scale A B r).map (fun r' => q ++ r') →
      J g (d + 6) 47 3 [some (aR 5 a), some (aR 4 x), some (aI (sp_i A)), some (aI (sp_i B)), some (aI (nI q.length))] [] (f, σ.2) (jO σ a x (sp_scale A B p)) := by
    intro r
    induction r with
    | nil =>
      intro q f hl _ hf hPf he
      rw [List.append_nil] at hPf
      refine jm_run ok_P_scale [3] 90 (fun kk hk => ?_)
      conv => whnf
      refine b_le hPf.1 rfl (fun _ => ?_) (fun h => by omega)
      conv => whnf
      exact hk _ _ _ _ (r_P_scale_60 ⟨f, hf, Or.inl ⟨q, by rw [he]; simp [sp_scale], rfl, hPf⟩⟩)
    | cons t r ih =>
      intro q f hl hrw hf hPf he
      have tw := hrw t (List.mem_cons_self ..)
      have tw' := tw
      obtain ⟨t0, t1, t2, t3, t4⟩ := tw'
      rw [List.length_cons] at hl
      have hti : (q ++ t :: r)[q.length]? = some t := by rw [List.getElem?_append_right (Nat.le_refl _), Nat.sub_self]; rfl
      have row := hPf.2 _ _ hti
      have hsz : f a 0 = nI p.length := by rw [hPf.1, List.length_append, List.length_cons, hl]
      refine jm_run ok_P_scale [3] 90 (fun kk hk => ?_)
      conv => whnf
      refine b_le hsz rfl (fun h => by omega) (fun _ => ?_)
      conv => whnf
      refine jg p1 ?_
      conv => whnf
      refine ja rfl l1 row.1 ?_
      conv => whnf
      refine jg p2 ?_
      conv => whnf
      refine ja rfl l2 row.2.1 ?_
      conv => whnf
      refine hk _ _ _ _ (k_P_scale_29 rfl (c_ftimes (σ := (f, σ.2)) t1 (by omega) c1 (by omega) (by omega) (by omega) hr) (fun u hu => ?_))
      rw [sp_scale] at he
      refine sp_set_el2 hu (fun h e => ?_) (fun r1 f2 h e hf2 v0 v1 => ?_)
      · subst e
        exact ⟨f, hf, Or.inr ⟨by rw [he, h]; rfl, rfl⟩⟩
      · subst e
        have hP2 : PA f2 a (q ++ t :: r) := PA_frame hPf (hf2 _ (by omega)) (hf2 _ (by omega)) (hf2 _ (by omega)) (hf2 _ (by omega))
        have hP3 := PA_set (r := σ.2) (X := r1.1) (Y := r1.2) hP2 hti
        refine jm_run ok_P_scale [3] 90 (fun kk hk => ?_)
        conv => whnf
        refine jg p1 ?_
        conv => whnf
        refine jw rfl l1 ?_
        conv => whnf
        refine jg p2 ?_
        conv => whnf
        refine jw rfl l2 ?_
        conv => whnf
        dsimp only
        rw [v0, jm_wi_q (show x ≠ a + 1 by omega)]
        dsimp only
        rw [v1, nI_1]
        have e5 : (q ++ t :: r).set q.length (r1.1, (r1.2, t.2.2)) = (q ++ [(r1.1, (r1.2, t.2.2))]) ++ r := by
          rw [List.set_append_right _ _ (Nat.le_refl _), Nat.sub_self, List.append_assoc]; rfl
        rw [e5] at hP3
        have := ih (q ++ [(r1.1, (r1.2, t.2.2))]) _ (by rw [List.length_append]; show q.length + 1 + _ = _; omega) (fun s hs => hrw s (List.mem_cons_of_mem _ hs)) (fun y hy hyx => by rw [jm_wi_q (by omega), jm_wi_q (by omega)]; exact (hf2 y hyx).trans (hf y hy hyx)) hP3 (by
          rw [he, h]
          show Option.map _ (Option.map _ (sp_scale A B r)) = _
          rw [Option.map_map]
          congr 1
          funext r'
          show q ++ _ :: r' = q ++ [_] ++ r'
          rw [List.append_assoc]; rfl)
        rw [List.length_append] at this
        exact hk _ _ _ _ this
  refine jm_run ok_P_scale [3] 90 (fun kk hk => ?_)
  conv => whnf
  exact hk _ _ _ _ (loop p [] σ.1 (Nat.zero_add _) hw.2 (fun _ _ _ => rfl) hP (by cases sp_scale A B p <;> rfl))
theorem c_become {a o : Nat} {p : sp_P} (hp : pl g σ a) (ho : pl g σ o) (hP : PA σ.1 o p) (hl : p.length ≤ 100) (hd : dj a o) : J g d 19 0 [some (aR 5 a), some (aR 5 o)] [] σ (jO σ a a (some p)) := by
  obtain ⟨p1, p2, p3, l1, l2, l3⟩ := hp
  obtain ⟨q1, q2, q3, k1, k2, k3⟩ := ho
  unfold dj at hd
  have e0 : (jm_wi σ a 0 (σ.1 o 0)).1 a 0 = nI p.length := by rw [jm_wi_at, hP.1]
  refine jm_run ok_P_become [] 90 (fun kk hk => ?_)
  conv => whnf
  refine jg q1 ?_
  conv => whnf
  refine jg p1 ?_
  conv => whnf
  refine jc e0 k1 l1 ?_
  conv => whnf
  refine jg q2 ?_
  conv => whnf
  refine jg p2 ?_
  conv => whnf
  refine jc (by rw [jm_wa_q (by omega), e0]) k2 l2 ?_
  conv => whnf
  refine jg q3 ?_
  conv => whnf
  refine jg p3 ?_
  conv => whnf
  refine jc (by rw [jm_wa_q (by omega), jm_wa_q (by omega), e0]) k3 l3 ?_
  conv => whnf
  refine hk _ _ _ _ (r_P_become_59 ?_)
  refine ⟨(beF σ a o p.length).1, ?_, Or.inl ⟨p, rfl, rfl, ?_⟩⟩
  · intro q hq _
    unfold beF
    rw [cp1_q (by omega), cp1_q (by omega), cp1_q (by omega), jm_wi_q (by omega)]
  · refine ⟨?_, fun i t ht => ?_⟩
    · unfold beF
      rw [cp1_q (by omega), cp1_q (by omega), cp1_q (by omega), e0]
    · have hi := (List.getElem?_eq_some_iff.mp ht).1
      have row := hP.2 i t ht
      unfold beF
      rw [cp1_at hi, cp1_q (show a + 1 ≠ a + 3 by omega), cp1_q (show a + 1 ≠ a + 2 by omega), cp1_at hi, cp1_q (show a + 2 ≠ a + 3 by omega), cp1_at hi]
      rw [cp1_q (show o + 3 ≠ a + 2 by omega), cp1_q (show o + 3 ≠ a + 1 by omega), cp1_q (show o + 2 ≠ a + 1 by omega), jm_wi_q (by omega), jm_wi_q (by omega), jm_wi_q (by omega)]
      exact row
theorem sp_tw_eq {s t : sp_T} (hs : sp_tw s) (ht : sp_tw t) : (sp_i s.1 = sp_i t.1 ↔ s.1 = t.1) ∧ (sp_i s.2.1 = sp_i t.2.1 ↔ s.2.1 = t.2.1) ∧ (sp_c s.2.2 = sp_c t.2.2 ↔ s.2.2 = t.2.2) := by
  obtain ⟨s0, s1, s2, s3, s4⟩ := hs
  obtain ⟨t0, t1, t2, t3, t4⟩ := ht
  have b1 := sp_6_lt s4
  have b2 := sp_6_lt t4
  refine ⟨sp_ieq (by omega) (by omega), sp_ieq (by omega) (by omega), ?_⟩
  unfold sp_c
  rw [nI_eq (by omega) (by omega)]
  exact ⟨sp_c_inj s4 t4, fun h => by rw [h]⟩
theorem c_isSame {a b : Nat} {p q : sp_P} (hp : pl g σ a) (hq : pl g σ b) (hP : PA σ.1 a p) (hQ : PA σ.1 b q) (wp : sp_pw p) (wq : sp_pw q) : J g d 37 0 [some (aR 5 a), some (aR 5 b), none, none] [] σ (jR σ (aI (sp_bi (sp_same p q)))) := by
  obtain ⟨p1, p2, p3, l1, l2, l3⟩ := hp
  obtain ⟨q1, q2, q3, k1, k2, k3⟩ := hq
  have w1 := wp.1
  have w2 := wq.1
  have ex : ∀ (v : Bool) (z : Option jm_V), v = sp_same p q → J g d 37 88 [some (aR 5 a), some (aR 5 b), some (aI (sp_bi v)), z] [] σ (jR σ (aI (sp_bi (sp_same p q)))) := by
    intro v z hv
    refine jm_run ok_P_isSame [] 90 (fun kk hk => ?_)
    conv => whnf
    exact hk _ _ _ _ (r_P_isSame_89 (sp_bi_01 _) (by rw [hv]; exact rfl))
  have off : ∀ (i : Nat), p ≠ q → i < 2147483648 → J g d 37 19 [some (aR 5 a), some (aR 5 b), some (aI (sp_bi false)), some (aI (nI i))] [] σ (jR σ (aI (sp_bi (sp_same p q)))) := by
    intro i hne hi
    refine jm_run ok_P_isSame [19, 88] 90 (fun kk hk => ?_)
    conv => whnf
    refine b_le hP.1 rfl (fun _ => ?_) (fun h => ?_)
    · conv => whnf
      exact hk _ _ _ _ (ex false _ (sp_same_f hne))
    · conv => whnf
      refine b_z rfl (fun _ => ?_) (fun h => by cases h)
      conv => whnf
      exact hk _ _ _ _ (ex false _ (sp_same_f hne))
  have on : p.length = q.length → ∀ n i, i + n = p.length → p.take i = q.take i → J g d 37 19 [some (aR 5 a), some (aR 5 b), some (aI (sp_bi true)), some (aI (nI i))] [] σ (jR σ (aI (sp_bi (sp_same p q)))) := by
    intro hl n
    induction n with
    | zero =>
      intro i hi ht
      refine jm_run ok_P_isSame [19, 88] 90 (fun kk hk => ?_)
      conv => whnf
      refine b_le hP.1 rfl (fun _ => ?_) (fun h => by omega)
      conv => whnf
      refine hk _ _ _ _ (ex true _ ((sp_same_iff _ _).mpr ?_).symm)
      rw [List.take_of_length_le (by omega), List.take_of_length_le (by omega)] at ht
      exact ht
    | succ n ih =>
      intro i hi ht
      have h1 : i < p.length := by omega
      have h2 : i < q.length := by omega
      have g1 : p[i]? = some p[i] := List.getElem?_eq_getElem h1
      have g2 : q[i]? = some q[i] := List.getElem?_eq_getElem h2
      have r1 := hP.2 _ _ g1
      have r2 := hQ.2 _ _ g2
      have te := sp_tw_eq (sp_pw_at wp g1) (sp_pw_at wq g2)
      have hne : ¬ p[i] = q[i] → p ≠ q := by
        intro h9 e
        subst e
        exact h9 rfl
      refine jm_run ok_P_isSame [19, 88] 90 (fun kk hk => ?_)
      conv => whnf
      refine b_le hP.1 rfl (fun h => by omega) (fun h => ?_)
      conv => whnf
      refine b_z rfl (fun h => by cases h) (fun h => ?_)
      conv => whnf
      refine jg p1 ?_
      conv => whnf
      refine ja rfl l1 r1.1 ?_
      conv => whnf
      refine jg q1 ?_
      conv => whnf
      refine ja rfl k1 r2.1 ?_
      conv => whnf
      rw [te.1]
      refine ⟨fun c => ?_, fun c1 => ?_⟩
      · conv => whnf
        rw [nI_1]
        exact hk _ _ _ _ (off (i + 1) (hne (fun e => c (by rw [e]))) (by omega))
      · conv => whnf
        refine jg p2 ?_
        conv => whnf
        refine ja rfl l2 r1.2.1 ?_
        conv => whnf
        refine jg q2 ?_
        conv => whnf
        refine ja rfl k2 r2.2.1 ?_
        conv => whnf
        rw [te.2.1]
        refine ⟨fun c => ?_, fun c2 => ?_⟩
        · conv => whnf
          rw [nI_1]
          exact hk _ _ _ _ (off (i + 1) (hne (fun e => c (by rw [e]))) (by omega))
        · conv => whnf
          refine jg p3 ?_
          conv => whnf
          refine ja rfl l3 r1.2.2 ?_
          conv => whnf
          refine jg q3 ?_
          conv => whnf
          refine ja rfl k3 r2.2.2 ?_
          conv => whnf
          rw [te.2.2]
          refine ⟨fun c => ?_, fun c3 => ?_⟩
          · conv => whnf
            rw [nI_1]
            exact hk _ _ _ _ (off (i + 1) (hne (fun e => c (by rw [e]))) (by omega))
          · conv => whnf
            rw [nI_1]
            refine hk _ _ _ _ (ih (i + 1) (by omega) ?_)
            rw [List.take_succ_eq_append_getElem h1, List.take_succ_eq_append_getElem h2, ht, Prod.ext c1 (Prod.ext c2 c3)]
  refine jm_run ok_P_isSame [19] 90 (fun kk hk => ?_)
  conv => whnf
  rw [hP.1, hQ.1]
  refine b_ne rfl rfl (fun h => ?_) (fun h => ?_)
  · conv => whnf
    exact hk _ _ _ _ (off 0 (fun e => h (by rw [e])) (by decide))
  · conv => whnf
    exact hk _ _ _ _ (on h _ 0 (Nat.zero_add _) rfl)
theorem c_sort {a j : Nat} {p : sp_P} (hp : pl g σ a) (hP : PA σ.1 a p) (hw : sp_pw p) (hj : j < 3) : J g (d + 3) 10 0 [some (aR 5 a), some (aR 13 (goa g j)), none, none, none, none, none] [] σ (jO σ a a (some (sp_sort j p))) := by
  obtain ⟨p1, p2, p3, l1, l2, l3⟩ := hp
  have hl := hw.1
  have outer : ∀ (r acc : sp_P) (f : Nat → Nat → Int32) (z1 z2 z3 z4 : Option jm_V), acc.length + r.length = p.length → (∀ t ∈ acc, sp_tw t) → (∀ t ∈ r, sp_tw t) → (∀ q, ¬ (a ≤ q ∧ q ≤ a + 3) → q ≠ a → f q = σ.1 q) → PA f a (acc.reverse ++ r) → sp_sort j p = (sp_so j acc r).reverse →
      J g (d + 3) 10 2 [some (aR 5 a), some (aR 13 (goa g j)), some (aI (nI acc.length)), z1, z2, z3, z4] [] (f, σ.2) (jO σ a a (some (sp_sort j p))) := by
    intro r
    induction r with
    | nil =>
      intro acc f z1 z2 z3 z4 hlen hwa _ hf hPf he
      rw [List.append_nil] at hPf
      have hsz : f a 0 = nI acc.length := by rw [hPf.1, List.length_reverse]
      have h0 : acc.length = p.length := hlen
      refine jm_run ok_P_sort [2] 90 (fun kk hk => ?_)
      conv => whnf
      refine b_le hsz rfl (fun _ => ?_) (fun h => by omega)
      conv => whnf
      exact hk _ _ _ _ (r_P_sort_145 ⟨f, hf, Or.inl ⟨_, by rw [he]; rfl, rfl, hPf⟩⟩)
    | cons t r ih =>
      intro acc f z1 z2 z3 z4 hlen hwa hwr hf hPf he
      have tw := hwr t (List.mem_cons_self ..)
      rw [List.length_cons] at hlen
      have hsz : f a 0 = nI p.length := by rw [hPf.1, List.length_append, List.length_reverse, List.length_cons, hlen]
      have hti : (acc.reverse ++ t :: r)[acc.length]? = some t := by rw [List.getElem?_append_right (by rw [List.length_reverse]; exact Nat.le_refl _), List.length_reverse, Nat.sub_self]; rfl
      have row := hPf.2 _ _ hti
      have inner : ∀ (u v : sp_P) (f : Nat → Nat → Int32), u.length + v.length = acc.length + r.length → (∀ t ∈ u, sp_tw t) → (∀ q, ¬ (a ≤ q ∧ q ≤ a + 3) → q ≠ a → f q = σ.1 q) → PH f a u.reverse v → (sp_iv j t u).reverse ++ v = (sp_iv j t acc).reverse ++ r →
          J g (d + 3) 10 36 [some (aR 5 a), some (aR 13 (goa g j)), some (aI (nI acc.length)), some (aI (sp_i t.1)), some (aI (sp_i t.2.1)), some (aI (sp_c t.2.2)), some (aI (nI u.length))] [] (f, σ.2) (jO σ a a (some (sp_sort j p))) := by
        intro u
        have stop : ∀ (u v : sp_P) (f : Nat → Nat → Int32), u.length + v.length = acc.length + r.length → (∀ q, ¬ (a ≤ q ∧ q ≤ a + 3) → q ≠ a → f q = σ.1 q) → PH f a u.reverse v → u.reverse ++ t :: v = (sp_iv j t acc).reverse ++ r →
            J g (d + 3) 10 113 [some (aR 5 a), some (aR 13 (goa g j)), some (aI (nI acc.length)), some (aI (sp_i t.1)), some (aI (sp_i t.2.1)), some (aI (sp_c t.2.2)), some (aI (nI u.length))] [] (f, σ.2) (jO σ a a (some (sp_sort j p))) := by
          intro u v f hlen2 hf hPH hv
          refine jm_run ok_P_sort [2] 90 (fun kk hk => ?_)
          conv => whnf
          refine jg p1 ?_
          conv => whnf
          refine jw rfl l1 ?_
          conv => whnf
          refine jg p2 ?_
          conv => whnf
          refine jw rfl l2 ?_
          conv => whnf
          refine jg p3 ?_
          conv => whnf
          refine jw rfl l3 ?_
          conv => whnf
          rw [nI_1]
          have hE := PH_end (σ := (f, σ.2)) (t := t) hPH
          rw [hv, List.length_reverse] at hE
          have := ih (sp_iv j t acc) (wT (f, σ.2) a u.length t).1 (some (aI (sp_i t.1))) (some (aI (sp_i t.2.1))) (some (aI (sp_c t.2.2))) (some (aI (nI u.length))) (by rw [sp_iv_len]; omega) (fun s hs => by
            rcases sp_iv_mem hs with e | e
            · subst e; exact tw
            · exact hwa s e) (fun s hs => hwr s (List.mem_cons_of_mem _ hs)) (fun q h1 h2 => by rw [wT_q (by omega)]; exact hf q h1 h2) hE he
          rw [sp_iv_len] at this
          exact hk _ _ _ _ this
        induction u with
        | nil =>
          intro v f hlen2 _ hf hPH hv
          refine jm_run ok_P_sort [2, 113] 90 (fun kk hk => ?_)
          conv => whnf
          refine b_le (a := 0) (b := 0) rfl rfl (fun _ => ?_) (fun h => by omega)
          conv => whnf
          exact hk _ _ _ _ (stop [] v f hlen2 hf hPH hv)
        | cons x u ihu =>
          intro v f hlen2 hwu hf hPH hv
          have xw := hwu x (List.mem_cons_self ..)
          rw [List.length_cons] at hlen2
          have hPH' := hPH
          rw [List.reverse_cons] at hPH'
          have xr := hPH'.2.1 u.length x (by rw [List.getElem?_append_right (by rw [List.length_reverse]; exact Nat.le_refl _), List.length_reverse, Nat.sub_self]; rfl)
          have hcb := sp_cmp_b tw.2.2.2.2 xw.2.2.2.2 j
          refine jm_run ok_P_sort [2, 113, 36] 90 (fun kk hk => ?_)
          conv => whnf
          refine b_le (b := 0) rfl rfl (fun h => by rw [List.length_cons] at h; omega) (fun _ => ?_) (by rw [List.length_cons]; omega)
          conv => whnf
          refine jg p3 ?_
          conv => whnf
          refine ja (nI_pred _) l3 xr.2.2 ?_
          conv => whnf
          refine hk _ _ _ _ (kc_sort hj tw.2.2.2.2 xw.2.2.2.2 rfl ?_)
          refine jm_run ok_P_sort [2, 113, 36] 90 (fun kk hk => ?_)
          conv => whnf
          rw [sp_iv] at hv
          refine bi_le rfl sp_i0 (fun h => ?_) (fun h => ?_)
          · conv => whnf
            rw [if_neg (by omega), List.reverse_cons, List.append_assoc] at hv
            exact hk _ _ _ _ (stop (x :: u) v f (by rw [List.length_cons]; omega) hf hPH hv)
          · conv => whnf
            refine jg p1 ?_
            conv => whnf
            refine jg p1 ?_
            conv => whnf
            refine ja (nI_pred _) l1 xr.1 ?_
            conv => whnf
            refine jw (i := u.length + 1) rfl l1 ?_
            conv => whnf
            refine jg p2 ?_
            conv => whnf
            refine jg p2 ?_
            conv => whnf
            refine ja (nI_pred _) l2 ((congrFun (jm_wi_q (by omega)) _).trans xr.2.1) ?_
            conv => whnf
            refine jw (i := u.length + 1) rfl l2 ?_
            conv => whnf
            refine jg p3 ?_
            conv => whnf
            refine jg p3 ?_
            conv => whnf
            refine ja (nI_pred _) l3 ((congrFun (jm_wi_q (by omega)) _).trans ((congrFun (jm_wi_q (by omega)) _).trans xr.2.2)) ?_
            conv => whnf
            refine jw (i := u.length + 1) rfl l3 ?_
            conv => whnf
            rw [List.length_cons, pk_m1]
            have hS := PH_step (σ := (f, σ.2)) hPH'
            rw [List.length_reverse] at hS
            refine hk _ _ _ _ (ihu (x :: v) (wT (f, σ.2) a (u.length + 1) x).1 (by rw [List.length_cons]; omega) (fun s hs => hwu s (List.mem_cons_of_mem _ hs)) (fun q h1 h2 => by rw [wT_q (by omega)]; exact hf q h1 h2) hS ?_)
            rw [if_pos h, List.reverse_cons, List.append_assoc] at hv
            exact hv
      refine jm_run ok_P_sort [2, 36] 90 (fun kk hk => ?_)
      conv => whnf
      refine b_le hsz rfl (fun h => by omega) (fun _ => ?_)
      conv => whnf
      refine jg p1 ?_
      conv => whnf
      refine ja rfl l1 row.1 ?_
      conv => whnf
      refine jg p2 ?_
      conv => whnf
      refine ja rfl l2 row.2.1 ?_
      conv => whnf
      refine jg p3 ?_
      conv => whnf
      refine ja rfl l3 row.2.2 ?_
      conv => whnf
      exact hk _ _ _ _ (inner acc r f rfl hwa hf (PH_of hPf) rfl)
  refine jm_run ok_P_sort [2] 90 (fun kk hk => ?_)
  conv => whnf
  cases p with
  | nil =>
    have := hP.1
    have stop : J g (d + 3) 10 2 [some (aR 5 a), some (aR 13 (goa g j)), some (aI 1), none, none, none, none] [] σ (jO σ a a (some (sp_sort j []))) := by
      refine jm_run ok_P_sort [2] 90 (fun kk hk => ?_)
      conv => whnf
      refine b_le (b := 1) hP.1 rfl (fun _ => ?_) (fun h => by exact absurd h (by decide)) (by decide)
      conv => whnf
      exact hk _ _ _ _ (r_P_sort_145 ⟨σ.1, fun _ _ _ => rfl, Or.inl ⟨[], rfl, rfl, hP⟩⟩)
    exact hk _ _ _ _ stop
  | cons t r => exact hk _ _ _ _ (outer r [t] σ.1 none none none none (show 1 + r.length = r.length + 1 from Nat.add_comm _ _) (fun s hs => by rw [List.mem_singleton] at hs; subst hs; exact hw.2 _ (List.mem_cons_self ..)) (fun s hs => hw.2 s (List.mem_cons_of_mem _ hs)) (fun _ _ _ => rfl) hP rfl)
end
