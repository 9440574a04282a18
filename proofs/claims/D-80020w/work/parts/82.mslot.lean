/-! THE MODEL: slots; copy, comes -/
/-- a polynomial in a slot -/
def MP (f : Nat → Nat → Int32) (m p : Nat) (l : sp_P) : Prop := f (m + 4) p = nI l.length ∧ ∀ i t, l[i]? = some t → f (m + 1) (100 * p + i) = sp_i t.1 ∧ f (m + 2) (100 * p + i) = sp_i t.2.1 ∧ f (m + 3) (100 * p + i) = sp_d t.2.2
/-- all slots -/
def MS (f : Nat → Nat → Int32) (m : Nat) (T : Nat → sp_P) : Prop := ∀ p, p < 372 → (T p).length ≤ 100 ∧ MP f m p (T p)
def tU (T : Nat → sp_P) (p : Nat) (l : sp_P) : Nat → sp_P := fun q => if q = p then l else T q
theorem tU_at (T : Nat → sp_P) (p : Nat) (l : sp_P) : tU T p l p = l := if_pos rfl
theorem tU_ne {T : Nat → sp_P} {p q : Nat} {l : sp_P} (h : q ≠ p) : tU T p l q = T q := if_neg h
theorem tU_self (T : Nat → sp_P) (p : Nat) : tU T p (T p) = T := by
  funext q
  unfold tU
  split
  · rename_i h; rw [h]
  · rfl
theorem tU_tU (T : Nat → sp_P) (p : Nat) (l l' : sp_P) : tU (tU T p l) p l' = tU T p l' := by
  funext q
  unfold tU
  split <;> rfl
/-- of the model's memory only slots, whether it is full, and the fraction have changed -/
def FM (σ : jm_S) (m : Nat) (f : Nat → Nat → Int32) : Prop := (∀ q, ¬ (m ≤ q ∧ q ≤ m + 4) → f q = σ.1 q) ∧ ∀ k, k ≠ 11 → k ≠ 16 → k ≠ 17 → f m k = σ.1 m k
theorem FM.refl (σ : jm_S) (m : Nat) : FM σ m σ.1 := ⟨fun _ _ => rfl, fun _ _ _ _ => rfl⟩
theorem FM.trans {σ : jm_S} {m : Nat} {f f' : Nat → Nat → Int32} {ρ : (Nat → Nat → Nat) × (Nat × Nat)} (h : FM σ m f) (h' : FM (f, ρ) m f') : FM σ m f' := ⟨fun q hq => (h'.1 q hq).trans (h.1 q hq), fun k a b c => (h'.2 k a b c).trans (h.2 k a b c)⟩
theorem FL.fm {σ : jm_S} {m : Nat} {f : Nat → Nat → Int32} (h : FL σ m f) : FM σ m f := ⟨fun q hq => h.1 q (by omega), h.2⟩
theorem FM.mc {σ : jm_S} {m n j : Nat} {f : Nat → Nat → Int32} (h : FM σ m f) (hC : MC σ.1 m n j) : MC f m n j := ⟨(h.2 1 (by decide) (by decide) (by decide)).trans hC.1, (h.2 2 (by decide) (by decide) (by decide)).trans hC.2.1, hC.2.2⟩
theorem MP_fr {f f' : Nat → Nat → Int32} {m p : Nat} {l : sp_P} (h : MP f m p l) (h4 : f' (m + 4) p = f (m + 4) p) (hr : ∀ r, r = m + 1 ∨ r = m + 2 ∨ r = m + 3 → ∀ i, i < l.length → f' r (100 * p + i) = f r (100 * p + i)) : MP f' m p l := ⟨h4.trans h.1, fun i t ht => by
  have hi := (List.getElem?_eq_some_iff.mp ht).1
  rw [hr _ (Or.inl rfl) i hi, hr _ (Or.inr (Or.inl rfl)) i hi, hr _ (Or.inr (Or.inr rfl)) i hi]
  exact h.2 i t ht⟩
theorem MS_fr {f f' : Nat → Nat → Int32} {m : Nat} {T : Nat → sp_P} (h : MS f m T) (hf : ∀ q, m + 1 ≤ q → q ≤ m + 4 → f' q = f q) : MS f' m T := fun p hp => ⟨(h p hp).1, MP_fr (h p hp).2 (by rw [hf _ (by omega) (by omega)]) (fun r hr i _ => by rw [hf r (by omega) (by omega)])⟩
theorem FL.ms {σ : jm_S} {m : Nat} {f : Nat → Nat → Int32} {T : Nat → sp_P} (h : FL σ m f) (hT : MS σ.1 m T) : MS f m T := MS_fr hT (fun q h1 _ => h.1 q (by omega))
theorem MS_set {f f' : Nat → Nat → Int32} {m p : Nat} {T : Nat → sp_P} {l : sp_P} (h : MS f m T) (hl : l.length ≤ 100) (hP : MP f' m p l) (h4 : ∀ q, q ≠ p → f' (m + 4) q = f (m + 4) q) (hr : ∀ r, r = m + 1 ∨ r = m + 2 ∨ r = m + 3 → ∀ i, ¬ (100 * p ≤ i ∧ i < 100 * p + 100) → f' r i = f r i) : MS f' m (tU T p l) := fun q hq => by
  by_cases e : q = p
  · subst e; rw [tU_at]; exact ⟨hl, hP⟩
  · rw [tU_ne e]
    have hq0 := h q hq
    exact ⟨hq0.1, MP_fr hq0.2 (h4 q e) (fun r hr' i hi => hr r hr' _ (by omega))⟩
/-- how an act on a slot ends -/
def jP (σ : jm_S) (m : Nat) (T : Nat → sp_P) (p : Nat) (o : Option sp_P) : jm_O → Prop := fun u => ∃ f l, FM σ m f ∧ MS f m (tU T p l) ∧ ((o = some l ∧ f m 11 = 0) ∨ (o = none ∧ f m 11 = 1)) ∧ u = ((f, σ.2), .inl none)
theorem ix (p k : Nat) : (100 : Int32) * nI p + nI k = nI (100 * p + k) := by
  rw [show (100 : Int32) * nI p = nI (100 * p) from pk_mul 100 p, nI_add]
theorem ix0 (p : Nat) : (100 : Int32) * nI p = nI (100 * p) := pk_mul 100 p
section
variable {g : jm_G} {d : Nat} {σ : jm_S} {m : Nat}
theorem ML.num (h : ML g σ m) : σ.2.1 m 3 = m + 1 + 1 := h.1.1
theorem ML.den (h : ML g σ m) : σ.2.1 m 4 = m + 2 + 1 := h.1.2.1
theorem ML.mono (h : ML g σ m) : σ.2.1 m 5 = m + 3 + 1 := h.1.2.2.1
theorem ML.size (h : ML g σ m) : σ.2.1 m 6 = m + 4 + 1 := h.1.2.2.2.1
theorem ML.did (h : ML g σ m) : σ.2.1 m 15 = m + 5 + 1 := h.1.2.2.2.2.1
theorem ML.at4 (h : ML g σ m) : σ.2.1 m 18 = m + 6 + 1 := h.1.2.2.2.2.2.1
theorem ML.waits (h : ML g σ m) : σ.2.1 m 23 = m + 7 + 1 := h.1.2.2.2.2.2.2.1
theorem ML.goes (h : ML g σ m) : σ.2.1 m 27 = m + 8 + 1 := h.1.2.2.2.2.2.2.2
theorem ML.l1 (h : ML g σ m) : gln g (m + 1) = 37200 := h.2.1
theorem ML.l2 (h : ML g σ m) : gln g (m + 2) = 37200 := h.2.2.1
theorem ML.l3 (h : ML g σ m) : gln g (m + 3) = 37200 := h.2.2.2.1
theorem ML.l4 (h : ML g σ m) : gln g (m + 4) = 372 := h.2.2.2.2.1
theorem ML.l5 (h : ML g σ m) : gln g (m + 5) = 4 := h.2.2.2.2.2.1
theorem ML.l6 (h : ML g σ m) : gln g (m + 6) = 4 := h.2.2.2.2.2.2.1
theorem ML.l7 (h : ML g σ m) : gln g (m + 7) = 625 := h.2.2.2.2.2.2.2.1
theorem ML.l8 (h : ML g σ m) : gln g (m + 8) = 25 := h.2.2.2.2.2.2.2.2
/-- a size is put -/
theorem MS_nil {f : Nat → Nat → Int32} {ρ : (Nat → Nat → Nat) × (Nat × Nat)} {T : Nat → sp_P} {p : Nat} (h : MS f m T) : MS (jm_wi (f, ρ) (m + 4) p 0).1 m (tU T p []) :=
  MS_set h (Nat.zero_le _) ⟨jm_wi_at, fun i t ht => (by cases ht)⟩ (fun q hq => jm_wi_k hq) (fun r hr i _ => by rw [jm_wi_q (by omega)])
/-- three numbers are put -/
def wM (σ : jm_S) (m i : Nat) (x y z : Int32) : jm_S := jm_wi (jm_wi (jm_wi σ (m + 1) i x) (m + 2) i y) (m + 3) i z
theorem wM_1 (σ : jm_S) (m i : Nat) (x y z : Int32) (k : Nat) : (wM σ m i x y z).1 (m + 1) k = if k = i then x else σ.1 (m + 1) k := by
  unfold wM
  rw [jm_wi_q (by omega), jm_wi_q (by omega), jm_wi_1]
  by_cases h : k = i
  · rw [if_pos ⟨rfl, h⟩, if_pos h]
  · rw [if_neg (fun q => h q.2), if_neg h]
theorem wM_2 (σ : jm_S) (m i : Nat) (x y z : Int32) (k : Nat) : (wM σ m i x y z).1 (m + 2) k = if k = i then y else σ.1 (m + 2) k := by
  unfold wM
  rw [jm_wi_q (by omega), jm_wi_1, jm_wi_q (show m + 2 ≠ m + 1 by omega)]
  by_cases h : k = i
  · rw [if_pos ⟨rfl, h⟩, if_pos h]
  · rw [if_neg (fun q => h q.2), if_neg h]
theorem wM_3 (σ : jm_S) (m i : Nat) (x y z : Int32) (k : Nat) : (wM σ m i x y z).1 (m + 3) k = if k = i then z else σ.1 (m + 3) k := by
  unfold wM
  rw [jm_wi_1, jm_wi_q (show m + 3 ≠ m + 2 by omega), jm_wi_q (show m + 3 ≠ m + 1 by omega)]
  by_cases h : k = i
  · rw [if_pos ⟨rfl, h⟩, if_pos h]
  · rw [if_neg (fun q => h q.2), if_neg h]
theorem wM_q {σ : jm_S} {m i q : Nat} {x y z : Int32} (h : ¬ (m + 1 ≤ q ∧ q ≤ m + 3)) : (wM σ m i x y z).1 q = σ.1 q := by
  unfold wM
  rw [jm_wi_q (by omega), jm_wi_q (by omega), jm_wi_q (by omega)]
theorem c_mcopy {T : Nat → sp_P} {a b : Nat} (hM : ML g σ m) (hT : MS σ.1 m T) (ha : a < 372) (hb : b < 372) (hab : a ≠ b) : J g d 84 0 [some (aR 6 m), some (aI (nI a)), some (aI (nI b)), none] [] σ (fun u => ∃ f, (∀ q, ¬ (m + 1 ≤ q ∧ q ≤ m + 4) → f q = σ.1 q) ∧ MS f m (tU T b (T a)) ∧ u = ((f, σ.2), .inl none)) := by
  have hTa := hT a ha
  have loop : ∀ n k, k + n = (T a).length → ∀ f : Nat → Nat → Int32, (∀ q, ¬ (m + 1 ≤ q ∧ q ≤ m + 4) → f q = σ.1 q) → (∀ q, f (m + 4) q = if q = b then nI (T a).length else σ.1 (m + 4) q) → (∀ r, r = m + 1 ∨ r = m + 2 ∨ r = m + 3 → ∀ i, ¬ (100 * b ≤ i ∧ i < 100 * b + 100) → f r i = σ.1 r i) → (∀ r, r = m + 1 ∨ r = m + 2 ∨ r = m + 3 → ∀ i, i < k → f r (100 * b + i) = σ.1 r (100 * a + i)) →
      J g d 84 14 [some (aR 6 m), some (aI (nI a)), some (aI (nI b)), some (aI (nI k))] [] (f, σ.2) (fun u => ∃ f, (∀ q, ¬ (m + 1 ≤ q ∧ q ≤ m + 4) → f q = σ.1 q) ∧ MS f m (tU T b (T a)) ∧ u = ((f, σ.2), .inl none)) := by
    intro n
    induction n with
    | zero =>
      intro k hkn f h1 h2 h3 h4
      have fa : f (m + 4) a = nI (T a).length := by rw [h2, if_neg hab]; exact hTa.2.1
      refine jm_run ok_M_copy [14] 90 (fun kk hk => ?_)
      conv => whnf
      refine jg hM.size ?_
      conv => whnf
      refine ja rfl hM.l4 fa ?_
      conv => whnf
      refine b_le rfl rfl (fun _ => ?_) (fun h => by omega) (by have := hTa.1; omega)
      conv => whnf
      refine hk _ _ _ _ (r_M_copy_96 ⟨f, h1, MS_set hT hTa.1 ⟨by rw [h2, if_pos rfl], fun i t ht => ?_⟩ (fun q hq => by rw [h2, if_neg hq]) h3, rfl⟩)
      have hi := (List.getElem?_eq_some_iff.mp ht).1
      rw [h4 _ (Or.inl rfl) i (by omega), h4 _ (Or.inr (Or.inl rfl)) i (by omega), h4 _ (Or.inr (Or.inr rfl)) i (by omega)]
      exact hTa.2.2 i t ht
    | succ n ih =>
      intro k hkn f h1 h2 h3 h4
      have fa : f (m + 4) a = nI (T a).length := by rw [h2, if_neg hab]; exact hTa.2.1
      have hlen := hTa.1
      have e1 : f (m + 1) (100 * a + k) = σ.1 (m + 1) (100 * a + k) := h3 _ (Or.inl rfl) _ (by omega)
      have e2 : f (m + 2) (100 * a + k) = σ.1 (m + 2) (100 * a + k) := h3 _ (Or.inr (Or.inl rfl)) _ (by omega)
      have e3 : f (m + 3) (100 * a + k) = σ.1 (m + 3) (100 * a + k) := h3 _ (Or.inr (Or.inr rfl)) _ (by omega)
      have hst : jm_wi (jm_wi (jm_wi (f, σ.2) (m + 1) (100 * b + k) (σ.1 (m + 1) (100 * a + k))) (m + 2) (100 * b + k) (σ.1 (m + 2) (100 * a + k))) (m + 3) (100 * b + k) (σ.1 (m + 3) (100 * a + k)) = ((wM (f, σ.2) m (100 * b + k) (σ.1 (m + 1) (100 * a + k)) (σ.1 (m + 2) (100 * a + k)) (σ.1 (m + 3) (100 * a + k))).1, σ.2) := rfl
      refine jm_run ok_M_copy [14] 90 (fun kk hk => ?_)
      conv => whnf
      refine jg hM.size ?_
      conv => whnf
      refine ja rfl hM.l4 fa ?_
      conv => whnf
      refine b_le rfl rfl (fun h => by omega) (fun _ => ?_)
      conv => whnf
      refine jg hM.num ?_
      conv => whnf
      refine jg hM.num ?_
      conv => whnf
      refine ja (ix a k) hM.l1 e1 ?_
      conv => whnf
      refine jw (ix b k) hM.l1 ?_
      conv => whnf
      refine jg hM.den ?_
      conv => whnf
      refine jg hM.den ?_
      conv => whnf
      refine ja (ix a k) hM.l2 ((congrFun (jm_wi_q (by omega)) _).trans e2) ?_
      conv => whnf
      refine jw (ix b k) hM.l2 ?_
      conv => whnf
      refine jg hM.mono ?_
      conv => whnf
      refine jg hM.mono ?_
      conv => whnf
      refine ja (ix a k) hM.l3 ((congrFun (jm_wi_q (by omega)) _).trans ((congrFun (jm_wi_q (by omega)) _).trans e3)) ?_
      conv => whnf
      refine jw (ix b k) hM.l3 ?_
      conv => whnf
      rw [nI_1, hst]
      refine hk _ _ _ _ (ih (k + 1) (by omega) _ (fun q hq => (wM_q (by omega)).trans (h1 q hq)) (fun q => ?_) (fun r hr i hi => ?_) (fun r hr i hi => ?_))
      · rw [wM_q (by omega)]; exact h2 q
      · rcases hr with e | e | e <;> subst e
        · rw [wM_1, if_neg (by omega)]; exact h3 _ (Or.inl rfl) i hi
        · rw [wM_2, if_neg (by omega)]; exact h3 _ (Or.inr (Or.inl rfl)) i hi
        · rw [wM_3, if_neg (by omega)]; exact h3 _ (Or.inr (Or.inr rfl)) i hi
      · by_cases q : i = k
        · subst q
          rcases hr with e | e | e <;> subst e
          · rw [wM_1, if_pos rfl]
          · rw [wM_2, if_pos rfl]
          · rw [wM_3, if_pos rfl]
        · rcases hr with e | e | e <;> subst e
          · rw [wM_1, if_neg (by omega)]; exact h4 _ (Or.inl rfl) i (by omega)
          · rw [wM_2, if_neg (by omega)]; exact h4 _ (Or.inr (Or.inl rfl)) i (by omega)
          · rw [wM_3, if_neg (by omega)]; exact h4 _ (Or.inr (Or.inr rfl)) i (by omega)
  have hst : ∀ x, jm_wi σ (m + 4) b x = ((jm_wi σ (m + 4) b x).1, σ.2) := fun _ => rfl
  refine jm_run ok_M_copy [14] 90 (fun kk hk => ?_)
  conv => whnf
  refine jg hM.size ?_
  conv => whnf
  refine jg hM.size ?_
  conv => whnf
  refine ja rfl hM.l4 hTa.2.1 ?_
  conv => whnf
  refine jw rfl hM.l4 ?_
  conv => whnf
  rw [hst]
  refine hk _ _ _ _ (loop (T a).length 0 (by omega) _ (fun q hq => jm_wi_q (by omega)) (fun q => ?_) (fun r hr i _ => by rw [jm_wi_q (by omega)]) (fun r hr i hi => absurd hi (Nat.not_lt_zero _)))
  by_cases q : q = b
  · subst q; rw [if_pos rfl]; exact jm_wi_at
  · rw [if_neg q]; exact jm_wi_k q
end
