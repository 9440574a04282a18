/-! PLAIN: the loop over the pairs and its measure -/
def sp_clr (w : Nat → Nat → Bool) (i k : Nat) : Nat → Nat → Bool := fun a b => if a = i ∧ b = k then false else w a b
def cr (w : Nat → Nat → Bool) (k : Nat) : Nat → Nat
  | 0 => 0
  | i + 1 => cr w k i + (if w i k = true then 1 else 0)
def cw (w : Nat → Nat → Bool) : Nat → Nat
  | 0 => 0
  | k + 1 => cw w k + cr w k k
def tri : Nat → Nat
  | 0 => 0
  | c + 1 => tri c + c
theorem tri_le {a b : Nat} (h : a ≤ b) : tri a ≤ tri b := by
  induction h with
  | refl => exact Nat.le_refl _
  | step _ ih => exact Nat.le_trans ih (Nat.le_add_right _ _)
theorem cr_le (w : Nat → Nat → Bool) (k : Nat) : ∀ n, cr w k n ≤ n
  | 0 => Nat.le_refl _
  | n + 1 => by
    have := cr_le w k n
    unfold cr
    split <;> omega
theorem cr_congr {w w' : Nat → Nat → Bool} {k : Nat} : ∀ {n}, (∀ i, i < n → w i k = w' i k) → cr w k n = cr w' k n
  | 0, _ => rfl
  | n + 1, h => by
    unfold cr
    rw [cr_congr (fun i hi => h i (by omega)), h n (by omega)]
theorem cw_congr {w w' : Nat → Nat → Bool} : ∀ {c}, (∀ i k, i < k → k < c → w i k = w' i k) → cw w c = cw w' c
  | 0, _ => rfl
  | c + 1, h => by
    unfold cw
    rw [cw_congr (fun i k h1 h2 => h i k h1 (by omega)), cr_congr (fun i hi => h i c hi (by omega))]
theorem cr_clr {w : Nat → Nat → Bool} {i k : Nat} (hw : w i k = true) : ∀ {n}, i < n → cr (sp_clr w i k) k n + 1 = cr w k n
  | 0, h => absurd h (Nat.not_lt_zero _)
  | n + 1, h => by
    unfold cr
    by_cases hn : i = n
    · subst hn
      rw [cr_congr (w := sp_clr w i k) (w' := w) (fun a ha => by unfold sp_clr; rw [if_neg (by omega)]), if_pos hw, if_neg (by unfold sp_clr; rw [if_pos ⟨rfl, rfl⟩]; decide)]
    · have ih := cr_clr hw (show i < n by omega)
      have e : sp_clr w i k n k = w n k := by unfold sp_clr; rw [if_neg (by omega)]
      rw [e]
      omega
theorem cw_clr {w : Nat → Nat → Bool} {i k : Nat} (hw : w i k = true) (hik : i < k) : ∀ {c}, k < c → cw (sp_clr w i k) c + 1 = cw w c
  | 0, h => absurd h (Nat.not_lt_zero _)
  | c + 1, h => by
    unfold cw
    by_cases hc : k = c
    · subst hc
      rw [cw_congr (w := sp_clr w i k) (w' := w) (fun a b h1 h2 => by unfold sp_clr; rw [if_neg (by omega)])]
      have := cr_clr hw hik
      omega
    · have ih := cw_clr hw hik (show k < c by omega)
      rw [cr_congr (w := sp_clr w i k) (w' := w) (k := c) (fun a ha => by unfold sp_clr; rw [if_neg (by omega)])]
      omega
theorem cr_true {w : Nat → Nat → Bool} {k : Nat} (h : ∀ i, w i k = true) : ∀ n, cr w k n = n
  | 0 => rfl
  | n + 1 => by
    unfold cr
    rw [cr_true h n, if_pos (h n)]
theorem cw_jw (w : Nat → Nat → Bool) (c : Nat) : cw (sp_jw c w) (c + 1) = cw w c + c := by
  show cw (sp_jw c w) c + cr (sp_jw c w) c c = _
  rw [cw_congr (w := sp_jw c w) (w' := w) (fun i k h1 h2 => by unfold sp_jw; rw [if_neg (by omega)]), cr_true (fun i => by unfold sp_jw; rw [if_pos rfl])]
theorem cw_tri (w : Nat → Nat → Bool) : ∀ c, cw w c ≤ tri c
  | 0 => Nat.le_refl _
  | c + 1 => by
    have := cw_tri w c
    have := cr_le w c c
    unfold cw tri
    omega
/-- how many turns are left at most -/
def sp_mu (st : sp_ES) : Nat := cw st.2 st.1.length + (276 - tri st.1.length)
theorem fold_inv {α β : Type} {P : α → Prop} {f : α → β → α} (hs : ∀ a x, P a → P (f a x)) : ∀ {l : List β} {a : α}, P a → P (l.foldl f a)
  | [], a, h => h
  | x :: l, a, h => fold_inv hs (l := l) (hs a x h)
theorem sp_next_w {j : Nat} {G : List sp_P} {w : Nat → Nat → Bool} {b : Nat × Nat} (h : sp_next j G w = some b) : w b.1 b.2 = true := by
  have key : ∀ b, sp_next j G w = some b → w b.1 b.2 = true := by
    unfold sp_next
    refine fold_inv (P := fun o : Option (Nat × Nat) => ∀ b : Nat × Nat, o = some b → w b.1 b.2 = true) (fun a k ha => ?_) (fun b hb => by cases hb)
    unfold sp_nk
    refine fold_inv (P := fun o : Option (Nat × Nat) => ∀ b : Nat × Nat, o = some b → w b.1 b.2 = true) (fun a i ha => ?_) ha
    unfold sp_ns
    split
    · rename_i hw
      split
      · intro b hb; cases hb; exact hw
      · split
        · intro b hb; cases hb; exact hw
        · exact ha
    · exact ha
  exact key b h
/-- the turns over the pairs: the steps left, pairs, those passed over, elements, and how it ended -/
def sp_lp (j : Nat) : Nat → Nat → Nat → Nat → sp_ES → Nat × (Nat × (Nat × (Nat × (Int32 ⊕ sp_ES))))
  | 0, m, pr, ps, st => (m, (pr, (ps, (st.1.length, .inl 0))))
  | k + 1, m, pr, ps, st => match sp_next j (sp_G st.1) st.2 with
    | none => (m, (pr, (ps, (st.1.length, .inr st))))
    | some b => if sp_pass (sp_G st.1) (sp_clr st.2 b.1 b.2) b.1 b.2 = true then sp_lp j k m (pr + 1) (ps + 1) (st.1, sp_clr st.2 b.1 b.2) else match sp_pair j m (st.1, sp_clr st.2 b.1 b.2) b.1 b.2 with
      | (m', .inl x) => (m', (pr + 1, (ps, (st.1.length, .inl x))))
      | (m', .inr st') => sp_lp j k m' (pr + 1) ps st'
theorem sp_pair_mu {j m m' i k : Nat} {st st' : sp_ES} (hl : st.1.length ≤ 24) (h : sp_pair j m st i k = (m', .inr st')) : st'.1.length ≤ 24 ∧ sp_mu st' = sp_mu st := by
  unfold sp_pair at h
  split at h
  · cases h
  · split at h
    · cases h
    · unfold sp_add at h
      split at h
      · cases h
      · split at h
        · cases h; exact ⟨hl, rfl⟩
        · split at h
          · cases h
          · split at h
            · cases h
            · rename_i E _
              split at h
              · cases h
              · cases h
                have e1 : (st.1 ++ [E]).length = st.1.length + 1 := by rw [List.length_append]; rfl
                refine ⟨by show (st.1 ++ [E]).length ≤ 24; omega, ?_⟩
                unfold sp_mu
                show cw (sp_jw st.1.length st.2) (st.1 ++ [E]).length + (276 - tri (st.1 ++ [E]).length) = _
                rw [e1, cw_jw]
                have h1 : tri (st.1.length + 1) = tri st.1.length + st.1.length := rfl
                have h2 : tri (st.1.length + 1) ≤ 276 := tri_le (b := 24) (by omega)
                omega
