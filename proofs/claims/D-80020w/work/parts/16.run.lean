/-! running a block -/
def jm_lk (tb : List (Nat × jm_Op)) (pc : Nat) : Option jm_Op := match tb with
  | [] => none
  | x :: r => cond (Nat.beq x.1 pc) (some x.2) (jm_lk r pc)
def jm_blk (tb : List (Nat × jm_Op)) (stops : List Nat) (g : jm_G) (k : Nat → List (Option jm_V) → List jm_V → jm_S → Prop) : Nat → Nat → List (Option jm_V) → List jm_V → jm_S → Prop
  | 0, pc, L, stk, σ => k pc L stk σ
  | n + 1, pc, L, stk, σ => cond (stops.elem pc) (k pc L stk σ) (match jm_lk tb pc with
    | some op => op g L stk σ (fun pc' L' stk' σ' => jm_blk tb stops g k n pc' L' stk' σ')
    | none => k pc L stk σ)
def jm_stp (tb : List (Nat × jm_Op)) (stops : List Nat) (n : Nat) (g : jm_G) (pc : Nat) (L : List (Option jm_V)) (stk : List jm_V) (σ : jm_S) (k : Nat → List (Option jm_V) → List jm_V → jm_S → Prop) : Prop := match jm_lk tb pc with
  | some op => op g L stk σ (fun pc' L' stk' σ' => jm_blk tb stops g k n pc' L' stk' σ')
  | none => False
def jm_all (id : Nat) : List (Nat × jm_Op) → Prop
  | [] => True
  | x :: r => jm_sn id x.1 x.2 ∧ jm_all id r
theorem jm_all_app {id : Nat} : ∀ {a b : List (Nat × jm_Op)}, jm_all id a → jm_all id b → jm_all id (a ++ b)
  | [], _, _, h => h
  | _ :: _, _, h1, h2 => ⟨h1.1, jm_all_app h1.2 h2⟩
theorem jm_all_lk {id pc : Nat} {op : jm_Op} : ∀ {tb : List (Nat × jm_Op)}, jm_all id tb → jm_lk tb pc = some op → jm_sn id pc op
  | [], _, h => by cases h
  | x :: r, h1, h => by
    unfold jm_lk at h
    cases hb : Nat.beq x.1 pc with
    | true =>
      rw [hb, cond_true] at h
      cases h
      have := Nat.eq_of_beq_eq_true hb
      subst this
      exact h1.1
    | false =>
      rw [hb, cond_false] at h
      exact jm_all_lk h1.2 h
theorem jm_blk_ok {g : jm_G} {d id : Nat} {K : jm_O → Prop} {tb : List (Nat × jm_Op)} {stops : List Nat} (hall : jm_all id tb) : ∀ (n pc : Nat) (L : List (Option jm_V)) (stk : List jm_V) (σ : jm_S), jm_blk tb stops g (fun pc L stk σ => J g d id pc L stk σ K) n pc L stk σ → J g d id pc L stk σ K
  | 0, pc, L, stk, σ, h => h
  | n + 1, pc, L, stk, σ, h => by
    unfold jm_blk at h
    cases hb : stops.elem pc with
    | true => rw [hb, cond_true] at h; exact h
    | false =>
      rw [hb, cond_false] at h
      split at h
      · rename_i op hop
        exact jm_all_lk hall hop g d L stk σ K _ h (fun pc' L' stk' σ' h' => jm_blk_ok hall n pc' L' stk' σ' h')
      · exact h
theorem jm_run {g : jm_G} {d id pc : Nat} {L : List (Option jm_V)} {stk : List jm_V} {σ : jm_S} {K : jm_O → Prop} {tb : List (Nat × jm_Op)} (hall : jm_all id tb) (stops : List Nat) (n : Nat)
    (h : ∀ k : Nat → List (Option jm_V) → List jm_V → jm_S → Prop, (∀ pc' L' stk' σ', J g d id pc' L' stk' σ' K → k pc' L' stk' σ') → jm_stp tb stops n g pc L stk σ k) : J g d id pc L stk σ K := by
  have h0 := h (fun pc L stk σ => J g d id pc L stk σ K) (fun _ _ _ _ h => h)
  unfold jm_stp at h0
  split at h0
  · rename_i op hop
    exact jm_all_lk hall hop g d L stk σ K _ h0 (fun pc' L' stk' σ' h' => jm_blk_ok hall n pc' L' stk' σ' h')
  · exact h0.elim
