/-! Engine swap, thin -/
def jm_wr_q {σ : jm_S} {q k a q' : Nat} (h : q' ≠ q) : (jm_wr σ q k a).2.1 q' = σ.2.1 q' := by simp [jm_wr, jm_u, h]
theorem jm_wr_at {σ : jm_S} {q k a : Nat} : (jm_wr σ q k a).2.1 q k = a := by simp [jm_wr, jm_u]
theorem jm_wr_k {σ : jm_S} {q k a k' : Nat} (h : k' ≠ k) : (jm_wr σ q k a).2.1 q k' = σ.2.1 q k' := by simp [jm_wr, jm_u, h]
/-- only the row of references at q has changed -/
def RQ (σ : jm_S) (ρ : (Nat → Nat → Nat) × (Nat × Nat)) (q : Nat) : Prop := (∀ y, y ≠ q → ρ.1 y = σ.2.1 y) ∧ ρ.2 = σ.2.2
theorem RQ.refl (σ : jm_S) (q : Nat) : RQ σ σ.2 q := ⟨fun _ _ => rfl, rfl⟩
theorem RQ.plk {g : jm_G} {σ : jm_S} {f : Nat → Nat → Int32} {ρ : (Nat → Nat → Nat) × (Nat × Nat)} {q a : Nat} (h : RQ σ ρ q) (hp : pl g σ a) (ha : a ≠ q) : pl g (f, ρ) a := by
  unfold pl at hp ⊢
  show ρ.1 a 1 = _ ∧ ρ.1 a 2 = _ ∧ ρ.1 a 3 = _ ∧ _
  rw [h.1 a ha]
  exact hp
theorem RQ.el {g : jm_G} {σ : jm_S} {f : Nat → Nat → Int32} {ρ : (Nat → Nat → Nat) × (Nat × Nat)} {e n : Nat} (h : RQ σ ρ (e + 2)) (hE : EL g σ e n) : EL g (f, ρ) e n := by
  obtain ⟨a1, a2, a3, a4, a5, a6⟩ := hE
  refine ⟨?_, a2, fun k hk => ⟨?_, h.plk (a3 k hk).2 (by omega)⟩, h.plk a4 (by omega), h.plk a5 (by omega), fun s hs => ?_⟩
  · show ρ.1 e 0 = _ ∧ ρ.1 e 1 = _ ∧ ρ.1 e 2 = _ ∧ ρ.1 e 3 = _ ∧ ρ.1 e 4 = _ ∧ ρ.1 e 5 = _ ∧ ρ.1 e 16 = _
    rw [h.1 e (by omega)]
    exact a1
  · show ρ.1 (e + 4) k = _
    rw [h.1 _ (by omega)]
    exact (a3 k hk).1
  · obtain ⟨b1, b2, b3, b4, b5⟩ := a6 s hs
    have hge := eo_ge e n s
    refine ⟨?_, ?_, h.plk b3 (by omega), b4, fun k hk => ⟨?_, h.plk (b5 k hk).2 (by omega)⟩⟩
    · show ρ.1 _ _ = _; rw [h.1 _ (by omega)]; exact b1
    · show ρ.1 _ _ = _; rw [h.1 _ (by omega)]; exact b2
    · show ρ.1 _ _ = _; rw [h.1 _ (by omega)]; exact (b5 k hk).1
theorem RQ.rm {g : jm_G} {σ : jm_S} {f : Nat → Nat → Int32} {ρ : (Nat → Nat → Nat) × (Nat × Nat)} {q : Nat} (h : RQ σ ρ q) (hr : sp_rm g σ) : sp_rm g (f, ρ) := by
  unfold sp_rm at hr ⊢
  show gdm g ρ.2.1 = 7 ∧ ρ.2.1 + 1 ≤ _ ∧ ρ.2.2 + 7 ≤ _
  rw [h.2]
  exact hr
/-- two places changed -/
def sw (s : Nat → Nat) (i k : Nat) : Nat → Nat := fun x => if x = k then s i else if x = i then s k else s x
section
variable {g : jm_G} {d : Nat} {σ : jm_S} {e n j : Nat} {s : Nat → Nat}
theorem c_swap {i k : Nat} {f : Nat → Nat → Int32} {ρ : (Nat → Nat → Nat) × (Nat × Nat)} (hE : EL g σ e n) (hρ : RQ σ ρ (e + 2)) (hS : EP g (f, ρ) e n j s) (hi : i < 25) (hk25 : k < 25) :
    J g d 61 0 [some (aR 2 e), some (aI (nI i)), some (aI (nI k)), none] [] (f, ρ) (fun u => ∃ ρ', RQ σ ρ' (e + 2) ∧ EP g (f, ρ') e n j (sw s i k) ∧ u = ((f, ρ'), .inl none)) := by
  have hE' := hρ.el (f := f) hE
  obtain ⟨⟨x0, x1, x2, x3, x4, x5, x16⟩, ⟨y2, y3, y4, y113⟩, -⟩ := id hE'
  obtain ⟨hj, ho, hs, hinj⟩ := id hS
  have hsi := hs i hi
  have hsk := hs k hk25
  have e5 : ∀ ρ1 : (Nat → Nat → Nat) × (Nat × Nat), (jm_wr (f, ρ) (e + 2) i (eo e n (s k) + 1)).2 = ρ1 → ρ1.1 e = ρ.1 e := by intro ρ1 h; rw [← h]; exact jm_wr_q (by omega)
  refine jm_run ok_G_swap [] 90 (fun kk hk => ?_)
  conv => whnf
  refine jg x1 ?_
  conv => whnf
  refine jr rfl y2 hsi.2 ?_
  conv => whnf
  refine jg x1 ?_
  conv => whnf
  refine jg x1 ?_
  conv => whnf
  refine jr rfl y2 hsk.2 ?_
  conv => whnf
  refine ⟨vp_in_nI (by rw [y2]; exact hi) (by rw [y2]; decide), ?_⟩
  rw [nI_clamp (by omega)]
  conv => whnf
  refine jg (y := e + 2) ((congrFun (jm_wr_q (show e ≠ e + 2 by omega)) 1).trans x1) ?_
  conv => whnf
  refine ⟨vp_in_nI (by rw [y2]; exact hk25) (by rw [y2]; decide), ?_⟩
  rw [nI_clamp (by omega)]
  conv => whnf
  refine hk _ _ _ _ (r_G_swap_26 ⟨(jm_wr (jm_wr (f, ρ) (e + 2) i (eo e n (s k) + 1)) (e + 2) k (eo e n (s i) + 1)).2, ⟨fun y hy => ?_, hρ.2⟩, ⟨hj, ?_, fun x hx => ?_, fun x y hx hy hxy => ?_⟩, rfl⟩)
  · rw [jm_wr_q hy, jm_wr_q hy]; exact hρ.1 y hy
  · show (jm_wr _ _ _ _).2.1 e 8 = _
    rw [jm_wr_q (by omega), jm_wr_q (by omega)]; exact ho
  · show sw s i k x < 25 ∧ (jm_wr _ _ _ _).2.1 (e + 2) x = _
    unfold sw
    by_cases h1 : x = k
    · subst h1; rw [if_pos rfl, jm_wr_at]; exact ⟨hsi.1, rfl⟩
    · rw [if_neg h1, jm_wr_k h1]
      by_cases h2 : x = i
      · subst h2; rw [if_pos rfl, jm_wr_at]; exact ⟨hsk.1, rfl⟩
      · rw [if_neg h2, jm_wr_k h2]; exact hs x hx
  · have tr : ∀ x, sw s i k x = s (if x = k then i else if x = i then k else x) := by
      intro x
      unfold sw
      split
      · rfl
      · split <;> rfl
    have trb : ∀ x, x < 25 → (if x = k then i else if x = i then k else x) < 25 := by
      intro x hx
      split
      · exact hi
      · split
        · exact hk25
        · exact hx
    rw [tr, tr] at hxy
    have h9 := hinj _ _ (trb x hx) (trb y hy) hxy
    split at h9 <;> split at h9 <;> (try split at h9) <;> (try split at h9) <;> omega
end
def sp_gone (els : List sp_E) (i : Nat) : Bool := (List.range els.length).any (fun k => decide (k ≠ i) && (sp_dv (gl (sp_G els) k) (gl (sp_G els) i) && (!decide (gl (sp_G els) k = gl (sp_G els) i) || decide (k < i))))
/-- those that stay, of the first i -/
def sp_kp (els : List sp_E) : Nat → List sp_E
  | 0 => []
  | i + 1 => if sp_gone els i = true then sp_kp els i else sp_kp els i ++ [sp_at0 els i]
def sp_ei (j : Nat) (E : sp_E) : List sp_E → List sp_E
  | [] => [E]
  | x :: r => if sp_cmp j (sp_ld E.1) (sp_ld x.1) < 0 then x :: sp_ei j E r else E :: x :: r
def sp_eo (j : Nat) : List sp_E → List sp_E → List sp_E
  | acc, [] => acc
  | acc, t :: r => sp_eo j (sp_ei j t acc) r
def sp_thin (j : Nat) (els : List sp_E) : List sp_E := (sp_eo j [] (sp_kp els els.length)).reverse
