/-! Engine isPassed, next -/
def gl (G : List sp_P) (k : Nat) : sp_M := sp_ld (G.getD k [])
theorem gl_at {G : List sp_P} {k : Nat} {p : sp_P} (h : G[k]? = some p) : gl G k = sp_ld p := by
  unfold gl
  rw [List.getD_eq_getElem?_getD, h]; rfl
def EW (f : Nat → Nat → Int32) (e c : Nat) (w : Nat → Nat → Bool) : Prop := ∀ i k, i < k → k < c → f (e + 3) (24 * i + k) = sp_bi (w i k)
def sp_apart (a b : sp_M) : Bool := decide (sp_6 (sp_cm a b) = sp_6 a + sp_6 b)
def sp_pk (G : List sp_P) (w : Nat → Nat → Bool) (i j : Nat) (c : sp_M) (k : Nat) : Bool := decide (k ≠ i) && (decide (k ≠ j) && (sp_dv (gl G k) c && (!sp_wt w i k && !sp_wt w j k)))
def sp_pass (G : List sp_P) (w : Nat → Nat → Bool) (i j : Nat) : Bool := sp_apart (gl G i) (gl G j) || (List.range G.length).any (sp_pk G w i j (sp_cm (gl G i) (gl G j)))
theorem sp_any_s {α : Type} (f : Nat → Bool) (n : Nat) : (List.range (n + 1)).any f = ((List.range n).any f || f n) := by
  rw [List.range_succ, List.any_append]
  simp
section
variable {g : jm_G} {d : Nat} {σ : jm_S} {e n j : Nat} {s : Nat → Nat}
theorem c_leadG {G : List sp_P} {i : Nat} (hE : EL g σ e n) (hS : EP g σ e n j s) (hG : EG σ.1 e n s G) (hi : i < G.length) : J g d 51 0 [some (aR 2 e), some (aI (nI i))] [] σ (jR σ (aI (sp_c (gl G i)))) := by
  have hl := hG.1
  have h1 : G[i]? = some G[i] := List.getElem?_eq_getElem hi
  have h2 := hG.2.2 i _ h1
  rw [gl_at h1]
  exact c_lead hE hS (by omega) h2.1 h2.2.2
theorem gl_ok {f : Nat → Nat → Int32} {G : List sp_P} {i : Nat} (hG : EG f e n s G) (hi : i < G.length) : sp_ok (gl G i) := by
  have h1 : G[i]? = some G[i] := List.getElem?_eq_getElem hi
  rw [gl_at h1]
  exact sp_ld_ok (hG.2.2 i _ h1).2.1
theorem c_isWaitingG {G : List sp_P} {w : Nat → Nat → Bool} {i k : Nat} (hE : EL g σ e n) (hG : EG σ.1 e n s G) (hw : EW σ.1 e G.length w) (hi : i < G.length) (hk : k < G.length) (hne : k ≠ i) : J g d 55 0 [some (aR 2 e), some (aI (nI i)), some (aI (nI k))] [] σ (jR σ (aI (sp_bi (sp_wt w i k)))) := by
  have hl := hG.1
  exact c_isWaiting hE (by omega) (by omega) (fun h => hw i k h hk) (fun h => hw k i (by omega) hi)
theorem c_isPassed {G : List sp_P} {w : Nat → Nat → Bool} {i k : Nat} (hE : EL g σ e n) (hS : EP g σ e n j s) (hG : EG σ.1 e n s G) (hw : EW σ.1 e G.length w) (hi : i < G.length) (hk : k < G.length) : J g (d + 2) 53 0 [some (aR 2 e), some (aI (nI i)), some (aI (nI k)), some (aI (sp_c (sp_cm (gl G i) (gl G k)))), none, none] [] σ (jR σ (aI (sp_bi (sp_pass G w i k)))) := by
  have hl := hG.1
  have o1 := gl_ok hG hi
  have o2 := gl_ok hG hk
  have oc := sp_cm_ok o1 o2
  have b1 := sp_6_lt o1
  have b2 := sp_6_lt o2
  have b3 := sp_6_lt oc
  have loop : sp_apart (gl G i) (gl G k) = false → ∀ m t b, t + m = G.length → b = (List.range t).any (sp_pk G w i k (sp_cm (gl G i) (gl G k))) → J g (d + 2) 53 23 [some (aR 2 e), some (aI (nI i)), some (aI (nI k)), some (aI (sp_c (sp_cm (gl G i) (gl G k)))), some (aI (sp_bi b)), some (aI (nI t))] [] σ (jR σ (aI (sp_bi (sp_pass G w i k)))) := by
    intro hap m
    induction m with
    | zero =>
      intro t b ht hb
      refine jm_run ok_G_isPassed [23] 90 (fun kk hk => ?_)
      conv => whnf
      refine b_le hG.2.1 rfl (fun _ => ?_) (fun h => by omega)
      conv => whnf
      refine hk _ _ _ _ (r_G_isPassed_97 (sp_bi_01 _) ?_)
      unfold sp_pass
      rw [hap, Bool.false_or, hb, show t = G.length by omega]
      exact rfl
    | succ m ih =>
      intro t b ht hb
      have ht' : t < G.length := by omega
      have hrec : ∀ z, z = sp_pk G w i k (sp_cm (gl G i) (gl G k)) t → b = false → J g (d + 2) 53 87 [some (aR 2 e), some (aI (nI i)), some (aI (nI k)), some (aI (sp_c (sp_cm (gl G i) (gl G k)))), some (aI (sp_bi b)), some (aI (nI t))] [aI (sp_bi z)] σ (jR σ (aI (sp_bi (sp_pass G w i k)))) := by
        intro z hz hbf
        refine jm_run ok_G_isPassed [23] 90 (fun kk hk => ?_)
        conv => whnf
        rw [nI_1]
        refine hk _ _ _ _ (ih (t + 1) z (by omega) ?_)
        rw [sp_any_s (α := Nat), ← hb, hbf, hz]; rfl
      have no : sp_pk G w i k (sp_cm (gl G i) (gl G k)) t = false → b = false → J g (d + 2) 53 86 [some (aR 2 e), some (aI (nI i)), some (aI (nI k)), some (aI (sp_c (sp_cm (gl G i) (gl G k)))), some (aI (sp_bi b)), some (aI (nI t))] [] σ (jR σ (aI (sp_bi (sp_pass G w i k)))) := by
        intro hz hbf
        refine jm_run ok_G_isPassed [23, 87] 90 (fun kk hk => ?_)
        conv => whnf
        exact hk _ _ _ _ (hrec false hz.symm hbf)
      refine jm_run ok_G_isPassed [23, 86] 90 (fun kk hk => ?_)
      conv => whnf
      refine b_le hG.2.1 rfl (fun h => by omega) (fun _ => ?_)
      conv => whnf
      refine b_nz rfl (fun hbt => ?_) (fun hbf => ?_)
      · conv => whnf
        refine hk _ _ _ _ (r_G_isPassed_97 (sp_bi_01 _) ?_)
        have h9 : (List.range G.length).any (sp_pk G w i k (sp_cm (gl G i) (gl G k))) = true := by
          rw [hb] at hbt
          obtain ⟨y, hy, hy2⟩ := List.any_eq_true.mp hbt
          exact List.any_eq_true.mpr ⟨y, List.mem_range.mpr (by have := List.mem_range.mp hy; omega), hy2⟩
        unfold sp_pass
        rw [h9, Bool.or_true, hbt]
        exact rfl
      · conv => whnf
        refine b_eq rfl rfl (fun h => ?_) (fun h1 => ?_)
        · conv => whnf
          exact hk _ _ _ _ (no (by unfold sp_pk; rw [decide_eq_false (fun q => q h)]; rfl) hbf)
        · conv => whnf
          refine b_eq rfl rfl (fun h => ?_) (fun h2 => ?_)
          · conv => whnf
            exact hk _ _ _ _ (no (by unfold sp_pk; rw [decide_eq_false (fun q : t ≠ k => q h), Bool.false_and, Bool.and_false]) hbf)
          · conv => whnf
            refine hk _ _ _ _ (k_G_isPassed_52 rfl (c_leadG hE hS hG ht') (fun u hu => ?_))
            subst hu
            refine jm_run ok_G_isPassed [23, 86] 90 (fun kk hk => ?_)
            conv => whnf
            refine hk _ _ _ _ (k_G_isPassed_56 rfl (c_divides (gl_ok hG ht') oc) (fun u hu => ?_))
            subst hu
            refine jm_run ok_G_isPassed [23, 86] 90 (fun kk hk => ?_)
            conv => whnf
            refine b_z rfl (fun h3 => ?_) (fun h3 => ?_)
            · conv => whnf
              exact hk _ _ _ _ (no (by unfold sp_pk; rw [h3, Bool.false_and, Bool.and_false, Bool.and_false]) hbf)
            · conv => whnf
              refine hk _ _ _ _ (k_G_isPassed_66 rfl (c_isWaitingG hE hG hw hi ht' h1) (fun u hu => ?_))
              subst hu
              refine jm_run ok_G_isPassed [23, 86] 90 (fun kk hk => ?_)
              conv => whnf
              refine b_nz rfl (fun h4 => ?_) (fun h4 => ?_)
              · conv => whnf
                exact hk _ _ _ _ (no (by unfold sp_pk; rw [h4]; simp) hbf)
              · conv => whnf
                refine hk _ _ _ _ (k_G_isPassed_76 rfl (c_isWaitingG hE hG hw (by assumption) ht' h2) (fun u hu => ?_))
                subst hu
                refine jm_run ok_G_isPassed [23, 86, 87] 90 (fun kk hk => ?_)
                conv => whnf
                refine b_nz rfl (fun h5 => ?_) (fun h5 => ?_)
                · conv => whnf
                  exact hk _ _ _ _ (no (by unfold sp_pk; rw [h5]; simp) hbf)
                · conv => whnf
                  exact hk _ _ _ _ (hrec true (by unfold sp_pk; rw [h3, h4, h5, decide_eq_true h1, decide_eq_true h2]; rfl) hbf)
  refine jm_run ok_G_isPassed [23] 90 (fun kk hk => ?_)
  conv => whnf
  refine hk _ _ _ _ (k_G_isPassed_3 rfl (c_leadG hE hS hG hi) (fun u hu => ?_))
  subst hu
  refine jm_run ok_G_isPassed [23] 90 (fun kk hk => ?_)
  conv => whnf
  refine hk _ _ _ _ (k_G_isPassed_8 rfl (c_leadG hE hS hG (by assumption)) (fun u hu => ?_))
  subst hu
  refine jm_run ok_G_isPassed [23] 90 (fun kk hk => ?_)
  conv => whnf
  refine b_ne (a := sp_6 (sp_cm (gl G i) (gl G k))) (b := sp_6 (gl G i) + sp_6 (gl G k)) rfl (nI_add _ _) (fun h => ?_) (fun h => ?_)
  · conv => whnf
    exact hk _ _ _ _ (loop (decide_eq_false h) G.length 0 false (Nat.zero_add _) rfl)
  · conv => whnf
    refine hk _ _ _ _ (r_G_isPassed_16 (Or.inr rfl) ?_)
    unfold sp_pass
    rw [show sp_apart (gl G i) (gl G k) = true from decide_eq_true h, Bool.true_or]
    exact rfl
/-- the pair that is next -/
def sp_ns (j : Nat) (G : List sp_P) (w : Nat → Nat → Bool) (k : Nat) (best : Option (Nat × Nat)) (i : Nat) : Option (Nat × Nat) :=
  if w i k = true then (match best with
    | none => some (i, k)
    | some b => if sp_cmp j (sp_cm (gl G i) (gl G k)) (sp_cm (gl G b.1) (gl G b.2)) < 0 then some (i, k) else some b)
  else best
def sp_nk (j : Nat) (G : List sp_P) (w : Nat → Nat → Bool) (best : Option (Nat × Nat)) (k : Nat) : Option (Nat × Nat) := (List.range k).foldl (sp_ns j G w k) best
def sp_next (j : Nat) (G : List sp_P) (w : Nat → Nat → Bool) : Option (Nat × Nat) := (List.range G.length).foldl (sp_nk j G w) none
theorem sp_fold_s {α : Type} (f : α → Nat → α) (a : α) (n : Nat) : (List.range (n + 1)).foldl f a = f ((List.range n).foldl f a) n := by
  rw [List.range_succ, List.foldl_append]; rfl
/-- what next keeps: best and least -/
def nxB (b : Option (Nat × Nat)) : Int32 := match b with
  | none => -1
  | some b => nI (24 * b.1 + b.2)
def nxL (G : List sp_P) (b : Option (Nat × Nat)) (x : Int32) : Prop := match b with
  | none => True
  | some b => x = sp_c (sp_cm (gl G b.1) (gl G b.2)) ∧ b.1 < b.2 ∧ b.2 < G.length
theorem kc_next {L : List (Option jm_V)} {r : List jm_V} {K : jm_O → Prop} {j : Nat} {a b : sp_M} (hj : j < 3) (ha : sp_ok a) (hb : sp_ok b) (hr : Nat.ble (jm_cs r) 8 = true) (h : J g (d + 3) 50 71 L (aI (sp_i (sp_cmp j a b)) :: r) σ K) : J g (d + 3) 50 68 L (aI (sp_c b) :: aI (sp_c a) :: aR 13 (goa g j) :: r) σ K := by
  have : j = 0 ∨ j = 1 ∨ j = 2 := by omega
  rcases this with rfl | rfl | rfl
  · exact k_G_next_68_1 rfl hr (c_cmp1 ha hb) (fun u hu => by subst hu; exact h)
  · exact k_G_next_68_2 rfl hr (c_cmp2 ha hb) (fun u hu => by subst hu; exact h)
  · exact k_G_next_68_3 rfl hr (c_cmp3 ha hb) (fun u hu => by subst hu; exact h)
theorem c_next {G : List sp_P} {w : Nat → Nat → Bool} (hE : EL g σ e n) (hS : EP g σ e n j s) (hG : EG σ.1 e n s G) (hw : EW σ.1 e G.length w) : J g (d + 3) 50 0 [some (aR 2 e), none, none, none, none, none] [] σ (fun u => u = (σ, .inl (some (aI (nxB (sp_next j G w))))) ∧ ∀ b, sp_next j G w = some b → b.1 < b.2 ∧ b.2 < G.length) := by
  obtain ⟨⟨x0, x1, x2, x3, x4, x5, x16⟩, ⟨y2, y3, y4, y113⟩, -⟩ := id hE
  obtain ⟨hj, ho, -⟩ := id hS
  have hl := hG.1
  have outer : ∀ m k x (z4 z5 : Option jm_V), k + m = max 1 G.length → nxL G ((List.range k).foldl (sp_nk j G w) none) x → 1 ≤ k → J g (d + 3) 50 6 [some (aR 2 e), some (aI (nxB ((List.range k).foldl (sp_nk j G w) none))), some (aI x), some (aI (nI k)), z4, z5] [] σ (fun u => u = (σ, .inl (some (aI (nxB (sp_next j G w))))) ∧ ∀ b, sp_next j G w = some b → b.1 < b.2 ∧ b.2 < G.length) := by
    intro m
    induction m with
    | zero =>
      intro k x z4 z5 hkm hL h1
      refine jm_run ok_G_next [6] 90 (fun kk hk => ?_)
      conv => whnf
      refine b_le hG.2.1 rfl (fun _ => ?_) (fun h => by omega)
      conv => whnf
      have he : (List.range k).foldl (sp_nk j G w) none = sp_next j G w := by
        unfold sp_next
        by_cases h0 : G.length = 0
        · rw [h0, show k = 1 by omega]; rfl
        · rw [show k = G.length by omega]
      rw [he] at hL ⊢
      refine hk _ _ _ _ (r_G_next_101 ⟨rfl, fun b hb => ?_⟩)
      rw [hb] at hL
      exact hL.2
    | succ m ih =>
      intro k x z4 z5 hkm hL h1
      have hkl : k < G.length := by omega
      have inner : ∀ m i x (z5 : Option jm_V), i + m = k → nxL G ((List.range i).foldl (sp_ns j G w k) ((List.range k).foldl (sp_nk j G w) none)) x → J g (d + 3) 50 17 [some (aR 2 e), some (aI (nxB ((List.range i).foldl (sp_ns j G w k) ((List.range k).foldl (sp_nk j G w) none)))), some (aI x), some (aI (nI k)), some (aI (nI i)), z5] [] σ (fun u => u = (σ, .inl (some (aI (nxB (sp_next j G w))))) ∧ ∀ b, sp_next j G w = some b → b.1 < b.2 ∧ b.2 < G.length) := by
        intro m
        induction m with
        | zero =>
          intro i x z5 him hL
          refine jm_run ok_G_next [6, 17] 90 (fun kk hk => ?_)
          conv => whnf
          refine b_le (a := k) (b := i) rfl rfl (fun _ => ?_) (fun h => by omega)
          conv => whnf
          rw [nI_1]
          have e9 : (List.range i).foldl (sp_ns j G w k) ((List.range k).foldl (sp_nk j G w) none) = (List.range (k + 1)).foldl (sp_nk j G w) none := by
            rw [sp_fold_s, show i = k by omega]; rfl
          rw [e9] at hL ⊢
          exact hk _ _ _ _ (ih (k + 1) x _ _ (by omega) hL (by omega))
        | succ m ihm =>
          intro i x z5 him hL
          have hil : i < G.length := by omega
          have hik : i < k := by omega
          have hwv := hw i k hik hkl
          have oc := sp_cm_ok (gl_ok hG hil) (gl_ok hG hkl)
          generalize hbe : (List.range i).foldl (sp_ns j G w k) ((List.range k).foldl (sp_nk j G w) none) = best at hL
          have hrec : ∀ x' z5, nxL G (sp_ns j G w k best i) x' → J g (d + 3) 50 88 [some (aR 2 e), some (aI (nxB (sp_ns j G w k best i))), some (aI x'), some (aI (nI k)), some (aI (nI i)), z5] [] σ (fun u => u = (σ, .inl (some (aI (nxB (sp_next j G w))))) ∧ ∀ b, sp_next j G w = some b → b.1 < b.2 ∧ b.2 < G.length) := by
            intro x' z5 hL'
            refine jm_run ok_G_next [6, 17] 90 (fun kk hk => ?_)
            conv => whnf
            rw [nI_1]
            have e9 : sp_ns j G w k best i = (List.range (i + 1)).foldl (sp_ns j G w k) ((List.range k).foldl (sp_nk j G w) none) := by rw [sp_fold_s, hbe]
            rw [e9] at hL' ⊢
            exact hk _ _ _ _ (ihm (i + 1) x' z5 (by omega) hL')
          have take : ∀ x, sp_ns j G w k best i = some (i, k) → J g (d + 3) 50 77 [some (aR 2 e), some (aI (nxB best)), some (aI x), some (aI (nI k)), some (aI (nI i)), some (aI (sp_c (sp_cm (gl G i) (gl G k))))] [] σ (fun u => u = (σ, .inl (some (aI (nxB (sp_next j G w))))) ∧ ∀ b, sp_next j G w = some b → b.1 < b.2 ∧ b.2 < G.length) := by
            intro x ht
            have h88 := hrec (sp_c (sp_cm (gl G i) (gl G k))) (some (aI (sp_c (sp_cm (gl G i) (gl G k))))) (by rw [ht]; exact ⟨rfl, hik, hkl⟩)
            rw [ht] at h88
            refine jm_run ok_G_next [6, 17, 88] 90 (fun kk hk => ?_)
            conv => whnf
            rw [show (24 : Int32) = nI 24 from rfl, pk_mul, nI_add]
            exact hk _ _ _ _ h88
          refine jm_run ok_G_next [6, 17, 88] 90 (fun kk hk => ?_)
          conv => whnf
          refine b_le (a := k) (b := i) rfl rfl (fun h => by omega) (fun _ => ?_)
          conv => whnf
          refine jg x2 ?_
          conv => whnf
          refine ja (i := 24 * i + k) (by rw [show (24 : Int32) = nI 24 from rfl, pk_mul, nI_add]) y3 hwv ?_
          conv => whnf
          refine b_nz rfl (fun hwt => ?_) (fun hwf => ?_)
          · conv => whnf
            refine hk _ _ _ _ (k_G_next_44 rfl (c_leadG hE hS hG hil) (fun u hu => ?_))
            subst hu
            refine jm_run ok_G_next [6, 17, 88] 90 (fun kk hk => ?_)
            conv => whnf
            refine hk _ _ _ _ (k_G_next_49 rfl (c_leadG hE hS hG hkl) (fun u hu => ?_))
            subst hu
            show J g (d + 3) 50 52 _ _ σ _
            refine k_G_next_52 rfl (c_common (gl_ok hG hil) (gl_ok hG hkl)) (fun u hu => ?_)
            subst hu
            refine jm_run ok_G_next [6, 17, 88, 77] 90 (fun kk hk => ?_)
            conv => whnf
            cases best with
            | none =>
              refine ⟨fun _ => ?_, fun h => absurd (by decide) h⟩
              conv => whnf
              exact hk _ _ _ _ (take _ (by unfold sp_ns; rw [if_pos hwt]))
            | some b =>
              obtain ⟨hx, hb1, hb2⟩ := hL
              have ob := sp_cm_ok (gl_ok hG (show b.1 < G.length by omega)) (gl_ok hG hb2)
              have hcb := sp_cmp_b oc ob j
              refine b_lt (a := 24 * b.1 + b.2) (b := 0) rfl rfl (fun h => by omega) (fun _ => ?_)
              conv => whnf
              refine jg ho ?_
              conv => whnf
              rw [hx]
              refine hk _ _ _ _ (kc_next hj oc ob rfl ?_)
              refine jm_run ok_G_next [6, 17, 88, 77] 90 (fun kk hk => ?_)
              conv => whnf
              refine bi_lt rfl sp_i0 (fun h => ?_) (fun h => ?_)
              · conv => whnf
                exact hk _ _ _ _ (take _ (by unfold sp_ns; rw [if_pos hwt]; dsimp only; rw [if_pos h]))
              · conv => whnf
                have e9 : sp_ns j G w k (some b) i = some b := by unfold sp_ns; rw [if_pos hwt]; dsimp only; rw [if_neg (by omega)]
                have h88 := hrec (sp_c (sp_cm (gl G b.1) (gl G b.2))) (some (aI (sp_c (sp_cm (gl G i) (gl G k))))) (by rw [e9]; exact ⟨rfl, hb1, hb2⟩)
                rw [e9] at h88
                exact hk _ _ _ _ h88
          · conv => whnf
            have e9 : sp_ns j G w k best i = best := by unfold sp_ns; rw [if_neg (by rw [hwf]; decide)]
            have h88 := hrec x z5 (by rw [e9]; exact hL)
            rw [e9] at h88
            exact hk _ _ _ _ h88
      refine jm_run ok_G_next [6, 17] 90 (fun kk hk => ?_)
      conv => whnf
      refine b_le hG.2.1 rfl (fun h => by omega) (fun _ => ?_)
      conv => whnf
      exact hk _ _ _ _ (inner k 0 x z5 (Nat.zero_add _) hL)
  refine jm_run ok_G_next [6] 90 (fun kk hk => ?_)
  conv => whnf
  exact hk _ _ _ _ (outer (max 1 G.length - 1) 1 0 none none (by omega) trivial (by decide))
end
