/-! THE MODEL: onePair, the search -/
/-- what is fixed while a basis is made -/
def MK (f : Nat → Nat → Int32) (m base n j gens : Nat) (ws : Bool) (sh lim : Nat) : Prop := MC f m n j ∧ f m 19 = nI base ∧ f m 21 = -1 ∧ f m 7 = nI gens ∧ f m 22 = sp_bi ws ∧ f m 14 = nI lim ∧ (base = 50 ∨ base = 75) ∧ gens ≤ 8 ∧ sh = cond ws gens 0 ∧ lim ≤ 20000
theorem MK_fr {f f' : Nat → Nat → Int32} {m base n j gens : Nat} {ws : Bool} {sh lim : Nat} (h : MK f m base n j gens ws sh lim) (h1 : f' m 1 = f m 1) (h2 : f' m 2 = f m 2) (h19 : f' m 19 = f m 19) (h21 : f' m 21 = f m 21) (h7 : f' m 7 = f m 7) (h22 : f' m 22 = f m 22) (h14 : f' m 14 = f m 14) : MK f' m base n j gens ws sh lim :=
  ⟨⟨h1.trans h.1.1, h2.trans h.1.2.1, h.1.2.2⟩, h19.trans h.2.1, h21.trans h.2.2.1, h7.trans h.2.2.2.1, h22.trans h.2.2.2.2.1, h14.trans h.2.2.2.2.2.1, h.2.2.2.2.2.2⟩
theorem MK.sh8 {f : Nat → Nat → Int32} {m base n j gens : Nat} {ws : Bool} {sh lim : Nat} (h : MK f m base n j gens ws sh lim) : sh ≤ 8 := by
  have h1 := h.2.2.2.2.2.2.2.2.1
  have h2 := h.2.2.2.2.2.2.2.1
  cases ws with
  | false => have : sh = 0 := h1; omega
  | true => have : sh = gens := h1; omega
/-- the elements and the waiting pairs -/
def MB (f : Nat → Nat → Int32) (m : Nat) (T : Nat → sp_P) (base sh : Nat) (st : sp_ES) : Prop := (∀ i E, st.1[i]? = some E → EA5 T base sh i E) ∧ f m 20 = nI st.1.length ∧ EW5 f m st.1.length st.2
theorem MB.mg {f : Nat → Nat → Int32} {m : Nat} {T : Nat → sp_P} {base sh j n : Nat} {st : sp_ES} (h : MB f m T base sh st) (hs : SE j n sh st.1) : MG T base n (sp_G st.1) := by
  intro i p hp
  unfold sp_G at hp
  rw [List.getElem?_map] at hp
  cases hg : st.1[i]? with
  | none => rw [hg] at hp; cases hp
  | some E =>
    rw [hg] at hp
    cases hp
    have hE := List.mem_of_getElem? hg
    exact ⟨(h.1 i E hg).1, (hs.1 E hE).2.1.1, (hs.1 E hE).2.2, (hs.2.2 E hE).2.1.1⟩
theorem sp_G_len (els : List sp_E) : (sp_G els).length = els.length := by rw [sp_G, List.length_map]
/-- the numbers that a basis changes -/
def kf (k : Nat) : Prop := k = 11 ∨ k = 12 ∨ k = 13 ∨ k = 16 ∨ k = 17 ∨ k = 20 ∨ k = 21 ∨ k = 24 ∨ k = 25 ∨ k = 26
/-- the slots that a basis changes -/
def sl (base sh q : Nat) : Prop := (base ≤ q ∧ q < base + 25) ∨ (100 ≤ q ∧ q < 125) ∨ (150 ≤ q ∧ q < 170) ∨ (sh ≠ 0 ∧ 170 ≤ q ∧ q < 370)
def FK (σ : jm_S) (m : Nat) (f : Nat → Nat → Int32) (T T' : Nat → sp_P) (base sh : Nat) : Prop := (∀ q, ¬ (m ≤ q ∧ q ≤ m + 4) → q ≠ m + 7 → q ≠ m + 8 → f q = σ.1 q) ∧ (∀ k, ¬ kf k → f m k = σ.1 m k) ∧ ∀ q, ¬ sl base sh q → T' q = T q
theorem FK.refl (σ : jm_S) (m : Nat) (T : Nat → sp_P) (base sh : Nat) : FK σ m σ.1 T T base sh := ⟨fun _ _ _ _ => rfl, fun _ _ => rfl, fun _ _ => rfl⟩
theorem FK.trans {σ : jm_S} {m : Nat} {f f' : Nat → Nat → Int32} {T T' T'' : Nat → sp_P} {base sh : Nat} {ρ : (Nat → Nat → Nat) × (Nat × Nat)} (h : FK σ m f T T' base sh) (h' : FK (f, ρ) m f' T' T'' base sh) : FK σ m f' T T'' base sh := ⟨fun q a b c => (h'.1 q a b c).trans (h.1 q a b c), fun k a => (h'.2.1 k a).trans (h.2.1 k a), fun q a => (h'.2.2 q a).trans (h.2.2 q a)⟩
theorem FM.fk {σ : jm_S} {m : Nat} {f : Nat → Nat → Int32} {T T' : Nat → sp_P} {base sh : Nat} (h : FM σ m f) (hT : ∀ q, ¬ sl base sh q → T' q = T q) : FK σ m f T T' base sh := ⟨fun q a _ _ => h.1 q a, fun k a => h.2 k (fun e => a (by unfold kf; omega)) (fun e => a (by unfold kf; omega)) (fun e => a (by unfold kf; omega)), hT⟩
theorem FD5.fk {σ : jm_S} {m : Nat} {f : Nat → Nat → Int32} {T T' : Nat → sp_P} {base sh : Nat} (h : FD5 σ m f) (hT : ∀ q, ¬ sl base sh q → T' q = T q) : FK σ m f T T' base sh := ⟨fun q a _ _ => h.1 q a, fun k a => h.2 k (fun e => a (by unfold kf; omega)) (fun e => a (by unfold kf; omega)) (fun e => a (by unfold kf; omega)) (fun e => a (by unfold kf; omega)) (fun e => a (by unfold kf; omega)), hT⟩
theorem tU_fk {T : Nat → sp_P} {base sh p : Nat} {l : sp_P} (hp : sl base sh p) : ∀ q, ¬ sl base sh q → tU T p l q = T q := fun q hq => tU_ne (fun e => hq (by rw [e]; exact hp))
theorem i25 (a b : Nat) : (25 : Int32) * nI a + nI b = nI (25 * a + b) := by rw [show (25 : Int32) * nI a = nI (25 * a) from pk_mul 25 a, nI_add]
def bI (b : Option (Nat × Nat)) : Int32 := match b with
  | none => -1
  | some b => nI b.1
def bJ (b : Option (Nat × Nat)) : Int32 := match b with
  | none => -1
  | some b => nI b.2
def nx5 (G : List sp_P) (b : Option (Nat × Nat)) (x : Int32) : Prop := match b with
  | none => True
  | some b => x = sp_d (sp_cm (gl G b.1) (gl G b.2)) ∧ b.1 < b.2 ∧ b.2 < G.length
section
variable {g : jm_G} {d : Nat} {σ : jm_S} {m : Nat}
set_option maxRecDepth 8000 in
theorem c_mseek {T : Nat → sp_P} {base n j : Nat} {G : List sp_P} {w : Nat → Nat → Bool} {K : jm_O → Prop} (hM : ML g σ m) (hC : MC σ.1 m n j) (hT : MS σ.1 m T) (hbase : base = 50 ∨ base = 75) (h19 : σ.1 m 19 = nI base) (h20 : σ.1 m 20 = nI G.length) (hG24 : G.length ≤ 24) (hG : MG T base n G) (hw : EW5 σ.1 m G.length w)
    (hnx : ∀ (x : Int32) (z4 z5 z6 z7 : Option jm_V), nx5 G (sp_next j G w) x → J g (d + 3) 108 107 [some (aR 6 m), some (aI (bI (sp_next j G w))), some (aI (bJ (sp_next j G w))), some (aI x), z4, z5, z6, z7] [] σ K) :
    J g (d + 3) 108 0 [some (aR 6 m), none, none, none, none, none, none, none] [] σ K := by
  have outer : ∀ N k x (z5 z6 z7 : Option jm_V), k + N = G.length → nx5 G ((List.range k).foldl (sp_nk j G w) none) x → J g (d + 3) 108 9 [some (aR 6 m), some (aI (bI ((List.range k).foldl (sp_nk j G w) none))), some (aI (bJ ((List.range k).foldl (sp_nk j G w) none))), some (aI x), some (aI (nI k)), z5, z6, z7] [] σ K := by
    intro N
    induction N with
    | zero =>
      intro k x z5 z6 z7 hkN hL
      obtain rfl : k = G.length := by omega
      refine jm_run ok_M_onePair [107] 90 (fun kk hk => ?_)
      conv => whnf
      refine b_le h20 rfl (fun _ => ?_) (fun h => by omega)
      conv => whnf
      exact hk _ _ _ _ (hnx x _ _ _ _ hL)
    | succ N ih =>
      intro k x z5 z6 z7 hkN hL
      have hkl : k < G.length := by omega
      obtain ⟨lk1, lk2, lk3, lk4⟩ := hG.gl hkl
      have inner : ∀ N i x (z6 z7 : Option jm_V), i + N = k → nx5 G ((List.range i).foldl (sp_ns j G w k) ((List.range k).foldl (sp_nk j G w) none)) x → J g (d + 3) 108 21 [some (aR 6 m), some (aI (bI ((List.range i).foldl (sp_ns j G w k) ((List.range k).foldl (sp_nk j G w) none)))), some (aI (bJ ((List.range i).foldl (sp_ns j G w k) ((List.range k).foldl (sp_nk j G w) none)))), some (aI x), some (aI (nI k)), some (aI (nI i)), z6, z7] [] σ K := by
        intro N
        induction N with
        | zero =>
          intro i x z6 z7 hiN hL
          have e9 : (List.range i).foldl (sp_ns j G w k) ((List.range k).foldl (sp_nk j G w) none) = (List.range (k + 1)).foldl (sp_nk j G w) none := by
            rw [sp_fold_s, show i = k by omega]; rfl
          rw [e9] at hL ⊢
          refine jm_run ok_M_onePair [9] 90 (fun kk hk => ?_)
          conv => whnf
          refine b_le (a := k) (b := i) rfl rfl (fun _ => ?_) (fun h => by omega)
          conv => whnf
          rw [nI_1]
          exact hk _ _ _ _ (ih (k + 1) x _ _ _ (by omega) hL)
        | succ N ihm =>
          intro i x z6 z7 hiN hL
          have hil : i < G.length := by omega
          have hik : i < k := by omega
          obtain ⟨li1, li2, li3, li4⟩ := hG.gl hil
          have hwv := hw i k hik hkl
          have oc := sp_cm_ok li3 lk3
          have vc := HV_cm li4 lk4
          generalize hbe : (List.range i).foldl (sp_ns j G w k) ((List.range k).foldl (sp_nk j G w) none) = best at hL
          have hrec : ∀ x' z6 z7, nx5 G (sp_ns j G w k best i) x' → J g (d + 3) 108 95 [some (aR 6 m), some (aI (bI (sp_ns j G w k best i))), some (aI (bJ (sp_ns j G w k best i))), some (aI x'), some (aI (nI k)), some (aI (nI i)), z6, z7] [] σ K := by
            intro x' z6 z7 hL'
            have e9 : sp_ns j G w k best i = (List.range (i + 1)).foldl (sp_ns j G w k) ((List.range k).foldl (sp_nk j G w) none) := by rw [sp_fold_s, hbe]
            rw [e9] at hL' ⊢
            refine jm_run ok_M_onePair [21] 90 (fun kk hk => ?_)
            conv => whnf
            rw [nI_1]
            exact hk _ _ _ _ (ihm (i + 1) x' z6 z7 (by omega) hL')
          have take : ∀ x, sp_ns j G w k best i = some (i, k) → J g (d + 3) 108 86 [some (aR 6 m), some (aI (bI best)), some (aI (bJ best)), some (aI x), some (aI (nI k)), some (aI (nI i)), some (aI (sp_d (sp_cm (gl G i) (gl G k)))), z7] [] σ K := by
            intro x ht
            have h95 := hrec (sp_d (sp_cm (gl G i) (gl G k))) (some (aI (sp_d (sp_cm (gl G i) (gl G k))))) z7 (by rw [ht]; exact ⟨rfl, hik, hkl⟩)
            rw [ht] at h95
            refine jm_run ok_M_onePair [95] 90 (fun kk hk => ?_)
            conv => whnf
            exact hk _ _ _ _ h95
          refine jm_run ok_M_onePair [95] 90 (fun kk hk => ?_)
          conv => whnf
          refine b_le (a := k) (b := i) rfl rfl (fun h => by omega) (fun _ => ?_)
          conv => whnf
          refine jg hM.waits ?_
          conv => whnf
          refine ja (i25 i k) hM.l7 hwv ?_
          conv => whnf
          refine b_z rfl (fun hwf => ?_) (fun hwt => ?_)
          · conv => whnf
            have e9 : sp_ns j G w k best i = best := by unfold sp_ns; rw [if_neg (by rw [hwf]; decide)]
            have h95 := hrec x z6 z7 (by rw [e9]; exact hL)
            rw [e9] at h95
            exact hk _ _ _ _ h95
          · conv => whnf
            rw [h19, nI_add]
            refine hk _ _ _ _ (k_M_onePair_53 rfl (c_mlead hM hT (by omega) li2) (fun u hu => ?_))
            subst hu
            rw [li1]
            show J g (d + 3) 108 56 _ _ σ _
            refine jm_run ok_M_onePair [95] 90 (fun kk hk => ?_)
            conv => whnf
            rw [h19, nI_add]
            refine hk _ _ _ _ (k_M_onePair_64 rfl (c_mlead hM hT (by omega) lk2) (fun u hu => ?_))
            subst hu
            rw [lk1]
            refine k_M_onePair_67 rfl (c_mcommon li3 lk3 li4 lk4 hC.1 hC.2.2.1) (fun u hu => ?_)
            subst hu
            show J g (d + 3) 108 70 _ _ σ _
            refine jm_run ok_M_onePair [95, 86] 90 (fun kk hk => ?_)
            conv => whnf
            cases best with
            | none =>
              refine ⟨fun _ => ?_, fun h => absurd (show (-1 : Int32) < 0 by decide) h⟩
              conv => whnf
              exact hk _ _ _ _ (take _ (by unfold sp_ns; rw [if_pos hwt]))
            | some b =>
              obtain ⟨hx, hb1, hb2⟩ := hL
              obtain ⟨-, -, b13, b14⟩ := hG.gl (i := b.1) (by omega)
              obtain ⟨-, -, b23, b24⟩ := hG.gl (i := b.2) hb2
              have ob := sp_cm_ok b13 b23
              refine b_lt (a := b.1) (b := 0) rfl rfl (fun h => by omega) (fun _ => ?_)
              conv => whnf
              rw [hx]
              refine hk _ _ _ _ (k_M_onePair_80 rfl (c_mcmp oc ob vc (HV_cm b14 b24) hC) (fun u hu => ?_))
              subst hu
              show J g (d + 3) 108 83 _ _ σ _
              refine jm_run ok_M_onePair [95, 86] 90 (fun kk hk => ?_)
              conv => whnf
              refine sg_ge (fun h => ?_) (fun h => ?_)
              · conv => whnf
                have e9 : sp_ns j G w k (some b) i = some b := by unfold sp_ns; rw [if_pos hwt]; dsimp only; rw [if_neg (by omega)]
                have h95 := hrec (sp_d (sp_cm (gl G b.1) (gl G b.2))) (some (aI (sp_d (sp_cm (gl G i) (gl G k))))) z7 (by rw [e9]; exact ⟨rfl, hb1, hb2⟩)
                rw [e9] at h95
                exact hk _ _ _ _ h95
              · conv => whnf
                exact hk _ _ _ _ (take _ (by unfold sp_ns; rw [if_pos hwt]; dsimp only; rw [if_pos h]))
      refine jm_run ok_M_onePair [21] 90 (fun kk hk => ?_)
      conv => whnf
      refine b_le h20 rfl (fun h => by omega) (fun _ => ?_)
      conv => whnf
      exact hk _ _ _ _ (inner k 0 x _ _ (Nat.zero_add _) hL)
  refine jm_run ok_M_onePair [9] 90 (fun kk hk => ?_)
  conv => whnf
  exact hk _ _ _ _ (outer G.length 0 0 _ _ _ (by omega) trivial)
end
