/-! THE MODEL: onePair, a pair -/
theorem MK_fk {σ : jm_S} {f : Nat → Nat → Int32} {T T' : Nat → sp_P} {m base n j gens : Nat} {ws : Bool} {sh lim b' s' : Nat} (h : MK σ.1 m base n j gens ws sh lim) (hK : FK σ m f T T' b' s') (h21 : f m 21 = -1) : MK f m base n j gens ws sh lim :=
  MK_fr h (hK.2.1 1 (by unfold kf; decide)) (hK.2.1 2 (by unfold kf; decide)) (hK.2.1 19 (by unfold kf; decide)) (h21.trans h.2.2.1.symm) (hK.2.1 7 (by unfold kf; decide)) (hK.2.1 22 (by unfold kf; decide)) (hK.2.1 14 (by unfold kf; decide))
/-- where a pair is under way -/
def OS (σ : jm_S) (m : Nat) (f : Nat → Nat → Int32) (T T1 : Nat → sp_P) (base sh : Nat) (st : sp_ES) : Prop := FK σ m f T T1 base sh ∧ MS f m T1 ∧ MB f m T1 base sh st ∧ f m 21 = -1 ∧ f m 24 = σ.1 m 24 ∧ f m 25 = σ.1 m 25 ∧ f m 12 = 0
theorem OS.fm {σ : jm_S} {m : Nat} {f f' : Nat → Nat → Int32} {T T1 : Nat → sp_P} {base sh p : Nat} {st : sp_ES} {l : sp_P} {ρ : (Nat → Nat → Nat) × (Nat × Nat)} (h : OS σ m f T T1 base sh st) (hf : FM (f, ρ) m f') (hS : MS f' m (tU T1 p l)) (hp : 150 ≤ p ∧ p < 170) (hbase : base = 50 ∨ base = 75) (hl : st.1.length ≤ 24) : OS σ m f' T (tU T1 p l) base sh st := by
  obtain ⟨h1, h2, ⟨h3, h4, h5⟩, h6, h7, h8, h9⟩ := h
  refine ⟨h1.trans (hf.fk (tU_fk (Or.inr (Or.inr (Or.inl hp))))), hS, ⟨fun i E hE => EA5_fr (h3 i E hE) (tU_ne ?_) (fun k hk => tU_ne (by omega)), (hf.2 20 (by decide) (by decide) (by decide)).trans h4, fun i k a b => by rw [hf.1 (m + 7) (by omega)]; exact h5 i k a b⟩, (hf.2 21 (by decide) (by decide) (by decide)).trans h6, (hf.2 24 (by decide) (by decide) (by decide)).trans h7, (hf.2 25 (by decide) (by decide) (by decide)).trans h8, (hf.2 12 (by decide) (by decide) (by decide)).trans h9⟩
  have := (List.getElem?_eq_some_iff.mp hE).1
  omega
theorem OS.nil {σ : jm_S} {m : Nat} {f : Nat → Nat → Int32} {T T1 : Nat → sp_P} {base sh p : Nat} {st : sp_ES} {ρ : (Nat → Nat → Nat) × (Nat × Nat)} (h : OS σ m f T T1 base sh st) (hp : 150 ≤ p ∧ p < 170) (hbase : base = 50 ∨ base = 75) (hl : st.1.length ≤ 24) : OS σ m (jm_wi (f, ρ) (m + 4) p 0).1 T (tU T1 p []) base sh st :=
  h.fm (ρ := ρ) ⟨fun q hq => jm_wi_q (by omega), fun k _ _ _ => by rw [jm_wi_q (by omega)]⟩ (MS_nil h.2.1) hp hbase hl
/-- how a pair ends -/
def jP5 (σ : jm_S) (m : Nat) (T : Nat → sp_P) (base sh lim c : Nat) (r : Nat × (Int32 ⊕ sp_ES)) : jm_O → Prop := fun u => ∃ f T', FK σ m f T T' base sh ∧ MS f m T' ∧ f m 13 = nI (lim - r.1) ∧ r.1 ≤ lim ∧ f m 21 = -1 ∧ f m 24 = σ.1 m 24 ∧ f m 25 = σ.1 m 25 ∧ ((∃ st', r.2 = .inr st' ∧ MB f m T' base sh st' ∧ f m 11 = 0 ∧ f m 12 = 0) ∨ (∃ x, r.2 = .inl x ∧ flg f m x ∧ f m 20 = nI c)) ∧ u = ((f, σ.2), .inl (some (aI 1)))
section
variable {g : jm_G} {d : Nat} {σ : jm_S} {m : Nat}
set_option maxRecDepth 8000 in
theorem c_mpairE {T T1 : Nat → sp_P} {base n j gens sh lim N : Nat} {ws : Bool} {st : sp_ES} {rest : sp_P} {ss : List sp_P} {f : Nat → Nat → Int32} {L1 L2 L3 L4 L5 L6 : Int32} {z7 : Option jm_V} (hM : ML g σ m) (hMK : MK σ.1 m base n j gens ws sh lim) (hSE : SE j n sh st.1) (hO : OS σ m f T T1 base sh st) (hc : st.1.length < 24) (h11 : f m 11 = 0) (h13 : f m 13 = nI (lim - N)) (hN : N ≤ lim)
    (hr : T1 152 = rest) (hrw : sp_pw rest) (hr0 : rest ≠ []) (hsl : ss.length = sh) (hss : ∀ k q, ss[k]? = some q → T1 (154 + k) = q ∧ sp_pw q) :
    J g (d + 4) 108 431 [some (aR 6 m), some (aI L1), some (aI L2), some (aI L3), some (aI L4), some (aI L5), some (aI L6), z7] [] (f, σ.2) (jP5 σ m T base sh lim st.1.length (match sp_mon (rest, ss) with | none => (N, .inl (-7)) | some E => (N, .inr (st.1 ++ [E], sp_jw st.1.length st.2)))) := by
  obtain ⟨hK, hS, ⟨hB1, hB2, hB3⟩, h21, h24, h25, h12⟩ := id hO
  have hmk := MK_fk hMK hK h21
  obtain ⟨mC, m19, -, m7, m22, m14, hbase, hg8, hsh, hlim⟩ := hmk
  have hsh8 := hMK.sh8
  have copies : ∀ (c k : Nat), k + c = sh → ∀ (f2 : Nat → Nat → Int32) (T2 : Nat → sp_P), (∀ q, ¬ (m + 1 ≤ q ∧ q ≤ m + 4) → f2 q = f q) → MS f2 m T2 → T2 (base + st.1.length) = rest → (∀ k', k' < k → ∀ q, ss[k']? = some q → T2 (170 + 8 * st.1.length + k') = q) → (∀ q, q ≠ base + st.1.length → ¬ (170 + 8 * st.1.length ≤ q ∧ q < 170 + 8 * st.1.length + sh) → T2 q = T1 q) →
      J g (d + 4) 108 450 [some (aR 6 m), some (aI L1), some (aI L2), some (aI L3), some (aI L4), some (aI L5), some (aI L6), some (aI (nI k))] [] (f2, σ.2) (jP5 σ m T base sh lim st.1.length (match sp_mon (rest, ss) with | none => (N, .inl (-7)) | some E => (N, .inr (st.1 ++ [E], sp_jw st.1.length st.2)))) := by
    intro c
    induction c with
    | zero =>
      intro k hkc f2 T2 hf2 hS2 hT2 hsq hq2
      have f2m : f2 m = f m := hf2 m (by omega)
      have hEA : EA5 T2 base sh st.1.length (rest, ss) := ⟨hT2, hsl, fun k' q hk' => hsq k' (by have h9 : k' < ss.length := (List.getElem?_eq_some_iff.mp hk').1; omega) q hk'⟩
      have hew : sp_ew (rest, ss) := ⟨hrw, fun q hq => by
        obtain ⟨i, hi⟩ := List.getElem?_of_mem hq
        exact (hss i q hi).2⟩
      have fin : J g (d + 4) 108 492 [some (aR 6 m), some (aI L1), some (aI L2), some (aI L3), some (aI L4), some (aI L5), some (aI L6), some (aI (nI k))] [] (f2, σ.2) (jP5 σ m T base sh lim st.1.length (match sp_mon (rest, ss) with | none => (N, .inl (-7)) | some E => (N, .inr (st.1 ++ [E], sp_jw st.1.length st.2)))) := by
        refine jm_run ok_M_onePair [] 90 (fun kk hk => ?_)
        conv => whnf
        rw [show (f2, σ.2).1 m 20 = nI st.1.length from (congrFun f2m 20).trans hB2]
        refine hk _ _ _ _ (k_M_onePair_497 rfl (c_mmonic (σ := (f2, σ.2)) hM hS2 ((congrFun f2m 19).trans m19) hbase ((congrFun f2m 7).trans m7) hg8 ((congrFun f2m 22).trans m22) hsh (by omega : st.1.length ≤ 24) hEA hew hr0 ((congrFun f2m 11).trans h11)) (fun u hu => ?_))
        obtain ⟨f3, T3, hf3, hS3, hq3, h4, hu⟩ := hu
        subst hu
        have m3 : ∀ k, k ≠ 11 → k ≠ 16 → k ≠ 17 → f3 m k = f m k := fun k a b c => (hf3.2 k a b c).trans (congrFun f2m k)
        have hK3 : FK σ m f3 T T3 base sh := by
          refine hK.trans (ρ := σ.2) ⟨fun q a _ _ => (hf3.1 q a).trans (hf2 q (by omega)), fun k a => m3 k (fun e => a (by unfold kf; omega)) (fun e => a (by unfold kf; omega)) (fun e => a (by unfold kf; omega)), fun q a => ?_⟩
          have a1 : q ≠ base + st.1.length := fun e => a (Or.inl (by omega))
          have a2 : ¬ (170 + 8 * st.1.length ≤ q ∧ q < 170 + 8 * st.1.length + sh) := fun e => a (Or.inr (Or.inr (Or.inr ⟨by omega, by omega, by omega⟩)))
          exact (hq3 q a1 a2).trans (hq2 q a1 a2)
        have hold : ∀ i E, st.1[i]? = some E → EA5 T3 base sh i E := fun i E hE => by
          have hi := (List.getElem?_eq_some_iff.mp hE).1
          refine EA5_fr (hB1 i E hE) ?_ (fun k hk => ?_)
          · exact (hq3 _ (by omega) (by omega)).trans (hq2 _ (by omega) (by omega))
          · exact (hq3 _ (by omega) (by omega)).trans (hq2 _ (by omega) (by omega))
        show J g (d + 4) 108 500 _ _ (f3, σ.2) _
        rcases h4 with ⟨E', h4, hE', f311⟩ | ⟨h4, f311⟩
        · rw [h4]
          refine jm_run ok_M_onePair [] 90 (fun kk hk => ?_)
          conv => whnf
          refine b_z (b := false) f311 (fun _ => ?_) (fun h => by cases h)
          conv => whnf
          rw [show (f3, σ.2).1 m 20 = nI st.1.length from (m3 20 (by decide) (by decide) (by decide)).trans hB2]
          refine hk _ _ _ _ (k_M_onePair_514 rfl (c_mapairs (σ := (f3, σ.2)) hM (by omega)) (fun u hu => ?_))
          obtain ⟨f4, hf4, hw4, hu⟩ := hu
          subst hu
          have f4m : f4 m = f3 m := hf4 m (by omega)
          have hst : jm_wi (f4, σ.2) m 20 (nI (st.1.length + 1)) = ((jm_wi (f4, σ.2) m 20 (nI (st.1.length + 1))).1, σ.2) := rfl
          show J g (d + 4) 108 517 _ _ (f4, σ.2) _
          refine jm_run ok_M_onePair [] 90 (fun kk hk => ?_)
          conv => whnf
          rw [show (f4, σ.2).1 m 20 = nI st.1.length from (congrFun f4m 20).trans ((m3 20 (by decide) (by decide) (by decide)).trans hB2), nI_1, hst]
          have e1 : (st.1 ++ [E']).length = st.1.length + 1 := by rw [List.length_append]; rfl
          have w5 : (jm_wi (f4, σ.2) m 20 (nI (st.1.length + 1))).1 (m + 7) = f4 (m + 7) := jm_wi_q (by omega)
          refine hk _ _ _ _ (r_M_onePair_528 (Or.inr rfl) ⟨_, T3, ?_, MS_fr hS3 (fun q a b => (jm_wi_q (by omega)).trans (hf4 q (by omega))), ?_, hN, ?_, ?_, ?_, Or.inl ⟨_, rfl, ⟨fun i E hE => ?_, ?_, fun i k a b => ?_⟩, ?_, ?_⟩, rfl⟩)
          · refine hK3.trans (ρ := σ.2) ⟨fun q a b c => (jm_wi_q (by omega)).trans (hf4 q b), fun k a => (jm_wi_k (fun e => a (by unfold kf; omega))).trans (congrFun f4m k), fun q a => rfl⟩
          · exact (jm_wi_k (by decide)).trans ((congrFun f4m 13).trans ((m3 13 (by decide) (by decide) (by decide)).trans h13))
          · exact (jm_wi_k (by decide)).trans ((congrFun f4m 21).trans ((m3 21 (by decide) (by decide) (by decide)).trans h21))
          · exact (jm_wi_k (by decide)).trans ((congrFun f4m 24).trans ((m3 24 (by decide) (by decide) (by decide)).trans h24))
          · exact (jm_wi_k (by decide)).trans ((congrFun f4m 25).trans ((m3 25 (by decide) (by decide) (by decide)).trans h25))
          · by_cases hi : i < st.1.length
            · rw [List.getElem?_append_left hi] at hE
              exact hold i E hE
            · have hlt := (List.getElem?_eq_some_iff.mp hE).1
              have hlt : i < (st.1 ++ [E']).length := hlt
              obtain rfl : i = st.1.length := by omega
              rw [List.getElem?_append_right (Nat.le_refl _), Nat.sub_self] at hE
              cases hE
              exact hE'
          · rw [e1]; exact jm_wi_at
          · have b : k < (st.1 ++ [E']).length := b
            refine (congrFun w5 _).trans ((hw4 i k (by omega)).trans ?_)
            unfold sp_jw
            by_cases hk : k = st.1.length
            · rw [if_pos ⟨hk, by omega⟩]
              show 1 = sp_bi (if k = st.1.length then true else st.2 i k)
              rw [if_pos hk]; rfl
            · rw [if_neg (fun q => hk q.1)]
              show f3 (m + 7) (25 * i + k) = sp_bi (if k = st.1.length then true else st.2 i k)
              rw [if_neg hk]
              exact (congrFun (hf3.1 (m + 7) (by omega)) _).trans ((congrFun (hf2 (m + 7) (by omega)) _).trans (hB3 i k a (by omega)))
          · exact (jm_wi_k (by decide)).trans ((congrFun f4m 11).trans f311)
          · exact (jm_wi_k (by decide)).trans ((congrFun f4m 12).trans ((m3 12 (by decide) (by decide) (by decide)).trans h12))
        · rw [h4]
          refine jm_run ok_M_onePair [] 90 (fun kk hk => ?_)
          conv => whnf
          refine b_z (b := true) f311 (fun h => by cases h) (fun _ => ?_)
          conv => whnf
          exact hk _ _ _ _ (r_M_onePair_508 (Or.inr rfl) ⟨f3, T3, hK3, hS3, (m3 13 (by decide) (by decide) (by decide)).trans h13, hN, (m3 21 (by decide) (by decide) (by decide)).trans h21, (m3 24 (by decide) (by decide) (by decide)).trans h24, (m3 25 (by decide) (by decide) (by decide)).trans h25, Or.inr ⟨-7, rfl, Or.inr ⟨rfl, (m3 12 (by decide) (by decide) (by decide)).trans h12, f311⟩, (m3 20 (by decide) (by decide) (by decide)).trans hB2⟩, rfl⟩)
      refine jm_run ok_M_onePair [492] 90 (fun kk hk => ?_)
      conv => whnf
      refine b_le ((congrFun f2m 7).trans m7) rfl (fun _ => ?_) (fun hlt => ?_)
      · conv => whnf
        exact hk _ _ _ _ fin
      · have hwf : ws = false := by
          cases ws with
          | false => rfl
          | true => have : sh = gens := hsh; omega
        rw [hwf] at m22
        conv => whnf
        refine b_z (b := false) ((congrFun f2m 22).trans m22) (fun _ => ?_) (fun h => by cases h)
        conv => whnf
        exact hk _ _ _ _ fin
    | succ c ih =>
      intro k hkc f2 T2 hf2 hS2 hT2 hsq hq2
      have f2m : f2 m = f m := hf2 m (by omega)
      have hwt : ws = true := by
        cases ws with
        | true => rfl
        | false => have : sh = 0 := hsh; omega
      have hgs : sh = gens := by rw [hsh, hwt]; rfl
      rw [hwt] at m22
      have gk : ss[k]? = some ss[k] := List.getElem?_eq_getElem (by omega)
      have hT154 : T2 (154 + k) = ss[k] := by rw [hq2 _ (by omega) (by omega)]; exact (hss k _ gk).1
      generalize ss[k] = sk at gk hT154
      refine jm_run ok_M_onePair [450] 90 (fun kk hk => ?_)
      conv => whnf
      refine b_le ((congrFun f2m 7).trans m7) rfl (fun h => by omega) (fun _ => ?_)
      conv => whnf
      refine b_z (b := true) ((congrFun f2m 22).trans m22) (fun h => by cases h) (fun _ => ?_)
      conv => whnf
      rw [show (154 : Int32) + nI k = nI (154 + k) from nI_add 154 k, show (f2, σ.2).1 m 20 = nI st.1.length from (congrFun f2m 20).trans hB2]
      refine hk _ _ _ _ (k_M_onePair_480 rfl c_mcof (fun u hu => ?_))
      subst hu
      refine k_M_onePair_483 rfl (c_mcopy (σ := (f2, σ.2)) (a := 154 + k) (b := 170 + 8 * st.1.length + k) hM hS2 (by omega) (by omega) (by omega)) (fun u hu => ?_)
      obtain ⟨f3, hf3, hS3, hu⟩ := hu
      subst hu
      rw [hT154] at hS3
      show J g (d + 4) 108 486 _ _ (f3, σ.2) _
      refine jm_run ok_M_onePair [450] 90 (fun kk hk => ?_)
      conv => whnf
      rw [nI_1]
      refine hk _ _ _ _ (ih (k + 1) (by omega) f3 _ (fun q hq => (hf3 q hq).trans (hf2 q hq)) hS3 ?_ (fun k' hk' q hq => ?_) (fun q a b => ?_))
      · rw [tU_ne (by omega)]; exact hT2
      · by_cases hkk : k' = k
        · subst hkk
          rw [gk] at hq
          cases hq
          exact tU_at _ _ _
        · rw [tU_ne (by omega)]
          exact hsq k' (by omega) q hq
      · rw [tU_ne (by omega)]; exact hq2 q a b
  refine jm_run ok_M_onePair [] 90 (fun kk hk => ?_)
  conv => whnf
  rw [show (f, σ.2).1 m 19 = nI base from m19, show (f, σ.2).1 m 20 = nI st.1.length from hB2, nI_add]
  refine hk _ _ _ _ (k_M_onePair_444 rfl (c_mcopy (σ := (f, σ.2)) (a := 152) (b := base + st.1.length) hM hS (by omega) (by omega) (by omega)) (fun u hu => ?_))
  obtain ⟨f3, hf3, hS3, hu⟩ := hu
  subst hu
  rw [hr] at hS3
  show J g (d + 4) 108 447 _ _ (f3, σ.2) _
  refine jm_run ok_M_onePair [450] 90 (fun kk hk => ?_)
  conv => whnf
  exact hk _ _ _ _ (copies sh 0 (by omega) f3 _ hf3 hS3 (tU_at _ _ _) (fun k' h => absurd h (Nat.not_lt_zero _)) (fun q a _ => tU_ne a))
end
