/-! the House: free -/
/-- whether the first k variables are in no term -/
def fr0 (k : Nat) (m : sp_M) : Bool := (List.range k).all (fun v => decide (sp_ex m v = 0))
theorem fr0_s (k : Nat) (m : sp_M) : fr0 (k + 1) m = (fr0 k m && decide (sp_ex m k = 0)) := by
  unfold fr0
  rw [List.range_succ, List.all_append, List.all_cons, List.all_nil, Bool.and_true]
def fr1 (k : Nat) : sp_P → Bool → Bool
  | [], b => b
  | t :: r, b => fr1 k r (b && fr0 k t.2.2)
def fr2 (k : Nat) : List sp_E → Nat → Nat
  | [], n => n
  | E :: r, n => fr2 k r (n + cond (fr1 k E.1 true) 1 0)
def op_free (S : sp_H) (x : Int32) : Int32 × sp_H := (if sp_ie (hv S + 1) x = true then (if hB S = true then nI (fr2 x.toNatClampNeg (hel S) 0) else -3) else -2, S)
section
variable {g : jm_G} {d : Nat} {σ τ : jm_S} {h : Nat} {S : sp_H}
theorem c_free {x : Int32} (hR : HR g σ h S) (hG : GS S) : J g (d + 1) 71 0 [some (aR 1 h), some (aI x), none, none, none, none, none, none] [] σ (jH g σ h (op_free S x).1 (op_free S x).2) := by
  have hH := hR.1
  have hv4 := hG.1.2
  have e0 : (0 : Int32).toInt = 0 := rfl
  unfold op_free
  cases hx : sp_ie (hv S + 1) x with
  | false =>
    rw [if_neg (by decide)]
    have hx := of_decide_eq_false hx
    refine jm_run ok_H_free [] 90 (fun kk hk => ?_)
    conv => whnf
    refine ⟨fun h1 => ?_, fun h1 => ?_⟩
    · conv => whnf
      exact hk _ _ _ _ (r_H_free_14 (jH_same hR))
    · have q1 : ¬ x.toInt < (0 : Int32).toInt := fun q => h1 (Int32.lt_iff_toInt_lt.mpr q)
      conv => whnf
      rw [hR.2.1.1]
      refine ⟨fun h2 => ?_, fun h2 => ?_⟩
      · have q2 := Int32.le_iff_toInt_le.mp h2
        rw [nI_toInt (by omega)] at q2
        exact absurd ⟨by omega, by omega⟩ hx
      · conv => whnf
        exact hk _ _ _ _ (r_H_free_14 (jH_same hR))
  | true =>
    rw [if_pos rfl]
    obtain ⟨k, hkv, rfl⟩ := sp_ie_t (by omega) hx
    rw [nI_clamp (by omega)]
    cases hb : hB S with
    | false =>
      rw [if_neg (by decide)]
      have h8 : σ.1 h 8 = sp_bi false := by rw [hR.2.1.2.2.2.1, hb]
      refine jm_run ok_H_free [] 90 (fun kk hk => ?_)
      conv => whnf
      refine b_lt (a := k) (b := 0) rfl rfl (fun h => by omega) (fun _ => ?_)
      conv => whnf
      refine b_le rfl hR.2.1.1 (fun _ => ?_) (fun h => by omega)
      conv => whnf
      refine b_nz h8 (fun h => by cases h) (fun _ => ?_)
      conv => whnf
      exact hk _ _ _ _ (r_H_free_24 (jH_same hR))
    | true =>
      rw [if_pos rfl]
      have h8 : σ.1 h 8 = sp_bi true := by rw [hR.2.1.2.2.2.1, hb]
      obtain ⟨s, es, heX⟩ := id hR.2.2.2.2.1.1
      have hX := (heX hb).2
      have hl24 := hX.1
      have loop : ∀ (n i : Nat), i + n = (hel S).length → ∀ (c : Nat) (z4 z5 z6 z7 : Option jm_V), fr2 k (hel S) 0 = fr2 k ((hel S).drop i) c → J g (d + 1) 71 29 [some (aR 1 h), some (aI (nI k)), some (aI (nI c)), some (aI (nI i)), z4, z5, z6, z7] [] σ (jH g σ h (nI (fr2 k (hel S) 0)) S) := by
        intro n
        induction n with
        | zero =>
          intro i hin c z4 z5 z6 z7 hO
          rw [List.drop_of_length_le (by omega)] at hO
          have hO : _ = c := hO
          rw [hO]
          refine jm_run ok_H_free [29] 90 (fun kk hk => ?_)
          conv => whnf
          refine jg hH.fe ?_
          conv => whnf
          refine b_le hX.2.1 rfl (fun _ => ?_) (fun h => by omega)
          conv => whnf
          exact hk _ _ _ _ (r_H_free_137 (jH_same hR))
        | succ n ih =>
          intro i hin c z4 z5 z6 z7 hO
          have gE : (hel S)[i]? = some (hel S)[i] := List.getElem?_eq_getElem (by omega)
          have hgd := hX.2.2 i _ gE
          generalize (hel S)[i] = E at gE hgd
          have hsi := es.1 i (by omega)
          have hep := hH.e1.2.2.2.2.2 (s i) hsi.1
          rw [drop_cons gE, fr2] at hO
          have hPE := hgd.1.1
          have hpw := hgd.2.1.1
          have hpl2 := hep.2.2.1
          have hlen := hpw.1
          have mid : ∀ (r : sp_P) (t : Nat), E.1.drop t = r → t ≤ E.1.length → ∀ (b : Bool) (z7 : Option jm_V), fr1 k E.1 true = fr1 k r b → J g (d + 1) 71 60 [some (aR 1 h), some (aI (nI k)), some (aI (nI c)), some (aI (nI i)), some (aR 5 (eo (h + 196) 8 (s i) + 1)), some (aI (sp_bi b)), some (aI (nI t)), z7] [] σ (jH g σ h (nI (fr2 k (hel S) 0)) S) := by
            intro r
            induction r with
            | nil =>
              intro t ht htl b z7 hb
              have hi2 : E.1.length ≤ t := List.drop_eq_nil_iff.mp ht
              have hb : _ = b := hb
              rw [hb] at hO
              cases b with
              | false =>
                refine jm_run ok_H_free [29, 60] 90 (fun kk hk => ?_)
                conv => whnf
                refine b_le hPE.1 rfl (fun _ => ?_) (fun h => by omega)
                conv => whnf
                refine b_z (b := false) rfl (fun _ => ?_) (fun h => by cases h)
                conv => whnf
                rw [nI_1, show nI c + 0 = nI (c + 0) from nI_add c 0]
                exact hk _ _ _ _ (ih (i + 1) (by omega) (c + 0) _ _ _ _ hO)
              | true =>
                refine jm_run ok_H_free [29, 60] 90 (fun kk hk => ?_)
                conv => whnf
                refine b_le hPE.1 rfl (fun _ => ?_) (fun h => by omega)
                conv => whnf
                refine b_z (b := true) rfl (fun h => by cases h) (fun _ => ?_)
                conv => whnf
                rw [nI_1, nI_1]
                exact hk _ _ _ _ (ih (i + 1) (by omega) (c + 1) _ _ _ _ hO)
            | cons tt r ih2 =>
              intro t ht htl b z7 hb
              have hti : E.1[t]? = some tt := by rw [← Nat.add_zero t, ← List.getElem?_drop, ht]; rfl
              have hi2 : t < E.1.length := (List.getElem?_eq_some_iff.mp hti).1
              have hdr : E.1.drop (t + 1) = r := by rw [← List.drop_drop, ht]; rfl
              have tw := sp_pw_at hpw hti
              have row := hPE.2 _ _ hti
              rw [fr1] at hb
              have inner : ∀ (n2 v : Nat), v + n2 = k → J g (d + 1) 71 73 [some (aR 1 h), some (aI (nI k)), some (aI (nI c)), some (aI (nI i)), some (aR 5 (eo (h + 196) 8 (s i) + 1)), some (aI (sp_bi (b && fr0 v tt.2.2))), some (aI (nI t)), some (aI (nI v))] [] σ (jH g σ h (nI (fr2 k (hel S) 0)) S) := by
                intro n2
                induction n2 with
                | zero =>
                  intro v hvk
                  obtain rfl : v = k := by omega
                  refine jm_run ok_H_free [60, 73] 90 (fun kk hk => ?_)
                  conv => whnf
                  refine b_le (a := v) (b := v) rfl rfl (fun _ => ?_) (fun h => by omega)
                  conv => whnf
                  rw [nI_1]
                  exact hk _ _ _ _ (ih2 (t + 1) hdr (by omega) _ _ hb)
                | succ n2 ih3 =>
                  intro v hvk
                  have hex := sp_ok_ex tw.2.2.2.2 v
                  have e : ∀ z : Bool, z = decide (sp_ex tt.2.2 v = 0) → ((b && fr0 v tt.2.2) && z) = (b && fr0 (v + 1) tt.2.2) := fun z hz => by rw [fr0_s, hz, Bool.and_assoc]
                  refine jm_run ok_H_free [73] 90 (fun kk hk => ?_)
                  conv => whnf
                  refine b_le (a := k) (b := v) rfl rfl (fun h => by omega) (fun _ => ?_)
                  conv => whnf
                  refine jg hpl2.2.2.1 ?_
                  conv => whnf
                  refine ja rfl hpl2.2.2.2.2.2 row.2.2 ?_
                  conv => whnf
                  refine hk _ _ _ _ (k_H_free_91 rfl (c_exponent tw.2.2.2.2 (by omega)) (fun u hu => ?_))
                  subst hu
                  show J g (d + 1) 71 94 _ _ σ _
                  refine jm_run ok_H_free [73] 90 (fun kk hk => ?_)
                  conv => whnf
                  refine b_ne (b := 0) rfl rfl (fun h0 => ?_) (fun h0 => ?_)
                  · conv => whnf
                    rw [show sp_bi (b && fr0 v tt.2.2) &&& 0 = sp_bi (b && fr0 (v + 1) tt.2.2) from (sp_bi_and _ false).trans (congrArg sp_bi (e false (decide_eq_false h0).symm)), nI_1]
                    exact hk _ _ _ _ (ih3 (v + 1) (by omega))
                  · conv => whnf
                    rw [show sp_bi (b && fr0 v tt.2.2) &&& 1 = sp_bi (b && fr0 (v + 1) tt.2.2) from (sp_bi_and _ true).trans (congrArg sp_bi (e true (decide_eq_true h0).symm)), nI_1]
                    exact hk _ _ _ _ (ih3 (v + 1) (by omega))
              have i0 := inner k 0 (by omega)
              rw [show (b && fr0 0 tt.2.2) = b from Bool.and_true b] at i0
              refine jm_run ok_H_free [60, 73] 90 (fun kk hk => ?_)
              conv => whnf
              refine b_le hPE.1 rfl (fun h => by omega) (fun _ => ?_)
              conv => whnf
              exact hk _ _ _ _ i0
          refine jm_run ok_H_free [29, 60] 90 (fun kk hk => ?_)
          conv => whnf
          refine jg hH.fe ?_
          conv => whnf
          refine b_le hX.2.1 rfl (fun h => by omega) (fun _ => ?_)
          conv => whnf
          refine jg hH.fe ?_
          conv => whnf
          refine jg hH.e1.1.2.1 ?_
          conv => whnf
          refine jr rfl hH.e1.2.1.1 hsi.2 ?_
          conv => whnf
          refine jg hep.1 ?_
          conv => whnf
          exact hk _ _ _ _ (mid E.1 0 rfl (Nat.zero_le _) true _ rfl)
      refine jm_run ok_H_free [29] 90 (fun kk hk => ?_)
      conv => whnf
      refine b_lt (a := k) (b := 0) rfl rfl (fun h => by omega) (fun _ => ?_)
      conv => whnf
      refine b_le rfl hR.2.1.1 (fun _ => ?_) (fun h => by omega)
      conv => whnf
      refine b_nz h8 (fun _ => ?_) (fun h => by cases h)
      conv => whnf
      exact hk _ _ _ _ (loop (hel S).length 0 (by omega) 0 _ _ _ _ rfl)
end
