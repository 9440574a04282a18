/-! THE MODEL: free, radical -/
theorem fr0_iff {k : Nat} {mo : sp_M} : fr0 k mo = true ↔ ∀ v, v < k → sp_ex mo v = 0 := by
  unfold fr0
  rw [List.all_eq_true]
  exact ⟨fun h v hv => of_decide_eq_true (h v (List.mem_range.mpr hv)), fun h v hv => decide_eq_true (h v (List.mem_range.mp hv))⟩
theorem mk5 {mo : sp_M} (h : sp_ok mo) {k : Nat} (hk : k < 5) : sp_d mo &&& (((1 : Int32) <<< ((5 * nI k) &&& 31)) - 1) = nI (sp_5 mo % 2 ^ (5 * k)) := by
  have hl := sp_5_lt h
  unfold sp_d
  rcases lt5 hk with e | e | e | e | e <;> subst e
  · exact pk_andN (by omega) 0 (by decide)
  · exact pk_andN (by omega) 5 (by decide)
  · exact pk_andN (by omega) 10 (by decide)
  · exact pk_andN (by omega) 15 (by decide)
  · exact pk_andN (by omega) 20 (by decide)
theorem mk5_iff {mo : sp_M} (h : sp_ok mo) {k : Nat} (hk : k < 5) : sp_5 mo % 2 ^ (5 * k) = 0 ↔ fr0 k mo = true := by
  rw [fr0_iff]
  obtain ⟨h0, h1, h2, h3, h4⟩ := h
  unfold sp_5
  rcases lt5 hk with e | e | e | e | e <;> subst e
  · exact ⟨fun _ v hv => absurd hv (Nat.not_lt_zero _), fun _ => Nat.mod_one _⟩
  · constructor
    · intro q v hv
      obtain rfl : v = 0 := by omega
      show mo.1 = 0
      have q : (mo.1 + mo.2.1 * 32 + mo.2.2.1 * 1024 + mo.2.2.2.1 * 32768 + mo.2.2.2.2 * 1048576) % 32 = 0 := q
      omega
    · intro q
      have q0 : mo.1 = 0 := q 0 (by decide)
      show (mo.1 + mo.2.1 * 32 + mo.2.2.1 * 1024 + mo.2.2.2.1 * 32768 + mo.2.2.2.2 * 1048576) % 32 = 0
      omega
  · constructor
    · intro q v hv
      have q : (mo.1 + mo.2.1 * 32 + mo.2.2.1 * 1024 + mo.2.2.2.1 * 32768 + mo.2.2.2.2 * 1048576) % 1024 = 0 := q
      have : v = 0 ∨ v = 1 := by omega
      rcases this with e | e <;> subst e
      · show mo.1 = 0; omega
      · show mo.2.1 = 0; omega
    · intro q
      have q0 : mo.1 = 0 := q 0 (by decide)
      have q1 : mo.2.1 = 0 := q 1 (by decide)
      show (mo.1 + mo.2.1 * 32 + mo.2.2.1 * 1024 + mo.2.2.2.1 * 32768 + mo.2.2.2.2 * 1048576) % 1024 = 0
      omega
  · constructor
    · intro q v hv
      have q : (mo.1 + mo.2.1 * 32 + mo.2.2.1 * 1024 + mo.2.2.2.1 * 32768 + mo.2.2.2.2 * 1048576) % 32768 = 0 := q
      have : v = 0 ∨ v = 1 ∨ v = 2 := by omega
      rcases this with e | e | e <;> subst e
      · show mo.1 = 0; omega
      · show mo.2.1 = 0; omega
      · show mo.2.2.1 = 0; omega
    · intro q
      have q0 : mo.1 = 0 := q 0 (by decide)
      have q1 : mo.2.1 = 0 := q 1 (by decide)
      have q2 : mo.2.2.1 = 0 := q 2 (by decide)
      show (mo.1 + mo.2.1 * 32 + mo.2.2.1 * 1024 + mo.2.2.2.1 * 32768 + mo.2.2.2.2 * 1048576) % 32768 = 0
      omega
  · constructor
    · intro q v hv
      have q : (mo.1 + mo.2.1 * 32 + mo.2.2.1 * 1024 + mo.2.2.2.1 * 32768 + mo.2.2.2.2 * 1048576) % 1048576 = 0 := q
      have : v = 0 ∨ v = 1 ∨ v = 2 ∨ v = 3 := by omega
      rcases this with e | e | e | e <;> subst e
      · show mo.1 = 0; omega
      · show mo.2.1 = 0; omega
      · show mo.2.2.1 = 0; omega
      · show mo.2.2.2.1 = 0; omega
    · intro q
      have q0 : mo.1 = 0 := q 0 (by decide)
      have q1 : mo.2.1 = 0 := q 1 (by decide)
      have q2 : mo.2.2.1 = 0 := q 2 (by decide)
      have q3 : mo.2.2.2.1 = 0 := q 3 (by decide)
      show (mo.1 + mo.2.1 * 32 + mo.2.2.1 * 1024 + mo.2.2.2.1 * 32768 + mo.2.2.2.2 * 1048576) % 1048576 = 0
      omega
theorem pvm_d {v : Nat} (hv : v < 5) : (1 : Int32) <<< ((5 * nI v) &&& 31) = sp_d (pvm v) := by
  rcases lt5 hv with e | e | e | e | e <;> (subst e; decide)
section
variable {g : jm_G} {d : Nat} {σ : jm_S} {m : Nat} {S : sp_H}
theorem c_mfree {x : Int32} (hR : MR g σ m S) (hG : GS S) : J g d 127 0 [some (aR 6 m), some (aI x), none, none, none, none] [] σ (jMd g σ m (op_free S x).1 (op_free S x).2) := by
  have hM := hR.1
  obtain ⟨T, hS, hT⟩ := id hR.2.2.2
  have hF := hR.2.1
  have hv4 := hG.1.2
  have e0 : (0 : Int32).toInt = 0 := rfl
  unfold op_free
  cases hx : sp_ie (hv S + 1) x with
  | false =>
    rw [if_neg (by decide)]
    have hx := of_decide_eq_false hx
    refine jm_run ok_M_free [] 90 (fun kk hk => ?_)
    conv => whnf
    refine ⟨fun h1 => ?_, fun h1 => ?_⟩
    · conv => whnf
      exact hk _ _ _ _ (r_M_free_14 (jMd_same hR))
    · have q1 : ¬ x.toInt < (0 : Int32).toInt := fun q => h1 (Int32.lt_iff_toInt_lt.mpr q)
      conv => whnf
      rw [hF.1]
      refine ⟨fun h2 => ?_, fun h2 => ?_⟩
      · have q2 := Int32.le_iff_toInt_le.mp h2
        rw [nI_toInt (by omega)] at q2
        exact absurd ⟨by omega, by omega⟩ hx
      · conv => whnf
        exact hk _ _ _ _ (r_M_free_14 (jMd_same hR))
  | true =>
    rw [if_pos rfl]
    obtain ⟨k, hkv, rfl⟩ := sp_ie_t (by omega) hx
    rw [nI_clamp (by omega)]
    cases hb : hB S with
    | false =>
      rw [if_neg (by decide)]
      have h9 : σ.1 m 9 = sp_bi false := by rw [hF.2.2.2.2.1, hb]
      refine jm_run ok_M_free [] 90 (fun kk hk => ?_)
      conv => whnf
      refine b_lt (a := k) (b := 0) rfl rfl (fun h => by omega) (fun _ => ?_)
      conv => whnf
      refine b_le (a := k) rfl hF.1 (fun _ => ?_) (fun h => by omega)
      conv => whnf
      refine b_nz h9 (fun h => by cases h) (fun _ => ?_)
      conv => whnf
      exact hk _ _ _ _ (r_M_free_24 (jMd_same hR))
    | true =>
      rw [if_pos rfl]
      have h9 : σ.1 m 9 = sp_bi true := by rw [hF.2.2.2.2.1, hb]
      have h8 := hF.2.2.2.2.2.2 hb
      have hl24 := hG.el24 hb
      have hSE := (hG.2.2.2.2.2.2.1 hb).1
      have outer : ∀ (n e N : Nat) (z4 z5 : Option jm_V), e + n = (hel S).length → fr2 k (hel S) 0 = fr2 k ((hel S).drop e) N → J g d 127 29 [some (aR 6 m), some (aI (nI k)), some (aI (nI N)), some (aI (nI e)), z4, z5] [] σ (jMd g σ m (nI (fr2 k (hel S) 0)) S) := by
        intro n
        induction n with
        | zero =>
          intro e N z4 z5 he hO
          rw [List.drop_of_length_le (by omega)] at hO
          rw [hO]
          refine jm_run ok_M_free [29] 90 (fun kk hk => ?_)
          conv => whnf
          refine b_le h8 rfl (fun _ => ?_) (fun h => by omega)
          conv => whnf
          exact hk _ _ _ _ (r_M_free_121 (jMd_same hR))
        | succ n ih =>
          intro e N z4 z5 he hO
          have gE : (hel S)[e]? = some (hel S)[e] := List.getElem?_eq_getElem (by omega)
          have hEm := List.mem_of_getElem? gE
          have hEA := hT.2.2.1 hb e _ gE
          rw [drop_cons gE, fr2] at hO
          generalize (hel S)[e] = E at gE hEm hEA hO
          have hw := (hSE.1 E hEm).2.1.1
          have hw1 := hw.1
          have hP := (hS (50 + e) (by omega)).2
          rw [hEA.1] at hP
          have inner : ∀ (r : sp_P) (i : Nat) (b : Bool), E.1.drop i = r → i ≤ E.1.length → fr2 k (hel S) 0 = fr2 k ((hel S).drop (e + 1)) (N + cond (fr1 k r b) 1 0) → J g d 127 43 [some (aR 6 m), some (aI (nI k)), some (aI (nI N)), some (aI (nI e)), some (aI (sp_bi b)), some (aI (nI i))] [] σ (jMd g σ m (nI (fr2 k (hel S) 0)) S) := by
            intro r
            induction r with
            | nil =>
              intro i b hi hil hO
              have hi2 : E.1.length ≤ i := List.drop_eq_nil_iff.mp hi
              cases b with
              | false =>
                refine jm_run ok_M_free [29, 43] 90 (fun kk hk => ?_)
                conv => whnf
                refine jg hM.size ?_
                conv => whnf
                refine ja (nI_add 50 e) hM.l4 hP.1 ?_
                conv => whnf
                refine b_le (b := i) rfl rfl (fun _ => ?_) (fun h => by omega)
                conv => whnf
                refine b_z (b := false) rfl (fun _ => ?_) (fun h => by cases h)
                conv => whnf
                rw [nI_1, show nI N + 0 = nI (N + 0) from nI_add N 0]
                exact hk _ _ _ _ (ih (e + 1) _ _ _ (by omega) hO)
              | true =>
                refine jm_run ok_M_free [29, 43] 90 (fun kk hk => ?_)
                conv => whnf
                refine jg hM.size ?_
                conv => whnf
                refine ja (nI_add 50 e) hM.l4 hP.1 ?_
                conv => whnf
                refine b_le (b := i) rfl rfl (fun _ => ?_) (fun h => by omega)
                conv => whnf
                refine b_z (b := true) rfl (fun h => by cases h) (fun _ => ?_)
                conv => whnf
                rw [nI_1, nI_1]
                exact hk _ _ _ _ (ih (e + 1) _ _ _ (by omega) hO)
            | cons t r ih2 =>
              intro i b hi hil hO
              have hti : E.1[i]? = some t := by rw [← Nat.add_zero i, ← List.getElem?_drop, hi]; rfl
              have hi2 : i < E.1.length := (List.getElem?_eq_some_iff.mp hti).1
              have hdr : E.1.drop (i + 1) = r := by rw [← List.drop_drop, hi]; rfl
              have row := hP.2 _ _ hti
              have tw := sp_pw_at hw hti
              rw [fr1] at hO
              cases b with
              | false =>
                refine jm_run ok_M_free [43] 90 (fun kk hk => ?_)
                conv => whnf
                refine jg hM.size ?_
                conv => whnf
                refine ja (nI_add 50 e) hM.l4 hP.1 ?_
                conv => whnf
                refine b_le (b := i) rfl rfl (fun h => by omega) (fun _ => ?_)
                conv => whnf
                refine b_z (b := false) rfl (fun _ => ?_) (fun h => by cases h)
                conv => whnf
                rw [nI_1]
                exact hk _ _ _ _ (ih2 (i + 1) false hdr (by omega) hO)
              | true =>
                have hix : (100 : Int32) * (50 + nI e) + nI i = nI (100 * (50 + e) + i) := by rw [show (50 : Int32) + nI e = nI (50 + e) from nI_add 50 e, ix]
                rw [Bool.true_and] at hO
                refine jm_run ok_M_free [43] 90 (fun kk hk => ?_)
                conv => whnf
                refine jg hM.size ?_
                conv => whnf
                refine ja (nI_add 50 e) hM.l4 hP.1 ?_
                conv => whnf
                refine b_le (b := i) rfl rfl (fun h => by omega) (fun _ => ?_)
                conv => whnf
                refine b_z (b := true) rfl (fun h => by cases h) (fun _ => ?_)
                conv => whnf
                refine jg hM.mono ?_
                conv => whnf
                refine ja hix hM.l3 row.2.2 ?_
                conv => whnf
                rw [mk5 tw.2.2.2.2 (by omega)]
                have hlt : sp_5 t.2.2 % 2 ^ (5 * k) < 2147483648 := Nat.lt_of_le_of_lt (Nat.mod_le _ _) (by have := sp_5_lt tw.2.2.2.2; omega)
                refine b_ne (b := 0) rfl rfl (fun hne => ?_) (fun heq => ?_) hlt
                · have hf0 : fr0 k t.2.2 = false := by
                    cases q : fr0 k t.2.2 with
                    | false => rfl
                    | true => exact absurd ((mk5_iff tw.2.2.2.2 (by omega)).mpr q) hne
                  rw [hf0] at hO
                  conv => whnf
                  rw [nI_1]
                  exact hk _ _ _ _ (ih2 (i + 1) false hdr (by omega) hO)
                · rw [(mk5_iff tw.2.2.2.2 (by omega)).mp heq] at hO
                  conv => whnf
                  rw [nI_1]
                  exact hk _ _ _ _ (ih2 (i + 1) true hdr (by omega) hO)
          refine jm_run ok_M_free [43] 90 (fun kk hk => ?_)
          conv => whnf
          refine b_le h8 rfl (fun h => by omega) (fun _ => ?_)
          conv => whnf
          exact hk _ _ _ _ (inner E.1 0 true rfl (Nat.zero_le _) hO)
      refine jm_run ok_M_free [29] 90 (fun kk hk => ?_)
      conv => whnf
      refine b_lt (a := k) (b := 0) rfl rfl (fun h => by omega) (fun _ => ?_)
      conv => whnf
      refine b_le (a := k) rfl hF.1 (fun _ => ?_) (fun h => by omega)
      conv => whnf
      refine b_nz h9 (fun _ => ?_) (fun h => by cases h)
      conv => whnf
      exact hk _ _ _ _ (outer (hel S).length 0 0 _ _ (by omega) rfl)
end
