/-! THE MODEL: own, divide, certificate, check -/
/-- slots copied one by one -/
def cpy (T : Nat → sp_P) (a b k : Nat) : Nat → sp_P := fun q => if b ≤ q ∧ q < b + k then T (a + (q - b)) else T q
theorem cpy_0 (T : Nat → sp_P) (a b : Nat) : cpy T a b 0 = T := by
  funext q
  exact if_neg (by omega)
theorem cpy_o {T : Nat → sp_P} {a b k q : Nat} (h : ¬ (b ≤ q ∧ q < b + k)) : cpy T a b k q = T q := if_neg h
theorem cpy_i {T : Nat → sp_P} {a b k i : Nat} (h : i < k) : cpy T a b k (b + i) = T (a + i) := by
  unfold cpy
  rw [if_pos (by omega), show b + i - b = i by omega]
theorem cpy_s {T : Nat → sp_P} {a b k : Nat} (h : ¬ (b ≤ a + k ∧ a + k < b + k)) : tU (cpy T a b k) (b + k) (cpy T a b k (a + k)) = cpy T a b (k + 1) := by
  funext q
  by_cases e : q = b + k
  · subst e
    rw [tU_at, cpy_o h, cpy_i (by omega)]
  · rw [tU_ne e]
    unfold cpy
    by_cases c : b ≤ q ∧ q < b + k
    · rw [if_pos c, if_pos (by omega)]
    · rw [if_neg c, if_neg (by omega)]
section
variable {g : jm_G} {d : Nat} {σ : jm_S} {m : Nat} {S : sp_H}
theorem c_mown : J g d 123 0 [some (aR 6 m)] [] σ (fun u => ∃ f, (∀ q, q ≠ m → f q = σ.1 q) ∧ f m 19 = nI 50 ∧ f m 20 = σ.1 m 8 ∧ f m 21 = -1 ∧ f m 11 = 0 ∧ f m 12 = 0 ∧ f m 13 = 0 ∧ (∀ k, k ≤ 10 → f m k = σ.1 m k) ∧ u = ((f, σ.2), .inl none)) := by
  have fldk : ∀ (b : Int32) (k : Nat), (jm_wi (jm_wi (jm_wi (jm_wi (jm_wi (jm_wi σ m 19 50) m 20 b) m 21 (-1)) m 11 0) m 12 0) m 13 0).1 m k = if k = 13 then 0 else if k = 12 then 0 else if k = 11 then 0 else if k = 21 then -1 else if k = 20 then b else if k = 19 then 50 else σ.1 m k := by
    intro b k
    simp only [jm_wi_1, true_and]
  have fldq : ∀ (b : Int32) (q : Nat), q ≠ m → (jm_wi (jm_wi (jm_wi (jm_wi (jm_wi (jm_wi σ m 19 50) m 20 b) m 21 (-1)) m 11 0) m 12 0) m 13 0).1 q = σ.1 q := by
    intro b q hq
    rw [jm_wi_q hq, jm_wi_q hq, jm_wi_q hq, jm_wi_q hq, jm_wi_q hq, jm_wi_q hq]
  have hst : ∀ b : Int32, jm_wi (jm_wi (jm_wi (jm_wi (jm_wi (jm_wi σ m 19 50) m 20 b) m 21 (-1)) m 11 0) m 12 0) m 13 0 = ((jm_wi (jm_wi (jm_wi (jm_wi (jm_wi (jm_wi σ m 19 50) m 20 b) m 21 (-1)) m 11 0) m 12 0) m 13 0).1, σ.2) := fun _ => rfl
  refine jm_run ok_M_own [] 90 (fun kk hk => ?_)
  conv => whnf
  rw [show (jm_wi σ m 19 50).1 m 8 = σ.1 m 8 from jm_wi_k (by decide)]
  refine ⟨Or.inl rfl, ?_⟩
  conv => whnf
  refine ⟨Or.inl rfl, ?_⟩
  conv => whnf
  rw [hst]
  refine hk _ _ _ _ (r_M_own_34 ⟨_, fldq _, ?_, ?_, ?_, ?_, ?_, ?_, fun k hk10 => ?_, rfl⟩)
  · rw [fldk]; rfl
  · rw [fldk]; rfl
  · rw [fldk]; rfl
  · rw [fldk]; rfl
  · rw [fldk]; rfl
  · rw [fldk]; rfl
  · rw [fldk, if_neg (by omega), if_neg (by omega), if_neg (by omega), if_neg (by omega), if_neg (by omega), if_neg (by omega)]
theorem SE_mg {T : Nat → sp_P} {base n j sh : Nat} {els : List sp_E} (h : PL5 T base sh els) (hs : SE j n sh els) : MG T base n (sp_G els) := by
  intro i p hp
  unfold sp_G at hp
  rw [List.getElem?_map] at hp
  cases hg : els[i]? with
  | none => rw [hg] at hp; cases hp
  | some E =>
    rw [hg] at hp
    cases hp
    have hE := List.mem_of_getElem? hg
    exact ⟨(h i E hg).1, (hs.1 E hE).2.1.1, (hs.1 E hE).2.2, (hs.2.2 E hE).2.1.1⟩
theorem mtk2 {T T2 : Nat → sp_P} {f : Nat → Nat → Int32} {l : sp_P} {r : Nat} {o : Option sp_P} (hR : MR g σ m S) (hG : GS S) (hT : MT T S) (h10 : ∀ k, k ≤ 10 → f m k = σ.1 m k) (hfq : ∀ q, ¬ (m ≤ q ∧ q ≤ m + 4) → f q = σ.1 q) (hS : MS f m (tU T2 150 l)) (h2 : ∀ q, ks S q → T2 q = T q) (h6 : (o = some l ∧ f m 11 = 0) ∨ (o = none ∧ f m 11 = 1)) (hr : r < 40) :
    J g (d + 1) 87 0 [some (aR 6 m), some (aI (nI 150)), some (aI (nI r))] [] (f, σ.2) (jMd g σ m (op_give S r o).1 (op_give S r o).2) := by
  have hM := hR.1
  have hgl := hG.2.2.2.1
  have hT2 : MT (tU T2 150 l) S := MT_fr hG hT (fun q hq => (tU_ne (by unfold ks at hq; omega)).trans (h2 q hq))
  rcases h6 with ⟨ho, h11⟩ | ⟨ho, h11⟩
  · subst ho
    refine J_mono (c_mtaken (σ := (f, σ.2)) hM hS (by omega) (by omega) (by omega) h11) (fun u hu => ?_)
    obtain ⟨f4, hf4, hS4, hu⟩ := hu
    subst hu
    rw [tU_at] at hS4 ⊢
    exact jMd_mk hM (MF_fr hR.2.1 (fun k hk => (congrFun (hf4 m (by omega)) k).trans (h10 k hk))) (MD_fr hR.2.2.1 ((hf4 _ (by omega)).trans (hfq _ (by omega)))) hS4 (MT_set hG hT2 hr) (fun q hq => (hf4 q (by omega)).trans (hfq q (by omega)))
  · subst ho
    refine J_mono (c_mtaken1 (σ := (f, σ.2)) h11) (fun u hu => ?_)
    subst hu
    exact jMd_mk hM (MF_fr hR.2.1 h10) (MD_fr hR.2.2.1 (hfq _ (by omega))) hS hT2 (fun q hq => hfq q (by omega))
theorem c_mcertificate {z y : Int32} (hR : MR g σ m S) (hG : GS S) : J g (d + 6) 124 0 [some (aR 6 m), some (aI z), some (aI y), none] [] σ (jMd g σ m (op_certificate S z y).1 (op_certificate S z y).2) := by
  have hM := hR.1
  obtain ⟨T, hS, hT⟩ := hR.2.2.2
  have hF := hR.2.1
  have e0 : (0 : Int32).toInt = 0 := rfl
  have hgl := hG.2.2.2.1
  unfold op_certificate
  cases hb : hB S with
  | false =>
    rw [if_neg (fun q => by cases q.1)]
    have h9 : σ.1 m 9 = sp_bi false := by rw [hF.2.2.2.2.1, hb]
    refine jm_run ok_M_certificate [] 90 (fun kk hk => ?_)
    conv => whnf
    refine b_z h9 (fun _ => ?_) (fun h => by cases h)
    conv => whnf
    exact hk _ _ _ _ (r_M_certificate_16 (jMd_same hR))
  | true =>
    have h9 : σ.1 m 9 = sp_bi true := by rw [hF.2.2.2.2.1, hb]
    cases hq : hQ S with
    | false =>
      rw [if_neg (fun q => by cases q.2)]
      have h10 : σ.1 m 10 = sp_bi false := by rw [hF.2.2.2.2.2.1, hq]
      refine jm_run ok_M_certificate [] 90 (fun kk hk => ?_)
      conv => whnf
      refine b_z h9 (fun h => by cases h) (fun _ => ?_)
      conv => whnf
      refine b_nz h10 (fun h => by cases h) (fun _ => ?_)
      conv => whnf
      exact hk _ _ _ _ (r_M_certificate_16 (jMd_same hR))
    | true =>
      rw [if_pos ⟨rfl, rfl⟩]
      have h10 : σ.1 m 10 = sp_bi true := by rw [hF.2.2.2.2.2.1, hq]
      have h8 := hF.2.2.2.2.2.2 hb
      have hl24 := hG.el24 hb
      have hkp1 := hG.2.2.2.2.2.2.2 hb hq
      have hkl := hkp1.1
      have hSE := (hG.2.2.2.2.2.2.1 hb).1
      cases hz : sp_ie (hgn S).length z with
      | false =>
        rw [if_neg (fun q => by cases q.1)]
        have hz := of_decide_eq_false hz
        refine jm_run ok_M_certificate [] 90 (fun kk hk => ?_)
        conv => whnf
        refine b_z h9 (fun h => by cases h) (fun _ => ?_)
        conv => whnf
        refine b_nz h10 (fun _ => ?_) (fun h => by cases h)
        conv => whnf
        refine ⟨fun h1 => ?_, fun h1 => ?_⟩
        · conv => whnf
          exact hk _ _ _ _ (r_M_certificate_37 (jMd_same hR))
        · have q1 : ¬ z.toInt < (0 : Int32).toInt := fun q => h1 (Int32.lt_iff_toInt_lt.mpr q)
          conv => whnf
          rw [hF.2.2.2.1]
          refine ⟨fun h2 => ?_, fun h2 => ?_⟩
          · conv => whnf
            exact hk _ _ _ _ (r_M_certificate_37 (jMd_same hR))
          · have q2 : ¬ (nI (hgn S).length).toInt ≤ z.toInt := fun q => h2 (Int32.le_iff_toInt_le.mpr q)
            rw [nI_toInt (by omega)] at q2
            exact absurd ⟨by omega, by omega⟩ hz
      | true =>
        obtain ⟨k, hk8, rfl⟩ := sp_ie_t (by omega) hz
        rw [nI_clamp (n := k) (by omega)]
        refine jm_run ok_M_certificate [] 90 (fun kk hk => ?_)
        conv => whnf
        refine b_z h9 (fun h => by cases h) (fun _ => ?_)
        conv => whnf
        refine b_nz h10 (fun _ => ?_) (fun h => by cases h)
        conv => whnf
        refine b_lt (a := k) (b := 0) rfl rfl (fun h => by omega) (fun _ => ?_)
        conv => whnf
        refine b_le hF.2.2.2.1 rfl (fun h => by omega) (fun _ => ?_)
        conv => whnf
        refine hk _ _ _ _ (k_M_certificate_30 rfl c_misPlace (fun u hu => ?_))
        subst hu
        show J g (d + 6) 124 33 _ _ σ _
        cases hy : sp_ip y with
        | false =>
          rw [if_neg (fun q => by cases q.2)]
          refine jm_run ok_M_certificate [] 90 (fun kk hk => ?_)
          conv => whnf
          refine b_nz (b := false) rfl (fun h => by cases h) (fun _ => ?_)
          conv => whnf
          exact hk _ _ _ _ (r_M_certificate_37 (jMd_same hR))
        | true =>
          rw [if_pos ⟨rfl, rfl⟩]
          obtain ⟨r, hr40, rfl⟩ := sp_ip_t hy
          rw [nI_clamp (by omega)]
          refine jm_run ok_M_certificate [] 90 (fun kk hk => ?_)
          conv => whnf
          refine b_nz (b := true) rfl (fun _ => ?_) (fun h => by cases h)
          conv => whnf
          refine hk _ _ _ _ (k_M_certificate_39 rfl c_mown (fun u hu => ?_))
          obtain ⟨F, Fq, F19, F20, F21, F11, F12, F13, F10, hu⟩ := hu
          subst hu
          show J g (d + 6) 124 42 _ _ (F, σ.2) _
          have loop : ∀ (n e : Nat), e + n = 25 → ∀ f : Nat → Nat → Int32, (∀ q, ¬ (m + 1 ≤ q ∧ q ≤ m + 4) → f q = F q) → MS f m (cpy T 125 100 e) → J g (d + 6) 124 44 [some (aR 6 m), some (aI (nI k)), some (aI (nI r)), some (aI (nI e))] [] (f, σ.2) (jMd g σ m (op_give S r (sp_sh (hkd S) 1 (hkp S) (sp_col (hel S) k) [])).1 (op_give S r (sp_sh (hkd S) 1 (hkp S) (sp_col (hel S) k) [])).2) := by
            intro n
            induction n with
            | zero =>
              intro e he f hf hSf
              obtain rfl : e = 25 := by omega
              have fm : f m = F m := hf m (by omega)
              have hst : jm_wi (f, σ.2) (m + 4) 150 0 = ((jm_wi (f, σ.2) (m + 4) 150 0).1, σ.2) := rfl
              have hS2 := MS_nil (ρ := σ.2) (p := 150) hSf
              have Hq : ∀ q, q ≠ m + 4 → (jm_wi (f, σ.2) (m + 4) 150 0).1 q = f q := fun q hq => jm_wi_q hq
              refine jm_run ok_M_certificate [44] 90 (fun kk hk => ?_)
              conv => whnf
              refine b_le (a := 25) (b := 25) rfl rfl (fun _ => ?_) (fun h => by omega)
              conv => whnf
              refine jg hM.size ?_
              conv => whnf
              refine jw (i := 150) rfl hM.l4 ?_
              conv => whnf
              rw [hst]
              generalize (jm_wi (f, σ.2) (m + 4) 150 0).1 = H at hS2 Hq
              have Hm : H m = F m := (Hq m (by omega)).trans fm
              have H10 : ∀ k, k ≤ 10 → H m k = σ.1 m k := fun k hk => (congrFun Hm k).trans (F10 k hk)
              refine hk _ _ _ _ (k_M_certificate_83 rfl (c_mless (σ := (H, σ.2)) (d := d) (p := 150) (k := k) (sg := 1) (qs := hkp S) (cs := sp_col (hel S) k) hM ⟨(H10 1 (by decide)).trans hF.2.1, (H10 2 (by decide)).trans hF.2.2.1, by have := hG.1.2; omega, hG.2.1⟩ hS2 (by omega) (by omega) (Or.inl rfl) ?_ (by omega) (by rw [sp_col, List.length_map, hkl]) (fun i q hiq => ?_) (fun i q hiq => ?_) (by rw [tU_at]; exact sp_pw_nil) (by rw [tU_at]; exact HVp_nil _) ((congrFun Hm 11).trans F11)) (fun u hu => ?_))
              · exact (congrFun Hm 20).trans (F20.trans (h8.trans (by rw [hkl])))
              · have hi := (List.getElem?_eq_some_iff.mp hiq).1
                refine ⟨?_, hkp1.2 q (List.mem_of_getElem? hiq)⟩
                rw [tU_ne (by omega), cpy_i (by omega)]
                exact hT.2.2.2 hb hq i q hiq
              · obtain ⟨E, gE, gEk⟩ := sp_col_at hiq (fun i E hE => (hSE.2.2 E (List.mem_of_getElem? hE)).1) hk8
                have hEm := List.mem_of_getElem? gE
                have hkm := List.mem_of_getElem? gEk
                have hi := (List.getElem?_eq_some_iff.mp gE).1
                refine ⟨?_, (hSE.1 E hEm).2.1.2 q hkm, (hSE.2.2 E hEm).2.1.2 q hkm⟩
                rw [tU_ne (by omega), cpy_o (by omega)]
                exact (hT.2.2.1 hb i E gE).2.2 k q gEk
              · obtain ⟨f2, l2, hf2, hS3, h6, hu⟩ := hu
                subst hu
                rw [tU_at] at h6
                rw [tU_tU] at hS3
                show J g (d + 6) 124 86 _ _ (f2, σ.2) _
                refine jm_run ok_M_certificate [] 90 (fun kk hk => ?_)
                conv => whnf
                refine hk _ _ _ _ (k_M_certificate_91 rfl (mtk2 (d := d + 4) hR hG hT (fun k hk => (hf2.f10 k hk).trans (H10 k hk)) (fun q hq => (hf2.1 q hq).trans ((Hq q (by omega)).trans ((hf q (by omega)).trans (Fq q (by omega))))) hS3 (fun q hq => cpy_o (by unfold ks at hq; omega)) h6 hr40) (fun u hu => ?_))
                obtain ⟨f4, a1, a2, rfl⟩ := hu
                exact r_M_certificate_94 ⟨f4, a1, a2, rfl⟩
            | succ n ih =>
              intro e he f hf hSf
              refine jm_run ok_M_certificate [44] 90 (fun kk hk => ?_)
              conv => whnf
              refine b_le (a := 25) (b := e) rfl rfl (fun h => by omega) (fun _ => ?_)
              conv => whnf
              rw [show (125 : Int32) + nI e = nI (125 + e) from nI_add 125 e, show (100 : Int32) + nI e = nI (100 + e) from nI_add 100 e]
              refine hk _ _ _ _ (k_M_certificate_59 rfl (c_mcopy (σ := (f, σ.2)) (a := 125 + e) (b := 100 + e) hM hSf (by omega) (by omega) (by omega)) (fun u hu => ?_))
              obtain ⟨f2, hf2, hS2, hu⟩ := hu
              subst hu
              rw [cpy_s (by omega)] at hS2
              show J g (d + 6) 124 62 _ _ (f2, σ.2) _
              refine jm_run ok_M_certificate [44] 90 (fun kk hk => ?_)
              conv => whnf
              rw [nI_1]
              exact hk _ _ _ _ (ih (e + 1) (by omega) f2 (fun q hq => (hf2 q hq).trans (hf q hq)) hS2)
          refine jm_run ok_M_certificate [44] 90 (fun kk hk => ?_)
          conv => whnf
          exact hk _ _ _ _ (loop 25 0 (by omega) F (fun _ _ => rfl) (by rw [cpy_0]; exact MS_fr hS (fun q a b => Fq q (by omega))))
end
