/-! THE MODEL: isStair, stairs -/
section
variable {g : jm_G} {d : Nat} {σ : jm_S} {m : Nat} {S : sp_H}
theorem LD_G (els : List sp_E) (i : Nat) (hi : i < els.length) : (LD els)[i]? = some (gl (sp_G els) i) := LD_at hi
theorem c_misStair {T : Nat → sp_P} {n : Nat} {els : List sp_E} {mo : sp_M} (hM : ML g σ m) (hT : MS σ.1 m T) (hG : MG T 50 n (sp_G els)) (h1 : σ.1 m 1 = nI n) (hn : n ≤ 5) (h8 : σ.1 m 8 = nI els.length) (hl24 : els.length ≤ 24) (hok : sp_ok mo) :
    J g (d + 2) 129 0 [some (aR 6 m), some (aI (sp_d mo)), none] [] σ (jR σ (aI (sp_bi (!(LD els).any (fun a => sp_dv a mo))))) := by
  have hGl := sp_G_len els
  have loop : ∀ (N e : Nat), e + N = els.length → (LD els).any (fun a => sp_dv a mo) = ((LD els).drop e).any (fun a => sp_dv a mo) → J g (d + 2) 129 2 [some (aR 6 m), some (aI (sp_d mo)), some (aI (nI e))] [] σ (jR σ (aI (sp_bi (!(LD els).any (fun a => sp_dv a mo))))) := by
    intro N
    induction N with
    | zero =>
      intro e he hO
      rw [List.drop_of_length_le (by unfold LD; rw [List.length_map]; omega), List.any_nil] at hO
      rw [hO]
      refine jm_run ok_M_isStair [2] 90 (fun kk hk => ?_)
      conv => whnf
      refine b_le h8 rfl (fun _ => ?_) (fun h => by omega)
      conv => whnf
      exact hk _ _ _ _ (r_M_isStair_35 (Or.inr rfl) rfl)
    | succ N ih =>
      intro e he hO
      obtain ⟨g1, g2, g3, g4⟩ := hG.gl (i := e) (by omega)
      rw [drop_cons (LD_at (by omega)), List.any_cons] at hO
      refine jm_run ok_M_isStair [2] 90 (fun kk hk => ?_)
      conv => whnf
      refine b_le h8 rfl (fun h => by omega) (fun _ => ?_)
      conv => whnf
      rw [show (50 : Int32) + nI e = nI (50 + e) from nI_add 50 e]
      refine hk _ _ _ _ (k_M_isStair_16 rfl (c_mlead hM hT (by omega) g2) (fun u hu => ?_))
      subst hu
      rw [g1]
      show J g (d + 2) 129 19 _ _ σ _
      refine jm_run ok_M_isStair [2] 90 (fun kk hk => ?_)
      conv => whnf
      refine hk _ _ _ _ (k_M_isStair_20 rfl (c_mdivides (d := d) g3 hok g4 h1 hn) (fun u hu => ?_))
      subst hu
      show J g (d + 2) 129 23 _ _ σ _
      cases hdv : sp_dv (gl (sp_G els) e) mo with
      | true =>
        rw [hdv, Bool.true_or] at hO
        rw [hO]
        refine jm_run ok_M_isStair [2] 90 (fun kk hk => ?_)
        conv => whnf
        refine b_z (b := true) rfl (fun h => by cases h) (fun _ => ?_)
        conv => whnf
        exact hk _ _ _ _ (r_M_isStair_27 (Or.inl rfl) rfl)
      | false =>
        rw [hdv, Bool.false_or] at hO
        refine jm_run ok_M_isStair [2] 90 (fun kk hk => ?_)
        conv => whnf
        refine b_z (b := false) rfl (fun _ => ?_) (fun h => by cases h)
        conv => whnf
        rw [nI_1]
        exact hk _ _ _ _ (ih (e + 1) (by omega) hO)
  refine jm_run ok_M_isStair [2] 90 (fun kk hk => ?_)
  conv => whnf
  exact hk _ _ _ _ (loop els.length 0 (by omega) rfl)
/-- what stairs answers -/
def stv (S : sp_H) : Int32 := if bxk (hel S) (hv S) = true then nI (sumN (fun i => Fst (LD (hel S)) (dec (bxs (hel S)) (hv S) 0 i)) (ttl (bxs (hel S)) (hv S) 0)) else -8
theorem stv_zm (hG : GS S) (h : sp_zm ∈ LD (hel S)) : stv S = 0 := by
  have hv1 := hG.1
  have hb : bxk (hel S) (hv S) = true := List.all_eq_true.mpr (fun v hvr => by
    rw [sp_pure_0 (v := v) (by have := List.mem_range.mp hvr; omega) (Or.inl h)]; rfl)
  unfold stv
  rw [if_pos hb]
  have h0 : bxs (hel S) 0 = 0 := by unfold bxs; rw [sp_pure_0 (by decide) (Or.inl h)]; rfl
  obtain ⟨k, hk⟩ : ∃ k, hv S = k + 1 := ⟨hv S - 1, by omega⟩
  have : ttl (bxs (hel S)) (hv S) 0 = 0 := by rw [hk]; show bxs (hel S) 0 * _ = 0; rw [h0, Nat.zero_mul]
  rw [this]
  rfl
/-- the counting -/
theorem c_mstC {T : Nat → sp_P} {f : Nat → Nat → Int32} {w : Nat → Nat} (hR : MR g σ m S) (hG : GS S) (hS : MS σ.1 m T) (hT : MT T S) (hb : hB S = true) (hf : ∀ q, q ≠ m + 6 → f q = σ.1 q) (hw : ∀ v, v < 4 → f (m + 6) v = nI (w v)) (hw30 : ∀ v, v < 4 → w v ≤ 30) (hO : stv S = nI (ns w 4 0 (fun x => Fst (LD (hel S)) x))) {z1 z2 z3 z4 z5 : Option jm_V} :
    J g (d + 3) 128 152 [some (aR 6 m), z1, z2, z3, z4, z5] [] (f, σ.2) (jMd g σ m (stv S) S) := by
  have hM := hR.1
  have hF := hR.2.1
  have hgl := hG.2.2.2.1
  have hv4 := hG.1.2
  have h8 := hF.2.2.2.2.2.2 hb
  have hl24 := hG.el24 hb
  have hSE := (hG.2.2.2.2.2.2.1 hb).1
  have hMG : MG T 50 (hv S) (sp_G (hel S)) := SE_mg (hT.2.2.1 hb) hSE
  have fm : f m = σ.1 m := hf m (by omega)
  have hSf : MS f m T := MS_fr hS (fun q a b => hf q (by omega))
  have w0 := hw30 0 (by decide)
  have w1 := hw30 1 (by decide)
  have w2 := hw30 2 (by decide)
  have w3 := hw30 3 (by decide)
  have hend : ∀ a, jMd g σ m a S ((f, σ.2), .inl (some (aI a))) := fun a => jMd_mk hM (MF_fr hF (fun k _ => congrFun fm k)) (MD_fr hR.2.2.1 (hf _ (by omega))) hSf hT (fun q hq => hf q (by omega))
  have lp4 : ∀ (a b c N : Nat) (K : Nat), a < w 0 → b < w 1 → c < w 2 → (∀ (x5 : Option jm_V), J g (d + 3) 128 244 [some (aR 6 m), some (aI (nI (N + sumN (fun dd => Fst (LD (hel S)) (a, (b, (c, (dd, 0))))) (w 3)))), some (aI (nI a)), some (aI (nI b)), some (aI (nI c)), x5] [] (f, σ.2) (jMd g σ m (stv S) S)) → ∀ n dd, dd + n = w 3 → J g (d + 3) 128 195 [some (aR 6 m), some (aI (nI (N + sumN (fun dd => Fst (LD (hel S)) (a, (b, (c, (dd, 0))))) dd))), some (aI (nI a)), some (aI (nI b)), some (aI (nI c)), some (aI (nI dd))] [] (f, σ.2) (jMd g σ m (stv S) S) := by
    intro a b c N K ha hb hc hnx n
    induction n with
    | zero =>
      intro dd hdd
      obtain rfl : dd = w 3 := by omega
      refine jm_run ok_M_stairs [244] 90 (fun kk hk => ?_)
      conv => whnf
      refine jg hM.at4 ?_
      conv => whnf
      refine ja (i := 3) rfl hM.l6 (hw 3 (by decide)) ?_
      conv => whnf
      refine b_le (a := w 3) (b := w 3) rfl rfl (fun _ => ?_) (fun h => by omega)
      conv => whnf
      exact hk _ _ _ _ (hnx _)
    | succ n ih =>
      intro dd hdd
      have hok : sp_ok (a, (b, (c, (dd, 0)))) := ⟨by show a ≤ 30; omega, by show b ≤ 30; omega, by show c ≤ 30; omega, by show dd ≤ 30; omega, Nat.zero_le _⟩
      refine jm_run ok_M_stairs [195] 90 (fun kk hk => ?_)
      conv => whnf
      refine jg hM.at4 ?_
      conv => whnf
      refine ja (i := 3) rfl hM.l6 (hw 3 (by decide)) ?_
      conv => whnf
      refine b_le (a := w 3) (b := dd) rfl rfl (fun h => by omega) (fun _ => ?_)
      conv => whnf
      rw [st5 (by omega) (by omega) (by omega) (by omega)]
      refine hk _ _ _ _ (k_M_stairs_225 rfl (c_misStair (σ := (f, σ.2)) (d := d) hM hSf hMG ((congrFun fm 1).trans hF.2.1) (by omega) ((congrFun fm 8).trans h8) hl24 hok) (fun u hu => ?_))
      subst hu
      show J g (d + 3) 128 228 _ _ (f, σ.2) _
      cases hany : (LD (hel S)).any (fun x => sp_dv x (a, (b, (c, (dd, 0))))) with
      | true =>
        have e : N + sumN (fun dd => Fst (LD (hel S)) (a, (b, (c, (dd, 0))))) dd + 0 = N + sumN (fun dd => Fst (LD (hel S)) (a, (b, (c, (dd, 0))))) (dd + 1) := by
          show _ = N + (_ + Fst (LD (hel S)) (a, (b, (c, (dd, 0)))))
          unfold Fst
          rw [hany]
          rfl
        refine jm_run ok_M_stairs [195] 90 (fun kk hk => ?_)
        conv => whnf
        refine b_z (b := false) rfl (fun _ => ?_) (fun h => by cases h)
        conv => whnf
        rw [show nI (N + sumN (fun dd => Fst (LD (hel S)) (a, (b, (c, (dd, 0))))) dd) + 0 = nI (N + sumN (fun dd => Fst (LD (hel S)) (a, (b, (c, (dd, 0))))) (dd + 1)) from (nI_add _ 0).trans (congrArg nI e), nI_1]
        exact hk _ _ _ _ (ih (dd + 1) (by omega))
      | false =>
        have e : N + sumN (fun dd => Fst (LD (hel S)) (a, (b, (c, (dd, 0))))) dd + 1 = N + sumN (fun dd => Fst (LD (hel S)) (a, (b, (c, (dd, 0))))) (dd + 1) := by
          show _ = N + (_ + Fst (LD (hel S)) (a, (b, (c, (dd, 0)))))
          unfold Fst
          rw [hany]
          rfl
        refine jm_run ok_M_stairs [195] 90 (fun kk hk => ?_)
        conv => whnf
        refine b_z (b := true) rfl (fun h => by cases h) (fun _ => ?_)
        conv => whnf
        rw [show nI (N + sumN (fun dd => Fst (LD (hel S)) (a, (b, (c, (dd, 0))))) dd) + 1 = nI (N + sumN (fun dd => Fst (LD (hel S)) (a, (b, (c, (dd, 0))))) (dd + 1)) from (nI_add _ 1).trans (congrArg nI e), nI_1]
        exact hk _ _ _ _ (ih (dd + 1) (by omega))
  have lp3 : ∀ (a b N : Nat), a < w 0 → b < w 1 → (∀ (x4 x5 : Option jm_V), J g (d + 3) 128 250 [some (aR 6 m), some (aI (nI (N + sumN (fun c => sumN (fun dd => Fst (LD (hel S)) (a, (b, (c, (dd, 0))))) (w 3)) (w 2)))), some (aI (nI a)), some (aI (nI b)), x4, x5] [] (f, σ.2) (jMd g σ m (stv S) S)) → ∀ n c (x5 : Option jm_V), c + n = w 2 → J g (d + 3) 128 181 [some (aR 6 m), some (aI (nI (N + sumN (fun c => sumN (fun dd => Fst (LD (hel S)) (a, (b, (c, (dd, 0))))) (w 3)) c))), some (aI (nI a)), some (aI (nI b)), some (aI (nI c)), x5] [] (f, σ.2) (jMd g σ m (stv S) S) := by
    intro a b N ha hb hnx n
    induction n with
    | zero =>
      intro c x5 hc
      obtain rfl : c = w 2 := by omega
      refine jm_run ok_M_stairs [250] 90 (fun kk hk => ?_)
      conv => whnf
      refine jg hM.at4 ?_
      conv => whnf
      refine ja (i := 2) rfl hM.l6 (hw 2 (by decide)) ?_
      conv => whnf
      refine b_le (a := w 2) (b := w 2) rfl rfl (fun _ => ?_) (fun h => by omega)
      conv => whnf
      exact hk _ _ _ _ (hnx _ _)
    | succ n ih =>
      intro c x5 hc
      refine jm_run ok_M_stairs [195] 90 (fun kk hk => ?_)
      conv => whnf
      refine jg hM.at4 ?_
      conv => whnf
      refine ja (i := 2) rfl hM.l6 (hw 2 (by decide)) ?_
      conv => whnf
      refine b_le (a := w 2) (b := c) rfl rfl (fun h => by omega) (fun _ => ?_)
      conv => whnf
      refine hk _ _ _ _ (lp4 a b c (N + sumN (fun c => sumN (fun dd => Fst (LD (hel S)) (a, (b, (c, (dd, 0))))) (w 3)) c) 0 ha hb (by omega) (fun x5 => ?_) (w 3) 0 (by omega))
      refine jm_run ok_M_stairs [181] 90 (fun kk hk => ?_)
      conv => whnf
      rw [nI_1, Nat.add_assoc]
      exact hk _ _ _ _ (ih (c + 1) _ (by omega))
  have lp2 : ∀ (a N : Nat), a < w 0 → (∀ (x3 x4 x5 : Option jm_V), J g (d + 3) 128 256 [some (aR 6 m), some (aI (nI (N + sumN (fun b => sumN (fun c => sumN (fun dd => Fst (LD (hel S)) (a, (b, (c, (dd, 0))))) (w 3)) (w 2)) (w 1)))), some (aI (nI a)), x3, x4, x5] [] (f, σ.2) (jMd g σ m (stv S) S)) → ∀ n b (x4 x5 : Option jm_V), b + n = w 1 → J g (d + 3) 128 168 [some (aR 6 m), some (aI (nI (N + sumN (fun b => sumN (fun c => sumN (fun dd => Fst (LD (hel S)) (a, (b, (c, (dd, 0))))) (w 3)) (w 2)) b))), some (aI (nI a)), some (aI (nI b)), x4, x5] [] (f, σ.2) (jMd g σ m (stv S) S) := by
    intro a N ha hnx n
    induction n with
    | zero =>
      intro b x4 x5 hb
      obtain rfl : b = w 1 := by omega
      refine jm_run ok_M_stairs [256] 90 (fun kk hk => ?_)
      conv => whnf
      refine jg hM.at4 ?_
      conv => whnf
      refine ja (i := 1) rfl hM.l6 (hw 1 (by decide)) ?_
      conv => whnf
      refine b_le (a := w 1) (b := w 1) rfl rfl (fun _ => ?_) (fun h => by omega)
      conv => whnf
      exact hk _ _ _ _ (hnx _ _ _)
    | succ n ih =>
      intro b x4 x5 hb
      refine jm_run ok_M_stairs [181] 90 (fun kk hk => ?_)
      conv => whnf
      refine jg hM.at4 ?_
      conv => whnf
      refine ja (i := 1) rfl hM.l6 (hw 1 (by decide)) ?_
      conv => whnf
      refine b_le (a := w 1) (b := b) rfl rfl (fun h => by omega) (fun _ => ?_)
      conv => whnf
      refine hk _ _ _ _ (lp3 a b (N + sumN (fun b => sumN (fun c => sumN (fun dd => Fst (LD (hel S)) (a, (b, (c, (dd, 0))))) (w 3)) (w 2)) b) ha (by omega) (fun x4 x5 => ?_) (w 2) 0 _ (by omega))
      refine jm_run ok_M_stairs [168] 90 (fun kk hk => ?_)
      conv => whnf
      rw [nI_1, Nat.add_assoc]
      exact hk _ _ _ _ (ih (b + 1) _ _ (by omega))
  have lp1 : ∀ n a (x3 x4 x5 : Option jm_V), a + n = w 0 → J g (d + 3) 128 156 [some (aR 6 m), some (aI (nI (sumN (fun a => sumN (fun b => sumN (fun c => sumN (fun dd => Fst (LD (hel S)) (a, (b, (c, (dd, 0))))) (w 3)) (w 2)) (w 1)) a))), some (aI (nI a)), x3, x4, x5] [] (f, σ.2) (jMd g σ m (stv S) S) := by
    intro n
    induction n with
    | zero =>
      intro a x3 x4 x5 ha
      obtain rfl : a = w 0 := by omega
      rw [hO]
      refine jm_run ok_M_stairs [156] 90 (fun kk hk => ?_)
      conv => whnf
      refine jg hM.at4 ?_
      conv => whnf
      refine ja (i := 0) rfl hM.l6 (hw 0 (by decide)) ?_
      conv => whnf
      refine b_le (a := w 0) (b := w 0) rfl rfl (fun _ => ?_) (fun h => by omega)
      conv => whnf
      exact hk _ _ _ _ (r_M_stairs_263 (hend _))
    | succ n ih =>
      intro a x3 x4 x5 ha
      refine jm_run ok_M_stairs [168] 90 (fun kk hk => ?_)
      conv => whnf
      refine jg hM.at4 ?_
      conv => whnf
      refine ja (i := 0) rfl hM.l6 (hw 0 (by decide)) ?_
      conv => whnf
      refine b_le (a := w 0) (b := a) rfl rfl (fun h => by omega) (fun _ => ?_)
      conv => whnf
      refine hk _ _ _ _ (lp2 a (sumN (fun a => sumN (fun b => sumN (fun c => sumN (fun dd => Fst (LD (hel S)) (a, (b, (c, (dd, 0))))) (w 3)) (w 2)) (w 1)) a) (by omega) (fun x3 x4 x5 => ?_) (w 1) 0 _ _ (by omega))
      refine jm_run ok_M_stairs [156] 90 (fun kk hk => ?_)
      conv => whnf
      rw [nI_1]
      exact hk _ _ _ _ (ih (a + 1) _ _ _ (by omega))
  refine jm_run ok_M_stairs [156] 90 (fun kk hk => ?_)
  conv => whnf
  exact hk _ _ _ _ (lp1 (w 0) 0 _ _ _ (by omega))
end
