/-! the constructors: the Model -/
/-- how many variables -/
def clp (x : Int32) : Nat := if x.toInt < 1 then 1 else if 4 < x.toInt then 4 else x.toNatClampNeg
theorem clp_b (x : Int32) : 1 ≤ clp x ∧ clp x ≤ 4 := by
  unfold clp
  split
  · omega
  · split
    · omega
    · have : x.toNatClampNeg = x.toInt.toNat := rfl
      omega
section
variable {g : jm_G} {d : Nat} {σ τ : jm_S}
theorem stp {a m k N R : Nat} (hs : τ.2.2.1 = a) (hm : m < a) (hb : τ.2.2.2 + (N + R) ≤ 7293000) : ∃ τ' : jm_S, jm_wr (jm_nw τ N) m k (a + 1) = τ' ∧ τ'.2.2.1 = a + 1 ∧ (τ.2.2.2 + N ≤ 7293000 ∧ τ'.2.2.2 + R ≤ 7293000) ∧ τ'.2.1 m k = a + 1 ∧ (∀ j, j ≠ k → τ'.2.1 m j = τ.2.1 m j) ∧ (∀ q, q < m → τ'.2.1 q = τ.2.1 q) ∧ Ext τ τ' 1 N := by
  refine ⟨_, rfl, by show τ.2.2.1 + 1 = _; omega, ⟨by omega, by show τ.2.2.2 + N + R ≤ _; omega⟩, jm_wr_at, fun j hj => ?_, fun q hq => ?_, (Ext.nw τ N).wr⟩
  · rw [jm_wr_k hj, nw_r (by omega)]
  · rw [jm_wr_q (by omega), nw_r (by omega)]
def mdT (g : jm_G) (m : Nat) : Prop := (gdm g m = 6 ∧ gdm g (m + 1) = 8 ∧ gdm g (m + 2) = 8 ∧ gdm g (m + 3) = 8 ∧ gdm g (m + 4) = 8 ∧ gdm g (m + 5) = 8 ∧ gdm g (m + 6) = 8 ∧ gdm g (m + 7) = 9 ∧ gdm g (m + 8) = 9) ∧ gln g (m + 1) = 37200 ∧ gln g (m + 2) = 37200 ∧ gln g (m + 3) = 37200 ∧ gln g (m + 4) = 372 ∧ gln g (m + 5) = 4 ∧ gln g (m + 6) = 4 ∧ gln g (m + 7) = 625 ∧ gln g (m + 8) = 25
theorem c_MinitF {m n : Nat} {x : Int32} (hn : n = clp x) (h1 : τ.2.2.1 = m + 9) (h2 : τ.2.2.2 = σ.2.2.2 + 112630) (h3 : ∀ q, q < m + 1 → τ.1 q = σ.1 q) (h4 : ∀ q k, m < q → q < m + 9 → τ.1 q k = 0) (h5 : ∀ q, q < m → τ.2.1 q = σ.2.1 q) (h6 : ML g τ m) :
    J g d 75 88 [some (aR 6 m), some (aI x)] [aI (nI n), aR 6 m] τ (fun u => ∃ σ', u = (σ', .inl none) ∧ σ'.2.2.1 = m + 9 ∧ σ'.2.2.2 = σ.2.2.2 + 112630 ∧ (∀ q, q < m → σ'.1 q = σ.1 q) ∧ (σ'.1 m 0 = nI (clp x) ∧ σ'.1 m 1 = nI (clp x) ∧ ∀ k, k ≠ 0 → k ≠ 1 → σ'.1 m k = σ.1 m k) ∧ (∀ q k, m < q → q < m + 9 → σ'.1 q k = 0) ∧ (∀ q, q < m → σ'.2.1 q = σ.2.1 q) ∧ ML g σ' m) := by
  subst hn
  have w1 : (jm_wi τ m 0 (nI (clp x))).1 m 0 = nI (clp x) := jm_wi_at
  refine jm_run ok_M_init [] 90 (fun kk hk => ?_)
  conv => whnf
  rw [w1]
  refine hk _ _ _ _ (r_M_init_99 ⟨_, rfl, h1, h2, fun q hq => ?_, ⟨?_, jm_wi_at, fun k h0 h1 => ?_⟩, fun q k h1 h2 => ?_, h5, h6⟩)
  · rw [jm_wi_q (by omega), jm_wi_q (by omega)]; exact h3 q (by omega)
  · rw [jm_wi_k (by decide)]; exact w1
  · rw [jm_wi_k h1, jm_wi_k h0]; exact congrFun (h3 m (by omega)) k
  · rw [jm_wi_q (by omega), jm_wi_q (by omega)]; exact h4 q k h1 h2
theorem c_MinitC {m : Nat} {x : Int32} {K : jm_O → Prop} (fin : J g d 75 88 [some (aR 6 m), some (aI x)] [aI (nI (clp x)), aR 6 m] σ K) : J g d 75 68 [some (aR 6 m), some (aI x)] [] σ K := by
  have e0 : (1 : Int32).toInt = 1 := rfl
  have e4 : (4 : Int32).toInt = 4 := rfl
  have fin : ∀ y : Int32, y = nI (clp x) → J g d 75 88 [some (aR 6 m), some (aI x)] [aI y, aR 6 m] σ K := fun y hy => by rw [hy]; exact fin
  refine jm_run ok_M_init [88] 90 (fun kk hk => ?_)
  conv => whnf
  refine ⟨fun h1 => ?_, fun h1 => ?_⟩
  · have q1 := Int32.le_iff_toInt_le.mp h1
    conv => whnf
    refine ⟨fun h2 => ?_, fun h2 => ?_⟩
    · have q2 := Int32.le_iff_toInt_le.mp h2
      conv => whnf
      refine hk _ _ _ _ (fin x ?_)
      have hv5 : vp_in x 5 := vp_in_iff.mpr ⟨by omega, by omega⟩
      obtain ⟨j, hj, hxj⟩ := vp_in_of (n := 5) hv5 (by decide)
      rw [hxj] at q1 q2 ⊢
      rw [nI_toInt (by omega)] at q1 q2
      unfold clp
      rw [nI_toInt (by omega), if_neg (by omega), if_neg (by omega), nI_clamp (by omega)]
    · have q2 : ¬ _ := fun q => h2 (Int32.le_iff_toInt_le.mpr q)
      conv => whnf
      refine hk _ _ _ _ (fin 4 ?_)
      unfold clp
      rw [if_neg (by omega), if_pos (by omega)]
      rfl
  · have q1 : ¬ _ := fun q => h1 (Int32.le_iff_toInt_le.mpr q)
    conv => whnf
    refine hk _ _ _ _ (fin 1 ?_)
    unfold clp
    rw [if_pos (by omega)]
    rfl
theorem c_Minit {m : Nat} {x : Int32} (hs : σ.2.2.1 = m + 1) (ht : mdT g m) (hr : RM g σ 8 112630) :
    J g d 75 0 [some (aR 6 m), some (aI x)] [] σ (fun u => ∃ σ', u = (σ', .inl none) ∧ σ'.2.2.1 = m + 9 ∧ σ'.2.2.2 = σ.2.2.2 + 112630 ∧ (∀ q, q < m → σ'.1 q = σ.1 q) ∧ (σ'.1 m 0 = nI (clp x) ∧ σ'.1 m 1 = nI (clp x) ∧ ∀ k, k ≠ 0 → k ≠ 1 → σ'.1 m k = σ.1 m k) ∧ (∀ q k, m < q → q < m + 9 → σ'.1 q k = 0) ∧ (∀ q, q < m → σ'.2.1 q = σ.2.1 q) ∧ ML g σ' m) := by
  have R1 : m + 9 ≤ gb g + 601024 := by have := hr.1; omega
  have R2 : σ.2.2.2 + (37200 + 75430) ≤ 7293000 := hr.2
  obtain ⟨⟨t0, t1, t2, t3, t4, t5, t6, t7, t8⟩, l1, l2, l3, l4, l5, l6, l7, l8⟩ := ht
  obtain ⟨τ1, e1, s1, n1, a1, b1, c1, x1⟩ := stp (τ := σ) (a := m + 1) (m := m) (k := 3) (N := 37200) (R := (37200 + 38230)) hs (Nat.lt_add_of_pos_right (by decide)) R2
  obtain ⟨τ2, e2, s2, n2, a2, b2, c2, x2⟩ := stp (τ := τ1) (a := m + 2) (m := m) (k := 4) (N := 37200) (R := (37200 + 1030)) s1 (Nat.lt_add_of_pos_right (by decide)) n1.2
  obtain ⟨τ3, e3, s3, n3, a3, b3, c3, x3⟩ := stp (τ := τ2) (a := m + 3) (m := m) (k := 5) (N := 37200) (R := (372 + 658)) s2 (Nat.lt_add_of_pos_right (by decide)) n2.2
  obtain ⟨τ4, e4, s4, n4, a4, b4, c4, x4⟩ := stp (τ := τ3) (a := m + 4) (m := m) (k := 6) (N := 372) (R := (4 + 654)) s3 (Nat.lt_add_of_pos_right (by decide)) n3.2
  obtain ⟨τ5, e5, s5, n5, a5, b5, c5, x5⟩ := stp (τ := τ4) (a := m + 5) (m := m) (k := 15) (N := 4) (R := (4 + 650)) s4 (Nat.lt_add_of_pos_right (by decide)) n4.2
  obtain ⟨τ6, e6, s6, n6, a6, b6, c6, x6⟩ := stp (τ := τ5) (a := m + 6) (m := m) (k := 18) (N := 4) (R := (625 + 25)) s5 (Nat.lt_add_of_pos_right (by decide)) n5.2
  obtain ⟨τ7, e7, s7, n7, a7, b7, c7, x7⟩ := stp (τ := τ6) (a := m + 7) (m := m) (k := 23) (N := 625) (R := (25 + 0)) s6 (Nat.lt_add_of_pos_right (by decide)) n6.2
  obtain ⟨τ8, e8, s8, n8, a8, b8, c8, x8⟩ := stp (τ := τ7) (a := m + 8) (m := m) (k := 27) (N := 25) (R := 0) s7 (Nat.lt_add_of_pos_right (by decide)) n7.2
  have hx := ((((((x1.trans x2).trans x3).trans x4).trans x5).trans x6).trans x7).trans x8
  have hML : ML g τ8 m := by
    refine ⟨⟨?_, ?_, ?_, ?_, ?_, ?_, ?_, a8⟩, l1, l2, l3, l4, l5, l6, l7, l8⟩
    · rw [b8 3 (by decide), b7 3 (by decide), b6 3 (by decide), b5 3 (by decide), b4 3 (by decide), b3 3 (by decide), b2 3 (by decide)]; exact a1
    · rw [b8 4 (by decide), b7 4 (by decide), b6 4 (by decide), b5 4 (by decide), b4 4 (by decide), b3 4 (by decide)]; exact a2
    · rw [b8 5 (by decide), b7 5 (by decide), b6 5 (by decide), b5 5 (by decide), b4 5 (by decide)]; exact a3
    · rw [b8 6 (by decide), b7 6 (by decide), b6 6 (by decide), b5 6 (by decide)]; exact a4
    · rw [b8 15 (by decide), b7 15 (by decide), b6 15 (by decide)]; exact a5
    · rw [b8 18 (by decide), b7 18 (by decide)]; exact a6
    · rw [b8 23 (by decide)]; exact a7
  have fin := c_MinitF (g := g) (d := d) (σ := σ) (τ := τ8) (m := m) (x := x) rfl s8 hx.2.1 (fun q hq => hx.2.2.1 q (Nat.lt_of_lt_of_eq hq hs.symm)) (fun q k h1 h2 => hx.2.2.2 q k (Nat.le_trans (Nat.le_of_eq hs) h1) (Nat.lt_of_lt_of_eq h2 (by rw [hs]))) (fun q hq => by rw [c8 q hq, c7 q hq, c6 q hq, c5 q hq, c4 q hq, c3 q hq, c2 q hq, c1 q hq]) hML
  have fin2 := c_MinitC fin
  refine jm_run ok_M_init [68] 90 (fun kk hk => ?_)
  conv => whnf
  refine jn (a := m + 1) (N := 37200) hs rfl (by decide) t1 l1 (Nat.le_trans (Nat.add_le_add_left (show 2 ≤ 9 by decide) m) R1) n1.1 ?_
  conv => whnf
  rw [e1]
  refine jn (a := m + 2) (N := 37200) s1 rfl (by decide) t2 l2 (Nat.le_trans (Nat.add_le_add_left (show 3 ≤ 9 by decide) m) R1) n2.1 ?_
  conv => whnf
  rw [e2]
  refine jn (a := m + 3) (N := 37200) s2 rfl (by decide) t3 l3 (Nat.le_trans (Nat.add_le_add_left (show 4 ≤ 9 by decide) m) R1) n3.1 ?_
  conv => whnf
  rw [e3]
  refine jn (a := m + 4) (N := 372) s3 rfl (by decide) t4 l4 (Nat.le_trans (Nat.add_le_add_left (show 5 ≤ 9 by decide) m) R1) n4.1 ?_
  conv => whnf
  rw [e4]
  refine jn (a := m + 5) (N := 4) s4 rfl (by decide) t5 l5 (Nat.le_trans (Nat.add_le_add_left (show 6 ≤ 9 by decide) m) R1) n5.1 ?_
  conv => whnf
  rw [e5]
  refine jn (a := m + 6) (N := 4) s5 rfl (by decide) t6 l6 (Nat.le_trans (Nat.add_le_add_left (show 7 ≤ 9 by decide) m) R1) n6.1 ?_
  conv => whnf
  rw [e6]
  refine jn (a := m + 7) (N := 625) s6 rfl (by decide) t7 l7 (Nat.le_trans (Nat.add_le_add_left (show 8 ≤ 9 by decide) m) R1) n7.1 ?_
  conv => whnf
  rw [e7]
  refine jn (a := m + 8) (N := 25) s7 rfl (by decide) t8 l8 (Nat.le_trans (Nat.add_le_add_left (show 9 ≤ 9 by decide) m) R1) n8.1 ?_
  conv => whnf
  rw [e8]
  exact hk _ _ _ _ fin2
end
