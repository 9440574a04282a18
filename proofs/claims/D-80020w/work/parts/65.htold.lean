/-! the House: told, order -/
section
variable {g : jm_G} {d : Nat} {σ τ : jm_S} {h : Nat} {S S' : sp_H}
/-- the exponents as bytes -/
def tp (m : sp_M) : Nat → Int32
  | 0 => 0
  | v + 1 => tp m v ||| (nI (sp_ex m v) <<< ((8 * nI v) &&& 31))
def sp_tz : sp_T := (0, (0, sp_zm))
def op_told (S : sp_H) (x y z : Int32) : Int32 × sp_H := (if sp_ip x = true ∧ 0 ≤ y.toInt ∧ y.toInt < (pg S x.toNatClampNeg).length then (if z = nI 0 then sp_i ((pg S x.toNatClampNeg).getD y.toNatClampNeg sp_tz).1 else if z = nI 1 then sp_i ((pg S x.toNatClampNeg).getD y.toNatClampNeg sp_tz).2.1 else if z = nI 2 then tp ((pg S x.toNatClampNeg).getD y.toNatClampNeg sp_tz).2.2 4 else -2) else -1, S)
theorem c_told {x y z : Int32} (hR : HR g σ h S) (hG : GS S) : J g (d + 1) 30 0 [some (aR 1 h), some (aI x), some (aI y), some (aI z), none, none] [] σ (jH g σ h (op_told S x y z).1 (op_told S x y z).2) := by
  have hH := hR.1
  refine jm_run ok_H_told [] 90 (fun kk hk => ?_)
  conv => whnf
  refine hk _ _ _ _ (k_H_told_1 rfl c_isPlace (fun u hu => ?_))
  subst hu
  show J g (d + 1) 30 4 _ _ σ _
  unfold op_told
  cases hx : sp_ip x with
  | false =>
    rw [if_neg (fun q => by cases q.1)]
    refine jm_run ok_H_told [] 90 (fun kk hk => ?_)
    conv => whnf
    refine b_z (b := false) rfl (fun _ => ?_) (fun h => by cases h)
    conv => whnf
    exact hk _ _ _ _ (r_H_told_25 (jH_same hR))
  | true =>
    obtain ⟨k, hk40, rfl⟩ := sp_ip_t hx
    rw [nI_clamp (n := k) (by omega)]
    have hP := hR.pl hG hk40
    have hpr := hH.ple hk40
    have hw := (pg_ok hG hk40).1
    generalize pg S k = p at hP hw
    have hw1 := hw.1
    by_cases hy : 0 ≤ y.toInt ∧ y.toInt < p.length
    · rw [if_pos ⟨rfl, hy⟩]
      obtain ⟨i, hi, rfl⟩ := vp_in_of (n := p.length) (vp_in_iff.mpr hy) (by omega)
      have gi : p[i]? = some p[i] := List.getElem?_eq_getElem hi
      rw [nI_clamp (by omega), List.getD_eq_getElem?_getD, gi]
      have row := hP.2 _ _ gi
      have tw := sp_pw_at hw gi
      generalize p[i] = t at gi row tw
      show J g (d + 1) 30 4 _ _ σ (jH g σ h (if z = nI 0 then sp_i t.1 else if z = nI 1 then sp_i t.2.1 else if z = nI 2 then tp t.2.2 4 else -2) S)
      have go : J g (d + 1) 30 26 [some (aR 1 h), some (aI (nI k)), some (aI (nI i)), some (aI z), none, none] [] σ (jH g σ h (if z = nI 0 then sp_i t.1 else if z = nI 1 then sp_i t.2.1 else if z = nI 2 then tp t.2.2 4 else -2) S) := by
        have loop : ∀ n v, v + n = 4 → J g (d + 1) 30 82 [some (aR 1 h), some (aI (nI k)), some (aI (nI i)), some (aI z), some (aI (tp t.2.2 v)), some (aI (nI v))] [] σ (jH g σ h (tp t.2.2 4) S) := by
          intro n
          induction n with
          | zero =>
            intro v hv
            obtain rfl : v = 4 := by omega
            refine jm_run ok_H_told [82] 90 (fun kk hk => ?_)
            conv => whnf
            refine b_le (a := 4) (b := 4) rfl rfl (fun _ => ?_) (fun h => by omega)
            conv => whnf
            exact hk _ _ _ _ (r_H_told_123 (jH_same hR))
          | succ n ih =>
            intro v hv
            refine jm_run ok_H_told [82] 90 (fun kk hk => ?_)
            conv => whnf
            refine b_le (a := 4) (b := v) rfl rfl (fun h => by omega) (fun _ => ?_)
            conv => whnf
            refine jg hH.fpl ?_
            conv => whnf
            refine jr rfl hH.npl hpr.1 ?_
            conv => whnf
            refine jg hpr.2.2.2.1 ?_
            conv => whnf
            refine ja rfl hpr.2.2.2.2.2.2 row.2.2 ?_
            conv => whnf
            refine hk _ _ _ _ (k_H_told_103 rfl (c_exponent tw.2.2.2.2 (by omega)) (fun u hu => ?_))
            subst hu
            show J g (d + 1) 30 106 _ _ σ _
            refine jm_run ok_H_told [82] 90 (fun kk hk => ?_)
            conv => whnf
            rw [nI_1]
            exact hk _ _ _ _ (ih (v + 1) (by omega))
        by_cases h0 : z = nI 0
        · rw [if_pos h0]
          refine jm_run ok_H_told [] 90 (fun kk hk => ?_)
          conv => whnf
          refine ⟨fun j t' hj hx => ?_, fun hn => absurd h0 (hn 0 (by decide))⟩
          obtain rfl : j = 0 := by
            have hj4 : j < 3 := (List.getElem?_eq_some_iff.mp hj).1
            exact (nI_eq (by omega) (by omega)).mp (hx.symm.trans h0)
          have ht : some 52 = some t' := hj
          cases ht
          conv => whnf
          refine jg hH.fpl ?_
          conv => whnf
          refine jr rfl hH.npl hpr.1 ?_
          conv => whnf
          refine jg hpr.2.1 ?_
          conv => whnf
          refine ja rfl hpr.2.2.2.2.1 row.1 ?_
          conv => whnf
          exact hk _ _ _ _ (r_H_told_63 (jH_same hR))
        · rw [if_neg h0]
          by_cases h1 : z = nI 1
          · rw [if_pos h1]
            refine jm_run ok_H_told [] 90 (fun kk hk => ?_)
            conv => whnf
            refine ⟨fun j t' hj hx => ?_, fun hn => absurd h1 (hn 1 (by decide))⟩
            obtain rfl : j = 1 := by
              have hj4 : j < 3 := (List.getElem?_eq_some_iff.mp hj).1
              exact (nI_eq (by omega) (by omega)).mp (hx.symm.trans h1)
            have ht : some 64 = some t' := hj
            cases ht
            conv => whnf
            refine jg hH.fpl ?_
            conv => whnf
            refine jr rfl hH.npl hpr.1 ?_
            conv => whnf
            refine jg hpr.2.2.1 ?_
            conv => whnf
            refine ja rfl hpr.2.2.2.2.2.1 row.2.1 ?_
            conv => whnf
            exact hk _ _ _ _ (r_H_told_75 (jH_same hR))
          · rw [if_neg h1]
            by_cases h2 : z = nI 2
            · rw [if_pos h2]
              refine jm_run ok_H_told [82] 90 (fun kk hk => ?_)
              conv => whnf
              refine ⟨fun j t' hj hx => ?_, fun hn => absurd h2 (hn 2 (by decide))⟩
              obtain rfl : j = 2 := by
                have hj4 : j < 3 := (List.getElem?_eq_some_iff.mp hj).1
                exact (nI_eq (by omega) (by omega)).mp (hx.symm.trans h2)
              have ht : some 76 = some t' := hj
              cases ht
              conv => whnf
              exact hk _ _ _ _ (loop 4 0 rfl)
            · rw [if_neg h2]
              refine jm_run ok_H_told [] 90 (fun kk hk => ?_)
              conv => whnf
              refine ⟨fun j t' hj hx => ?_, fun hn => ?_⟩
              · have hj4 : j < 3 := (List.getElem?_eq_some_iff.mp hj).1
                have : j = 0 ∨ j = 1 ∨ j = 2 := by omega
                rcases this with e | e | e <;> subst e
                · exact absurd hx h0
                · exact absurd hx h1
                · exact absurd hx h2
              · conv => whnf
                exact hk _ _ _ _ (r_H_told_126 (jH_same hR))
      refine jm_run ok_H_told [26] 90 (fun kk hk => ?_)
      conv => whnf
      refine b_z (b := true) rfl (fun h => by cases h) (fun _ => ?_)
      conv => whnf
      refine b_lt (a := i) (b := 0) rfl rfl (fun h => by omega) (fun _ => ?_)
      conv => whnf
      refine jg hH.fpl ?_
      conv => whnf
      refine jr rfl hH.npl hpr.1 ?_
      conv => whnf
      refine b_lt rfl hP.1 (fun _ => ?_) (fun h => by omega)
      conv => whnf
      exact hk _ _ _ _ go
    · rw [if_neg (fun q => hy q.2)]
      refine jm_run ok_H_told [26] 90 (fun kk hk => ?_)
      conv => whnf
      refine b_z (b := true) rfl (fun h => by cases h) (fun _ => ?_)
      conv => whnf
      refine ⟨fun h1 => ?_, fun h1 => ?_⟩
      · conv => whnf
        exact hk _ _ _ _ (r_H_told_25 (jH_same hR))
      · conv => whnf
        refine jg hH.fpl ?_
        conv => whnf
        refine jr rfl hH.npl hpr.1 ?_
        conv => whnf
        rw [hP.1]
        refine ⟨fun h2 => ?_, fun h2 => ?_⟩
        · have e1 : ¬ y.toInt < (0 : Int32).toInt := fun q => h1 (Int32.lt_iff_toInt_lt.mpr q)
          have e2 := Int32.lt_iff_toInt_lt.mp h2
          rw [nI_toInt (by omega)] at e2
          have e3 : (0 : Int32).toInt = 0 := rfl
          exact absurd ⟨by omega, e2⟩ hy
        · conv => whnf
          exact hk _ _ _ _ (r_H_told_25 (jH_same hR))
/-- the state in another order -/
def sp_ord (S : sp_H) (j : Nat) : sp_H := ((hv S, j), (((hpl S).map (sp_sort j), (hgn S).map (sp_sort j)), ((hel S, (false, hQ S)), S.2.2.2)))
def op_order (S : sp_H) (x : Int32) : Int32 × sp_H := if 0 ≤ x.toInt ∧ x.toInt < 3 then (nI (hkd S), sp_ord S x.toNatClampNeg) else (-2, S)
theorem pok_sort {j : Nat} {p : sp_P} (h : pok S p) : sp_pw (sp_sort j p) ∧ so j (sp_sort j p) ∧ HVp (hv S) (sp_sort j p) := ⟨sp_sort_w h.1, so_sort h.1 h.2.1, HVp_sort h.2.2⟩
theorem GS_ord {j : Nat} (hG : GS S) (hj : j < 3) : GS (sp_ord S j) := by
  obtain ⟨a1, a2, a3, a4, a5, a6, a7, a8⟩ := hG
  refine ⟨a1, hj, ?_, ?_, fun p hp => ?_, fun p hp => ?_, fun h => (by cases h), fun h => (by cases h)⟩
  · show ((hpl S).map (sp_sort j)).length = 40
    rw [List.length_map]; exact a3
  · show ((hgn S).map (sp_sort j)).length ≤ 8
    rw [List.length_map]; exact a4
  · obtain ⟨q, hq, rfl⟩ := List.mem_map.mp (show p ∈ (hpl S).map (sp_sort j) from hp)
    exact pok_sort (S := S) (a5 q hq)
  · obtain ⟨q, hq, rfl⟩ := List.mem_map.mp (show p ∈ (hgn S).map (sp_sort j) from hp)
    exact pok_sort (S := S) (a6 q hq)
theorem PL_map {f : Nat → Nat → Int32} {a : Nat} {l : List sp_P} {F : sp_P → sp_P} (h : ∀ i p, l[i]? = some p → PA f (a + 4 * i) (F p)) : PL f a (l.map F) := fun k p hp => by
  rw [List.getElem?_map] at hp
  cases hg : l[k]? with
  | none => rw [hg] at hp; cases hp
  | some q => rw [hg] at hp; cases hp; exact h k q hg
theorem c_order {x : Int32} (hR : HR g σ h S) (hG : GS S) : J g (d + 4) 8 0 [some (aR 1 h), some (aI x), none, none] [] σ (jH g σ h (op_order S x).1 (op_order S x).2) := by
  have hH := hR.1
  unfold op_order
  by_cases hx : 0 ≤ x.toInt ∧ x.toInt < 3
  · rw [if_pos hx]
    obtain ⟨j, hj, rfl⟩ := vp_in_of (n := 3) (vp_in_iff.mpr hx) (by omega)
    rw [nI_clamp (by omega)]
    have hl := hG.2.2.1
    have hgl := hG.2.2.2.1
    have hst : jm_wi (jm_wi σ h 2 (nI j)) h 8 0 = ((jm_wi (jm_wi σ h 2 (nI j)) h 8 0).1, σ.2) := rfl
    have f00 : (jm_wi (jm_wi σ h 2 (nI j)) h 8 0).1 h 0 = σ.1 h 0 := (jm_wi_k (by decide)).trans (jm_wi_k (by decide))
    have f02 : (jm_wi (jm_wi σ h 2 (nI j)) h 8 0).1 h 2 = nI j := (jm_wi_k (by decide)).trans jm_wi_at
    have f05 : (jm_wi (jm_wi σ h 2 (nI j)) h 8 0).1 h 5 = σ.1 h 5 := (jm_wi_k (by decide)).trans (jm_wi_k (by decide))
    have f08 : (jm_wi (jm_wi σ h 2 (nI j)) h 8 0).1 h 8 = 0 := jm_wi_at
    have f09 : (jm_wi (jm_wi σ h 2 (nI j)) h 8 0).1 h 9 = σ.1 h 9 := (jm_wi_k (by decide)).trans (jm_wi_k (by decide))
    have f0q : ∀ q, q ≠ h → (jm_wi (jm_wi σ h 2 (nI j)) h 8 0).1 q = σ.1 q := fun q hq => (jm_wi_q hq).trans (jm_wi_q hq)
    generalize (jm_wi (jm_wi σ h 2 (nI j)) h 8 0).1 = f0 at hst f00 f02 f05 f08 f09 f0q
    have loop2 : ∀ n k, k + n = (hgn S).length → ∀ f : Nat → Nat → Int32, (∀ q, ¬ (h + 3 ≤ q ∧ q < h + 163) → ¬ (h + 164 ≤ q ∧ q < h + 196) → f q = f0 q) → PL f (h + 3) ((hpl S).map (sp_sort j)) → (∀ i p, (hgn S)[i]? = some p → PA f (h + 164 + 4 * i) (if i < k then sp_sort j p else p)) →
        J g (d + 4) 8 56 [some (aR 1 h), some (aI (nI j)), some (aI (nI (hkd S))), some (aI (nI k))] [] (f, σ.2) (jH g σ h (nI (hkd S)) (sp_ord S j)) := by
      intro n
      induction n with
      | zero =>
        intro k hkn f hf hPL hgs
        have fh : f h = f0 h := hf h (by omega) (by omega)
        refine jm_run ok_H_order [29, 56] 90 (fun kk hk => ?_)
        conv => whnf
        refine b_le ((congrFun fh 5).trans (f05.trans hR.2.1.2.2.1)) rfl (fun _ => ?_) (fun h => by omega)
        conv => whnf
        refine hk _ _ _ _ (r_H_order_84 (jH_ret ⟨hH, ⟨(congrFun fh 0).trans (f00.trans hR.2.1.1), (congrFun fh 2).trans f02, (congrFun fh 5).trans (f05.trans ?_), (congrFun fh 8).trans f08, (congrFun fh 9).trans (f09.trans hR.2.1.2.2.2.2)⟩, hPL, PL_map (fun i p hp => ?_), HE_off hR.2.2.2.2.1 rfl rfl ((hf _ (by omega) (by omega)).trans (f0q _ (by omega))) rfl, hR.2.2.2.2.2.1, fun hb => (by cases hb)⟩ (fun q hq => (hf q (by omega) (by omega)).trans (f0q q (by omega))) (fun _ _ => rfl) rfl))
        · show _ = nI ((hgn S).map (sp_sort j)).length
          rw [List.length_map]; exact hR.2.1.2.2.1
        · have := hgs i p hp
          rw [if_pos (by have := (List.getElem?_eq_some_iff.mp hp).1; omega)] at this
          exact this
      | succ n ih =>
        intro k hkn f hf hPL hgs
        have fh : f h = f0 h := hf h (by omega) (by omega)
        have hgr := hH.gne (k := k) (by omega)
        have gk : (hgn S)[k]? = some (hgn S)[k] := List.getElem?_eq_getElem (by omega)
        have hPk := hgs k _ gk
        rw [if_neg (by omega)] at hPk
        have hw := hG.2.2.2.2.2.1 _ (List.mem_of_getElem? gk)
        generalize (hgn S)[k] = pk at gk hPk hw
        refine jm_run ok_H_order [29, 56] 90 (fun kk hk => ?_)
        conv => whnf
        refine b_le ((congrFun fh 5).trans (f05.trans hR.2.1.2.2.1)) rfl (fun h => by omega) (fun _ => ?_)
        conv => whnf
        refine jg hH.fgn ?_
        conv => whnf
        refine jr rfl hH.ngn hgr.1 ?_
        conv => whnf
        refine hk _ _ _ _ (k_H_order_71 rfl (c_order2 (σ := (f, σ.2)) hH hj ((congrFun fh 2).trans f02)) (fun u hu => ?_))
        subst hu
        show J g (d + 4) 8 74 _ _ (f, σ.2) _
        refine k_H_order_74 rfl (c_sort (σ := (f, σ.2)) hgr.2 hPk hw.1 hj) (fun u hu => ?_)
        obtain ⟨f2, hf2, hu, hPA⟩ := jO_some hu
        subst hu
        show J g (d + 4) 8 77 _ _ (f2, σ.2) _
        refine jm_run ok_H_order [29, 56] 90 (fun kk hk => ?_)
        conv => whnf
        rw [nI_1]
        refine hk _ _ _ _ (ih (k + 1) (by omega) f2 (fun q h1 h2 => (hf2 q (by omega) (by omega)).trans (hf q h1 h2)) (PL_fr (n := 40) hPL (by rw [List.length_map]; omega) (fun q h1 h2 => hf2 q (by omega) (by omega))) (fun i p hp => ?_))
        by_cases hik : i = k
        · subst hik
          rw [gk] at hp
          cases hp
          rw [if_pos (by omega)]
          exact hPA
        · have h9 := hgs i p hp
          rw [show (if i < k + 1 then sp_sort j p else p) = (if i < k then sp_sort j p else p) by
            by_cases q : i < k
            · rw [if_pos q, if_pos (by omega)]
            · rw [if_neg q, if_neg (by omega)]]
          exact PA_frame h9 (hf2 _ (by omega) (by omega)) (hf2 _ (by omega) (by omega)) (hf2 _ (by omega) (by omega)) (hf2 _ (by omega) (by omega))
    have loop1 : ∀ n k, k + n = 40 → ∀ f : Nat → Nat → Int32, (∀ q, ¬ (h + 3 ≤ q ∧ q < h + 163) → f q = f0 q) → (∀ i p, (hpl S)[i]? = some p → PA f (h + 3 + 4 * i) (if i < k then sp_sort j p else p)) →
        J g (d + 4) 8 29 [some (aR 1 h), some (aI (nI j)), some (aI (nI (hkd S))), some (aI (nI k))] [] (f, σ.2) (jH g σ h (nI (hkd S)) (sp_ord S j)) := by
      intro n
      induction n with
      | zero =>
        intro k hkn f hf hps
        obtain rfl : k = 40 := by omega
        refine jm_run ok_H_order [29, 56] 90 (fun kk hk => ?_)
        conv => whnf
        refine b_le (a := 40) (b := 40) rfl rfl (fun _ => ?_) (fun h => by omega)
        conv => whnf
        refine hk _ _ _ _ (loop2 (hgn S).length 0 (by omega) f (fun q h1 h2 => hf q h1) (PL_map (fun i p hp => ?_)) (fun i p hp => ?_))
        · have := hps i p hp
          rw [if_pos (by have := (List.getElem?_eq_some_iff.mp hp).1; omega)] at this
          exact this
        · rw [if_neg (by omega)]
          have := (List.getElem?_eq_some_iff.mp hp).1
          have hfq : ∀ q, h + 164 ≤ q → f q = σ.1 q := fun q h1 => (hf q (by omega)).trans (f0q q (by omega))
          exact PA_frame (hR.2.2.2.1 i p hp) (hfq _ (by omega)) (hfq _ (by omega)) (hfq _ (by omega)) (hfq _ (by omega))
      | succ n ih =>
        intro k hkn f hf hps
        have fh : f h = f0 h := hf h (by omega)
        have hgr := hH.ple (k := k) (by omega)
        have gk := pg_at hG (k := k) (by omega)
        have hPk := hps k _ gk
        rw [if_neg (by omega)] at hPk
        have hw := pg_ok hG (k := k) (by omega)
        generalize pg S k = pk at gk hPk hw
        refine jm_run ok_H_order [29, 56] 90 (fun kk hk => ?_)
        conv => whnf
        refine b_le (a := 40) (b := k) rfl rfl (fun h => by omega) (fun _ => ?_)
        conv => whnf
        refine jg hH.fpl ?_
        conv => whnf
        refine jr rfl hH.npl hgr.1 ?_
        conv => whnf
        refine hk _ _ _ _ (k_H_order_42 rfl (c_order2 (σ := (f, σ.2)) hH hj ((congrFun fh 2).trans f02)) (fun u hu => ?_))
        subst hu
        show J g (d + 4) 8 45 _ _ (f, σ.2) _
        refine k_H_order_45 rfl (c_sort (σ := (f, σ.2)) hgr.2 hPk hw.1 hj) (fun u hu => ?_)
        obtain ⟨f2, hf2, hu, hPA⟩ := jO_some hu
        subst hu
        show J g (d + 4) 8 48 _ _ (f2, σ.2) _
        refine jm_run ok_H_order [29, 56] 90 (fun kk hk => ?_)
        conv => whnf
        rw [nI_1]
        refine hk _ _ _ _ (ih (k + 1) (by omega) f2 (fun q h1 => (hf2 q (by omega) (by omega)).trans (hf q h1)) (fun i p hp => ?_))
        by_cases hik : i = k
        · subst hik
          rw [gk] at hp
          cases hp
          rw [if_pos (by omega)]
          exact hPA
        · have h9 := hps i p hp
          rw [show (if i < k + 1 then sp_sort j p else p) = (if i < k then sp_sort j p else p) by
            by_cases q : i < k
            · rw [if_pos q, if_pos (by omega)]
            · rw [if_neg q, if_neg (by omega)]]
          exact PA_frame h9 (hf2 _ (by omega) (by omega)) (hf2 _ (by omega) (by omega)) (hf2 _ (by omega) (by omega)) (hf2 _ (by omega) (by omega))
    refine jm_run ok_H_order [29, 56] 90 (fun kk hk => ?_)
    conv => whnf
    refine b_lt (a := j) (b := 0) rfl rfl (fun h => by omega) (fun _ => ?_)
    conv => whnf
    refine b_le (a := j) (b := 2) rfl rfl (fun _ => ?_) (fun h => by omega)
    conv => whnf
    refine ⟨Or.inl rfl, ?_⟩
    conv => whnf
    rw [hR.2.1.2.1, hst]
    refine hk _ _ _ _ (loop1 40 0 (by omega) f0 (fun _ _ => rfl) (fun i p hp => ?_))
    rw [if_neg (by omega)]
    exact PA_frame (hR.2.2.1 i p hp) (f0q _ (by omega)) (f0q _ (by omega)) (f0q _ (by omega)) (f0q _ (by omega))
  · rw [if_neg hx]
    have e0 : (0 : Int32).toInt = 0 := rfl
    have e2 : (2 : Int32).toInt = 2 := rfl
    refine jm_run ok_H_order [] 90 (fun kk hk => ?_)
    conv => whnf
    refine ⟨fun h1 => ?_, fun h1 => ?_⟩
    · conv => whnf
      exact hk _ _ _ _ (r_H_order_11 (jH_same hR))
    · have q1 : ¬ x.toInt < (0 : Int32).toInt := fun q => h1 (Int32.lt_iff_toInt_lt.mpr q)
      conv => whnf
      refine ⟨fun h2 => ?_, fun h2 => ?_⟩
      · have q2 := Int32.le_iff_toInt_le.mp h2
        exact absurd ⟨by omega, by omega⟩ hx
      · conv => whnf
        exact hk _ _ _ _ (r_H_order_11 (jH_same hR))
end
