/-! PLAIN: each act keeps the invariant -/
section
variable {S : sp_H}
theorem pok_plus {a b : Int} {m : sp_M} {p q r : sp_P} (hc : sp_cf a b) (hm : HV (hv S) m) (hp : pok S p) (hq : pok S q) (h : sp_plus (hkd S) a b m p q = some r) : pok S r :=
  ⟨sp_plus_w hc hp.1 hq.1.2 h, (so_plus hc hp.2.1 hp.1 hq.1.2 h).1, HVp_plus hm hp.2.2 hq.2.2 h⟩
theorem pok_mulG {q : sp_P} (hq : pok S q) : ∀ {r to to' : sp_P}, pok S to → (∀ t ∈ r, sp_tw t) → HVp (hv S) r → sp_mulG (hkd S) q to r = some to' → pok S to'
  | [], to, to', hw, _, _, h => by cases h; exact hw
  | t :: r, to, to', hw, hr, hv, h => by
    unfold sp_mulG at h
    cases h1 : sp_plus (hkd S) t.1 t.2.1 t.2.2 to q with
    | none => rw [h1] at h; cases h
    | some p1 =>
      rw [h1] at h
      exact pok_mulG hq (pok_plus (sp_tw_cf (hr t (List.mem_cons_self ..))) (hv t (List.mem_cons_self ..)) hw hq h1) (fun s hs => hr s (List.mem_cons_of_mem _ hs)) (fun s hs => hv s (List.mem_cons_of_mem _ hs)) h
theorem GS_zero {x : Int32} (hG : GS S) : GS (op_zero S x).2 := by
  unfold op_zero
  split
  · exact GS_setP hG (pok_nil S)
  · exact hG
theorem GS_clear (hG : GS S) : GS (op_clear S).2 := GS_off hG (Nat.zero_le _) (fun p hp => (by cases hp))
theorem GS_generator {x : Int32} (hG : GS S) : GS (op_generator S x).2 := by
  unfold op_generator
  split
  · rename_i hx
    split
    · exact hG
    · rename_i h8
      obtain ⟨k, hk40, rfl⟩ := sp_ip_t hx
      rw [nI_clamp (by omega)]
      have := hG.2.2.2.1
      refine GS_off hG (by rw [List.length_append]; show _ + 1 ≤ 8; omega) (fun p hp => ?_)
      rcases List.mem_append.mp hp with e | e
      · exact hG.2.2.2.2.2.1 p e
      · rw [List.mem_singleton] at e; subst e; exact pg_ok hG hk40
  · exact hG
theorem GS_plus {x y z : Int32} (hG : GS S) : GS (op_plus S x y z).2 := by
  unfold op_plus
  split
  · rename_i h
    obtain ⟨k, hk40, rfl⟩ := sp_ip_t h.1
    obtain ⟨l, hl40, rfl⟩ := sp_ip_t h.2.1
    rw [nI_clamp (n := k) (by omega), nI_clamp (n := l) (by omega)]
    exact GS_opg hG (fun p hp => pok_plus sp_cf1 (HV_zm _) (pg_ok hG hk40) (pg_ok hG hl40) hp)
  · exact hG
theorem GS_times {x y z : Int32} (hG : GS S) : GS (op_times S x y z).2 := by
  unfold op_times
  split
  · rename_i h
    obtain ⟨k, hk40, rfl⟩ := sp_ip_t h.1
    obtain ⟨l, hl40, rfl⟩ := sp_ip_t h.2.1
    rw [nI_clamp (n := k) (by omega), nI_clamp (n := l) (by omega)]
    have hk := pg_ok hG hk40
    exact GS_opg hG (fun p hp => pok_mulG (pg_ok hG hl40) (pok_nil S) hk.1.2 hk.2.2 hp)
  · exact hG
theorem GS_term {x a b w : Int32} (hG : GS S) : GS (op_term S x a b w).2 := by
  unfold op_term
  split
  · rename_i hx
    obtain ⟨k, hk40, rfl⟩ := sp_ip_t hx
    rw [nI_clamp (by omega)]
    split
    · rename_i hg
      have hn := of_decide_eq_true hg.1
      split
      · exact hG
      · rename_i ha
        refine GS_opg hG (fun p hp => ?_)
        cases hf : sp_fr a.toInt b.toInt with
        | none => rw [hf] at hp; cases hp
        | some r =>
          rw [hf] at hp
          have hp : sp_come (hkd S) (pg S k) r.1 r.2 (tM w) = some p := hp
          have rb := sp_fr_b hn.2.2 hf
          have hk := pg_ok hG hk40
          exact ⟨sp_come_w hk.1 ⟨fun q => ha (rb.2.2.2.mp q), rb.1, rb.2.1, rb.2.2.1, tM_ok w⟩ hp, (so_come hk.2.1 (fun t ht => (hk.1.2 t ht).2.2.2.2) (tM_ok w) hp).1, HVp_come hk.2.2 (tM_HV hG.1.2 hg.2) hp⟩
    · exact hG
  · exact hG
theorem GS_order {x : Int32} (hG : GS S) : GS (op_order S x).2 := by
  unfold op_order
  split
  · rename_i hx
    obtain ⟨j, hj, rfl⟩ := vp_in_of (n := 3) (vp_in_iff.mpr hx) (by omega)
    rw [nI_clamp (by omega)]
    exact GS_ord hG hj
  · exact hG
theorem GS_element {x r : Int32} (hG : GS S) : GS (op_element S x r).2 := by
  unfold op_element
  split
  · rename_i hb
    split
    · rename_i h
      have hS := hG.2.2.2.2.2.2.1 hb
      obtain ⟨i, hi, rfl⟩ := sp_ie_t (by have := hS.1.2.1; omega) h.1
      rw [nI_clamp (n := i) (by have := hS.1.2.1; omega)]
      have gi : (hel S)[i]? = some (hel S)[i] := List.getElem?_eq_getElem hi
      have hE := List.mem_of_getElem? gi
      rw [sp_at0_at gi]
      exact GS_opg hG (fun p hp => by cases hp; exact ⟨(hS.1.1 _ hE).2.1.1, (hS.1.1 _ hE).1, (hS.1.2.2 _ hE).2.1.1⟩)
    · exact hG
  · exact hG
theorem GS_share {x z r : Int32} (hG : GS S) : GS (op_share S x z r).2 := by
  unfold op_share
  split
  · rename_i hb
    split
    · rename_i h
      have hS := hG.2.2.2.2.2.2.1 hb
      obtain ⟨i, hi, rfl⟩ := sp_ie_t (by have := hS.1.2.1; omega) h.1
      rw [nI_clamp (n := i) (by have := hS.1.2.1; omega)]
      have gi : (hel S)[i]? = some (hel S)[i] := List.getElem?_eq_getElem hi
      have hE := List.mem_of_getElem? gi
      rw [sp_at0_at gi]
      refine GS_opg hG (fun p hp => ?_)
      cases hp
      rw [List.getD_eq_getElem?_getD]
      cases hg : (hel S)[i].2[z.toNatClampNeg]? with
      | none => exact pok_nil S
      | some q =>
        have hq := List.mem_of_getElem? hg
        exact ⟨(hS.1.1 _ hE).2.1.2 q hq, hS.2.2 _ hE q hq, (hS.1.2.2 _ hE).2.1.2 q hq⟩
    · exact hG
  · exact hG
theorem GS_certificate {z r : Int32} (hG : GS S) : GS (op_certificate S z r).2 := by
  unfold op_certificate
  split
  · rename_i hb
    split
    · have hS := hG.2.2.2.2.2.2.1 hb.1
      have hQ := hG.2.2.2.2.2.2.2 hb.1 hb.2
      refine GS_opg hG (fun p hp => ⟨sp_sh_w (Or.inl rfl) sp_pw_nil (fun q hq => (hQ.2 q hq).1) (hS.1.1.col _) hp, so_sh (Or.inl rfl) sp_pw_nil (so_nil _) (fun q hq => (hQ.2 q hq).1) (hS.1.1.col _) hp, HVp_sh (HVp_nil _) (fun q hq => (hQ.2 q hq).2) (hS.1.col _) hp⟩)
    · exact hG
  · exact hG
end
