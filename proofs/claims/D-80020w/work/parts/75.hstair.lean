/-! the House: pure, stairs -/
/-- the leading monomials -/
def LD (els : List sp_E) : List sp_M := els.map (fun E => sp_ld E.1)
theorem LD_at {els : List sp_E} {i : Nat} (hi : i < els.length) : (LD els)[i]? = some (gl (sp_G els) i) := by
  have gi : els[i]? = some els[i] := List.getElem?_eq_getElem hi
  unfold LD
  rw [List.getElem?_map, gi, gl_G gi]
  rfl
def pI (b : Option Nat) : Int32 := match b with
  | none => -1
  | some e => nI e
def bxs (els : List sp_E) (v : Nat) : Nat := (sp_pure v (LD els) none).getD 0
/-- whether each variable has a pure power -/
def bxk (els : List sp_E) (n : Nat) : Bool := (List.range n).all (fun v => (sp_pure v (LD els) none).isSome)
theorem bxk_s (els : List sp_E) (n : Nat) : bxk els (n + 1) = (bxk els n && (sp_pure n (LD els) none).isSome) := by
  unfold bxk
  rw [List.range_succ, List.all_append, List.all_cons, List.all_nil, Bool.and_true]
theorem bxk_at {els : List sp_E} {n v : Nat} (h : bxk els n = true) (hv : v < n) : sp_pure v (LD els) none = some (bxs els v) := by
  have := List.all_eq_true.mp h v (List.mem_range.mpr hv)
  unfold bxs
  cases hp : sp_pure v (LD els) none with
  | none => rw [hp] at this; cases this
  | some e => rfl
def op_stairs (S : sp_H) : Int32 × sp_H := (if hB S = true then (if bxk (hel S) (hv S) = true then nI (sumN (fun i => Fst (LD (hel S)) (dec (bxs (hel S)) (hv S) 0 i)) (ttl (bxs (hel S)) (hv S) 0)) else -8) else -3, S)
section
variable {g : jm_G} {d : Nat} {σ τ : jm_S} {h : Nat} {S : sp_H}
theorem c_pure {v j : Nat} {s : Nat → Nat} {els : List sp_E} (hH : HL g σ h) (hS : EP g σ (h + 196) 8 j s) (hG : EG σ.1 (h + 196) 8 s (sp_G els)) (hv : v < 5) : J g (d + 1) 73 0 [some (aR 1 h), some (aI (nI v)), none, none, none, none] [] σ (jR σ (aI (pI (sp_pure v (LD els) none)))) := by
  have hGl : (sp_G els).length = els.length := by rw [sp_G, List.length_map]
  have hl24 := hG.1
  have loop : ∀ (n i : Nat), i + n = els.length → ∀ (b : Option Nat) (z4 z5 : Option jm_V), (∀ x, b = some x → x ≤ 30) → sp_pure v (LD els) none = sp_pure v ((LD els).drop i) b → J g (d + 1) 73 4 [some (aR 1 h), some (aI (nI v)), some (aI (pI b)), some (aI (nI i)), z4, z5] [] σ (jR σ (aI (pI (sp_pure v (LD els) none)))) := by
    intro n
    induction n with
    | zero =>
      intro i hin b z4 z5 hb hO
      rw [List.drop_of_length_le (by unfold LD; rw [List.length_map]; omega)] at hO
      have hO : _ = b := hO
      rw [hO]
      refine jm_run ok_H_pure [4] 90 (fun kk hk => ?_)
      conv => whnf
      refine jg hH.fe ?_
      conv => whnf
      refine b_le hG.2.1 rfl (fun _ => ?_) (fun h => by omega)
      conv => whnf
      exact hk _ _ _ _ (r_H_pure_64 rfl)
    | succ n ih =>
      intro i hin b z4 z5 hb hO
      have gm := LD_at (els := els) (i := i) (by omega)
      rw [drop_cons gm, sp_pure] at hO
      have hm := gl_ok hG (i := i) (by omega)
      have h6 := sp_6_lt hm
      have hex := sp_ok_ex hm v
      have hpok : sp_ok (pvp v (sp_ex (gl (sp_G els) i) v)) := sp_up_ok sp_zm_ok hv hex
      have hp6 := sp_6_lt hpok
      have e6 := pvp_6 hv (sp_ex (gl (sp_G els) i) v)
      have nx : ∀ (b' : Option Nat) (z4 z5 : Option jm_V), b' = pst v b (gl (sp_G els) i) → J g (d + 1) 73 57 [some (aR 1 h), some (aI (nI v)), some (aI (pI b')), some (aI (nI i)), z4, z5] [] σ (jR σ (aI (pI (sp_pure v (LD els) none)))) := by
        intro b' z4 z5 hb'
        refine jm_run ok_H_pure [4] 90 (fun kk hk => ?_)
        conv => whnf
        rw [nI_1]
        refine hk _ _ _ _ (ih (i + 1) (by omega) b' _ _ (fun x hx => ?_) (by rw [hb']; exact hO))
        rw [hb'] at hx
        unfold pst at hx
        split at hx
        · split at hx
          · cases hx; exact hex
          · split at hx
            · cases hx; exact hex
            · exact hb x hx
        · exact hb x hx
      refine jm_run ok_H_pure [4] 90 (fun kk hk => ?_)
      conv => whnf
      refine jg hH.fe ?_
      conv => whnf
      refine b_le hG.2.1 rfl (fun h => by omega) (fun _ => ?_)
      conv => whnf
      refine jg hH.fe ?_
      conv => whnf
      refine hk _ _ _ _ (k_H_pure_20 rfl (c_leadG hH.e1 hS hG (i := i) (by omega)) (fun u hu => ?_))
      subst hu
      show J g (d + 1) 73 23 _ _ σ _
      generalize gl (sp_G els) i = m at hO hm h6 hex hpok hp6 e6 nx
      refine jm_run ok_H_pure [4] 90 (fun kk hk => ?_)
      conv => whnf
      refine hk _ _ _ _ (k_H_pure_28 rfl (c_exponent hm hv) (fun u hu => ?_))
      subst hu
      show J g (d + 1) 73 31 _ _ σ _
      refine jm_run ok_H_pure [4] 90 (fun kk hk => ?_)
      conv => whnf
      refine hk _ _ _ _ (k_H_pure_38 rfl (c_power hv (by omega)) (fun u hu => ?_))
      subst hu
      show J g (d + 1) 73 41 _ _ σ _
      refine jm_run ok_H_pure [57] 90 (fun kk hk => ?_)
      conv => whnf
      rw [← e6]
      refine b_ne (a := sp_6 m) (b := sp_6 (pvp v (sp_ex m v))) rfl rfl (fun hne => ?_) (fun heq => ?_)
      · conv => whnf
        exact hk _ _ _ _ (nx b _ _ (by unfold pst; rw [if_neg (fun q => hne (by rw [← q]))]))
      · have hmp : m = pvp v (sp_ex m v) := sp_c_inj hm hpok heq
        conv => whnf
        cases b with
        | none =>
          refine ⟨fun _ => ?_, fun q => absurd (show (-1 : Int32) < 0 by decide) q⟩
          conv => whnf
          exact hk _ _ _ _ (nx (some (sp_ex m v)) _ _ (by unfold pst; rw [if_pos hmp]))
        | some x =>
          have hx := hb x rfl
          refine b_lt (a := x) (b := 0) rfl rfl (fun h => by omega) (fun _ => ?_)
          conv => whnf
          refine b_le (a := x) (b := sp_ex m v) rfl rfl (fun hle => ?_) (fun hlt => ?_)
          · conv => whnf
            exact hk _ _ _ _ (nx (some x) _ _ (by unfold pst; rw [if_pos hmp]; show _ = if _ then _ else _; rw [if_neg (by omega)]))
          · conv => whnf
            exact hk _ _ _ _ (nx (some (sp_ex m v)) _ _ (by unfold pst; rw [if_pos hmp]; show _ = if _ then _ else _; rw [if_pos hlt]))
  refine jm_run ok_H_pure [4] 90 (fun kk hk => ?_)
  conv => whnf
  exact hk _ _ _ _ (loop els.length 0 (by omega) none _ _ (fun x hx => (by cases hx)) rfl)
/-- whether one of the row divides -/
theorem c_stairsU {s : Nat → Nat} {j : Nat} {els : List sp_E} {m : sp_M} {K : jm_O → Prop} {c v : Int32} (hH : HL g σ h) (hS : EP g σ (h + 196) 8 j s) (hG : EG σ.1 (h + 196) 8 s (sp_G els)) (hm : sp_ok m)
    (hK : ∀ z5 : Option jm_V, J g (d + 2) 72 107 [some (aR 1 h), some (aI c), some (aI (sp_c m)), some (aI v), some (aI (sp_bi ((LD els).any (fun a => sp_dv a m)))), z5] [] σ K) :
    J g (d + 2) 72 69 [some (aR 1 h), some (aI c), some (aI (sp_c m)), some (aI v), some (aI (sp_bi false)), some (aI (nI 0))] [] σ K := by
  have hGl : (sp_G els).length = els.length := by rw [sp_G, List.length_map]
  have hl24 := hG.1
  have hLl : (LD els).length = els.length := by unfold LD; rw [List.length_map]
  have loop : ∀ (n i : Nat), i + n = els.length → ∀ b : Bool, (LD els).any (fun a => sp_dv a m) = (b || ((LD els).drop i).any (fun a => sp_dv a m)) → J g (d + 2) 72 69 [some (aR 1 h), some (aI c), some (aI (sp_c m)), some (aI v), some (aI (sp_bi b)), some (aI (nI i))] [] σ K := by
    intro n
    induction n with
    | zero =>
      intro i hin b hb
      rw [List.drop_of_length_le (by omega), List.any_nil, Bool.or_false] at hb
      rw [hb] at hK
      refine jm_run ok_H_stairs [69, 107] 90 (fun kk hk => ?_)
      conv => whnf
      refine jg hH.fe ?_
      conv => whnf
      refine b_le hG.2.1 rfl (fun _ => ?_) (fun h => by omega)
      conv => whnf
      exact hk _ _ _ _ (hK _)
    | succ n ih =>
      intro i hin b hb
      cases b with
      | true =>
        rw [Bool.true_or] at hb
        rw [hb] at hK
        refine jm_run ok_H_stairs [69, 107] 90 (fun kk hk => ?_)
        conv => whnf
        refine jg hH.fe ?_
        conv => whnf
        refine b_le hG.2.1 rfl (fun h => by omega) (fun _ => ?_)
        conv => whnf
        refine b_nz (b := true) rfl (fun _ => ?_) (fun h => by cases h)
        conv => whnf
        exact hk _ _ _ _ (hK _)
      | false =>
        have gm := LD_at (els := els) (i := i) (by omega)
        rw [drop_cons gm, List.any_cons, Bool.false_or] at hb
        refine jm_run ok_H_stairs [69, 107] 90 (fun kk hk => ?_)
        conv => whnf
        refine jg hH.fe ?_
        conv => whnf
        refine b_le hG.2.1 rfl (fun h => by omega) (fun _ => ?_)
        conv => whnf
        refine b_nz (b := false) rfl (fun h => by cases h) (fun _ => ?_)
        conv => whnf
        refine jg hH.fe ?_
        conv => whnf
        refine hk _ _ _ _ (k_H_stairs_92 rfl (c_leadG hH.e1 hS hG (i := i) (by omega)) (fun u hu => ?_))
        subst hu
        show J g (d + 2) 72 95 _ _ σ _
        refine jm_run ok_H_stairs [69, 107] 90 (fun kk hk => ?_)
        conv => whnf
        refine hk _ _ _ _ (k_H_stairs_96 rfl (c_divides (gl_ok hG (i := i) (by omega)) hm) (fun u hu => ?_))
        subst hu
        show J g (d + 2) 72 99 _ _ σ _
        refine jm_run ok_H_stairs [69, 107] 90 (fun kk hk => ?_)
        conv => whnf
        rw [nI_1]
        exact hk _ _ _ _ (ih (i + 1) (by omega) _ hb)
  exact loop els.length 0 (by omega) false (by rw [Bool.false_or]; rfl)
/-- the next monomial of the box -/
theorem c_stairsN {n : Nat} {bx : Nat → Nat} {K : jm_O → Prop} {c : Int32} {z4 z5 : Option jm_V} (hH : HL g σ h) (h0 : σ.1 h 0 = nI n) (hn : n ≤ 4) (hbx : ∀ v, v < n → σ.1 (h + 1630) v = nI (bx v) ∧ bx v ≤ 30) :
    ∀ (k v : Nat), v + k = n → ∀ m : sp_M, sp_ok m → (∀ m' v', nxt bx k v m = some m' → v' < n → J g (d + 2) 72 55 [some (aR 1 h), some (aI c), some (aI (sp_c m')), some (aI (nI v')), z4, z5] [] σ K) → (nxt bx k v m = none → K (σ, .inl (some (aI c)))) →
    J g (d + 2) 72 122 [some (aR 1 h), some (aI c), some (aI (sp_c m)), some (aI (nI v)), z4, z5] [] σ K := by
  intro k
  induction k with
  | zero =>
    intro v hvk m hm h1 h2
    obtain rfl : v = n := by omega
    refine jm_run ok_H_stairs [122] 90 (fun kk hk => ?_)
    conv => whnf
    refine b_le h0 rfl (fun _ => ?_) (fun h => by omega)
    conv => whnf
    refine b_le h0 rfl (fun _ => ?_) (fun h => by omega)
    conv => whnf
    refine b_le h0 rfl (fun _ => ?_) (fun h => by omega)
    conv => whnf
    exact hk _ _ _ _ (r_H_stairs_183 (h2 rfl))
  | succ k ih =>
    intro v hvk m hm h1 h2
    have hb := hbx v (by omega)
    have hex := sp_ok_ex hm v
    rw [nxt] at h1 h2
    refine jm_run ok_H_stairs [122] 90 (fun kk hk => ?_)
    conv => whnf
    refine b_le h0 rfl (fun h => by omega) (fun _ => ?_)
    conv => whnf
    refine hk _ _ _ _ (k_H_stairs_132 rfl (c_exponent hm (by omega)) (fun u hu => ?_))
    subst hu
    show J g (d + 2) 72 135 _ _ σ _
    refine jm_run ok_H_stairs [122, 55] 90 (fun kk hk => ?_)
    conv => whnf
    refine jg hH.fb ?_
    conv => whnf
    refine ja rfl hH.nb hb.1 ?_
    conv => whnf
    rw [nI_1]
    refine b_lt (a := sp_ex m v + 1) (b := bx v) rfl rfl (fun hlt => ?_) (fun hle => ?_)
    · rw [if_neg (by omega)] at h1
      conv => whnf
      refine b_le h0 rfl (fun h => by omega) (fun _ => ?_)
      conv => whnf
      refine hk _ _ _ _ (k_H_stairs_174 rfl (c_power (e := 1) (by omega) (by decide)) (fun u hu => ?_))
      subst hu
      show J g (d + 2) 72 177 _ _ σ _
      refine jm_run ok_H_stairs [55] 90 (fun kk hk => ?_)
      conv => whnf
      rw [sp_inc (by omega)]
      exact hk _ _ _ _ (h1 _ v rfl (by omega))
    · rw [if_pos hle] at h1 h2
      conv => whnf
      refine hk _ _ _ _ (k_H_stairs_150 rfl (c_power (e := 63) (by omega) (by decide)) (fun u hu => ?_))
      subst hu
      show J g (d + 2) 72 153 _ _ σ _
      refine jm_run ok_H_stairs [122] 90 (fun kk hk => ?_)
      conv => whnf
      rw [sp_cut hm (by omega), nI_1]
      exact hk _ _ _ _ (ih (v + 1) (by omega) (sp_up m v 0) (sp_up_ok hm (by omega) (Nat.zero_le _)) h1 h2)
end
