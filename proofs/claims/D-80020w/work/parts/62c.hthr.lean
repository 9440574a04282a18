/-! the House: a Stop more changes nothing -/
theorem pl_congr {g : jm_G} {σ τ : jm_S} {a : Nat} (h : τ.2.1 a = σ.2.1 a) (hp : pl g σ a) : pl g τ a := by
  unfold pl at hp ⊢
  rw [h]
  exact hp
theorem EL_congr {g : jm_G} {σ τ : jm_S} {e n : Nat} (h : ∀ q, e ≤ q → q < eo e n 25 → τ.2.1 q = σ.2.1 q) (hE : EL g σ e n) : EL g τ e n := by
  obtain ⟨a1, a2, a3, a4, a5, a6⟩ := hE
  have hg := eo_ge e n 25
  refine ⟨by rw [h e (by omega) (by omega)]; exact a1, a2, fun k hk => ⟨by rw [h _ (by omega) (by omega)]; exact (a3 k hk).1, pl_congr (h _ (by omega) (by omega)) (a3 k hk).2⟩, pl_congr (h _ (by omega) (by omega)) a4, pl_congr (h _ (by omega) (by omega)) a5, fun s hs => ?_⟩
  obtain ⟨b1, b2, b3, b4, b5⟩ := a6 s hs
  have hge := eo_ge e n s
  have h25 := eo_25 (e := e) (n := n) hs
  exact ⟨by rw [h _ (by omega) (by omega)]; exact b1, by rw [h _ (by omega) (by omega)]; exact b2, pl_congr (h _ (by omega) (by omega)) b3, b4, fun k hk => ⟨by rw [h _ (by omega) (by omega)]; exact (b5 k hk).1, pl_congr (h _ (by omega) (by omega)) (b5 k hk).2⟩⟩
theorem HL_congr {g : jm_G} {σ τ : jm_S} {h : Nat} (hq : ∀ q, h ≤ q → q < h + 1631 → τ.2.1 q = σ.2.1 q) (hH : HL g σ h) : HL g τ h := by
  obtain ⟨a1, a2, a3, a4, a5, a6, a7, a8, a9, a10⟩ := hH
  have e25 : eo (h + 196) 8 25 = h + 1260 := by unfold eo; omega
  have e26 : eo (h + 1260) 0 25 = h + 1524 := by unfold eo; omega
  exact ⟨by rw [hq h (by omega) (by omega)]; exact a1, a2, fun j hj => by rw [hq _ (by omega) (by omega)]; exact a3 j hj,
    fun k hk => ⟨by rw [hq _ (by omega) (by omega)]; exact (a4 k hk).1, pl_congr (hq _ (by omega) (by omega)) (a4 k hk).2⟩,
    fun k hk => ⟨by rw [hq _ (by omega) (by omega)]; exact (a5 k hk).1, pl_congr (hq _ (by omega) (by omega)) (a5 k hk).2⟩,
    fun k hk => ⟨by rw [hq _ (by omega) (by omega)]; exact (a6 k hk).1, pl_congr (hq _ (by omega) (by omega)) (a6 k hk).2⟩,
    pl_congr (hq _ (by omega) (by omega)) a7, pl_congr (hq _ (by omega) (by omega)) a8, EL_congr (fun q h1 h2 => hq q (by omega) (by omega)) a9, EL_congr (fun q h1 h2 => hq q (by omega) (by omega)) a10⟩
