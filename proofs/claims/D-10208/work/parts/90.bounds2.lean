theorem rf_bhearA {B s p k f g n l q : Nat} {S : zz_T} (hs : s < 8) (hp : p < 8) (hb : rf_b B S) (hr : rf_r S k f g n l q) (hn : n < B) (hq : q < B) :
    rf_b (B + 1) (mm_hear s (nI p) S) := by
  have hb' := rf_bm hb (Nat.le_succ B)
  obtain ⟨hk5, hf, hg, _, _, _, e0, e1, e2, e3, e4, e5⟩ := hr
  have hgs : S 43 2 = nI s → g = s := fun d => by rw [e2] at d; exact (nI_eq (by omega) (by omega)).1 d
  have hA : rf_b B (mm_ha2 s (nI p) S) := by
    unfold mm_ha2 mm_ha1
    rw [e1, e3, e5, nI_clamp (show f < 2 ^ 31 by omega)]
    exact rf_blearn hp hn (rf_bsee hf hq hs hb)
  have hcy : rf_b (B + 1) (mm_carry s S) := by
    have hl : rf_b (B + 1) (mm_lifeW S) := by
      unfold mm_lifeW
      exact rf_bn (Or.inl (by decide)) (rf_bcpy hb')
    unfold mm_carry
    split
    · exact hl
    · exact rf_bpass hl
  unfold mm_hear
  split
  · unfold mm_hearAsk
    split
    · exact hb'
    · split
      · refine rf_bpass (rf_bn (Or.inl (by decide)) ?_)
        unfold mm_haT
        obtain ⟨m, hm, e16⟩ := hA.2.1 s hs
        exact rf_bbeg (rf_b16 ⟨m + 1, by omega, by rw [e16, nI_1]⟩ (rf_bm hA (Nat.le_succ B)))
      · exact rf_btell (rf_bn (Or.inl (by decide)) (rf_bcpy (rf_bm hA (Nat.le_succ B))))
  · split
    · have h1 : rf_b (B + 1) (mm_ht1 s (nI p) S) := by
        unfold mm_ht1
        rw [e1, e3, nI_clamp (show f < 2 ^ 31 by omega)]
        exact rf_blearn hp (by omega) hb'
      unfold mm_hearTell
      split
      · exact h1
      · refine rf_bpass ?_
        unfold mm_ht2
        exact rf_bn (Or.inl (by decide)) (rf_bcpy h1)
    · split
      · unfold mm_hearLoss
        split
        · exact rf_bgive hb'
        · exact hb'
      · split
        · next z0 z1 z2 z3 =>
          have ek : k = 3 := by
            rw [e0, show (3 : Int32) = nI 3 from rfl] at z3
            exact (nI_eq (by omega) (by omega)).1 z3
          unfold mm_hearPiece
          split
          · next d =>
            rw [e1, nI_clamp (show f < 2 ^ 31 by omega)]
            unfold mm_hp92
            exact rf_bpass (rf_bsame (fun F hF => rf_anWo (by unfold rf_F at hF; omega)) (rf_bsame (fun F hF => rf_hpTo (by unfold rf_F at hF; omega)) hb'))
          · exact hcy
        · next z0 z1 z2 z3 =>
          have ek : k = 4 := by
            have h0 : k ≠ 0 := fun e => z0 (by rw [e0, e]; rfl)
            have h1 : k ≠ 1 := fun e => z1 (by rw [e0, e]; rfl)
            have h2 : k ≠ 2 := fun e => z2 (by rw [e0, e]; rfl)
            have h3 : k ≠ 3 := fun e => z3 (by rw [e0, e]; rfl)
            omega
          unfold mm_hearAnswer
          split
          · next d =>
            split
            · unfold mm_anS
              exact rf_b27 ⟨0, by omega, rfl⟩ (rf_b28 (Or.inl rfl) (rf_bn (Or.inl (by decide)) (rf_bn (Or.inl (by decide)) hb')))
            · exact hb'
          · exact hcy
theorem rf_fbw {B : Nat} {x y : ab_F} (h : ∀ j, 3 ≤ j → j ≤ 8 → x j = y j) (k : rf_fb B y) : rf_fb B x := by
  unfold rf_fb
  rw [h 3 (by omega) (by omega), h 4 (by omega) (by omega), h 5 (by omega) (by omega), h 6 (by omega) (by omega), h 7 (by omega) (by omega), h 8 (by omega) (by omega)]
  exact k
/-- the slots stay in bounds -/
theorem rf_Qp {B : Nat} {S T : zz_T} {O : ab_F → Prop} (g : rf_pg S T O) (k : rf_Q B S) (hO : ∀ w, O w → w 1 < 8 ∧ w 2 < 8 ∧ rf_fb B w) : rf_Q B T := by
  intro i hi hu
  rcases g.2.2 i hi hu with z | ⟨z1, _, w, w1, w2, w3, w4⟩
  · obtain ⟨k1, k2, k3, k4⟩ := k i hi (by rw [← z.1]; exact hu)
    exact ⟨rf_smc z k1, by rw [z.2.1]; exact k2, by rw [z.2.2.1]; exact k3, by rw [rf_sss z]; exact k4⟩
  · obtain ⟨h1, h2, h3⟩ := hO w w1
    exact ⟨z1, by omega, by omega, rf_fbw w4 h3⟩
/-- when frames are due -/
def rf_dd (S : zz_T) : Prop := ∀ i, i < 1024 → ¬ S 32 i = 0 → rf_c (S 35 i) ≤ rf_c (S 4 0) + 9
theorem rf_ddp {B : Nat} {S T : zz_T} {O : ab_F → Prop} (hb : ∃ t, t < B ∧ S 4 0 = nI t) (hB : B ≤ 2 ^ 29) (g : rf_pg S T O) (k : rf_dd S) : rf_dd T := by
  intro i hi hu
  obtain ⟨t, ht, e4⟩ := hb
  rcases g.2.2 i hi hu with z | ⟨_, ⟨e, e1, e2, e3⟩, _⟩
  · rw [z.2.2.2.1, g.2.1]
    exact k i hi (by rw [← z.1]; exact hu)
  · rw [e3, g.2.1, e4, nI_add, rf_cn (by omega), rf_cn (by omega)]
    omega
