/-! ## A MOMENT in general -/
def ri_M (N B : Nat) (Z T : zz_T) : Prop := zz_J N Z T ∧ ri_P B T ∧ rf_h (rf_a T)
theorem ri_mom {N B : Nat} {Z T : zz_T} (hl : zz_lk Z) (hN : N < B) (hB : B + 1089 ≤ 2 ^ 29) (hB2 : 16 ≤ B) (h : ri_M N B Z T) : ri_M N (B + 1089) Z (mm_mom T) := by
  have h0 : ri_M N (B + 1) Z (mm_tick T) := by
    refine ⟨zz_Js (by decide) h.1, ri_tick (by omega) h.2.1, ?_⟩
    have e : ∀ F i j, F ≠ 0 → rf_a (mm_tick T) F i j = rf_a T F i j := fun F i j hF => by
      unfold mm_tick
      rw [rf_4, ab_wf hF]
    intro a b h7
    rw [e 7 _ _ (by decide)] at h7
    rw [e 9 _ _ (by decide)]
    exact h.2.2 a b h7
  have h1 : ∀ i, i ≤ 1024 → ri_M N (B + 1 + i) Z (zz_it mm_lst i (mm_tick T)) := by
    intro i hi
    refine zz_itI (n := i) (fun (k : Nat) (U : zz_T) => ri_M N (B + 1 + k) Z U) h0 (fun k U hk hU => ?_)
    have hlk : zz_lk U := zz_lkc (hU.1.2.2.1 6 (by decide)) hl
    exact ⟨zz_Jlst (by omega) (by omega) hU.1, ri_lst (N := N) (B := B + 1 + k) (Z := Z) (by omega) (by omega) (by omega) (by omega) hU.1 hlk hU.2.1, ri_lsth (N := N) (B := B + 1 + k) (Z := Z) (by omega) (by omega) (by omega) hU.1 hU.2.1.1 hU.2.1.2.1 hU.2.1.2.2.1 hU.2.2⟩
  have h2 : ∀ a, a < 8 → ∀ C U, N < C → C + 8 ≤ 2 ^ 29 → 16 ≤ C → ri_M N C Z U → ri_M N (C + 8) Z (mm_ua a U) := by
    intro a ha C U hC hC2 hC3 hU
    unfold mm_ua
    refine zz_itI (n := 8) (fun (k : Nat) (V : zz_T) => ri_M N (C + k) Z V) hU (fun k V hk hV => ?_)
    obtain ⟨r1, r2⟩ := ri_ub (N := N) (B := C + k) (Z := Z) (a := a) (b := k) (by omega) (by omega) (by omega) ha (by omega) hV.1 hV.2.2 hV.2.1
    exact ⟨zz_Jub (by omega) ha (by omega) hV.1, r1, r2⟩
  have h3 : ∀ a, a ≤ 8 → ri_M N (B + 1025 + 8 * a) Z (zz_it mm_ua a (mm_listen (mm_tick T))) := by
    intro a ha
    refine zz_itI (n := a) (fun (k : Nat) (V : zz_T) => ri_M N (B + 1025 + 8 * k) Z V) ?_ (fun k V hk hV => ?_)
    · have := h1 1024 (Nat.le_refl _)
      rw [show B + 1 + 1024 = B + 1025 + 8 * 0 by omega] at this
      exact this
    · have := h2 k (by omega) (B + 1025 + 8 * k) V (by omega) (by omega) (by omega) hV
      rw [show B + 1025 + 8 * k + 8 = B + 1025 + 8 * (k + 1) by omega] at this
      exact this
  have := h3 8 (Nat.le_refl _)
  rw [show B + 1025 + 8 * 8 = B + 1089 by omega] at this
  exact this
