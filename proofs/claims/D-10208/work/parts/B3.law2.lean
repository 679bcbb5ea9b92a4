/-- THE COUNTS ALONE: no frame of the ring is lost, from t0 moments on -/
def ry_CN (so go t0 K : Nat) : Prop := ∀ N B0 B Z S t M, rx_Z so go N B0 Z → B = B0 + 1089 * t → S = rf_mo Z t → ri_M N B Z S → rt_P (rf_a S) → rx_src so go S → M = 1089 * (t0 + K) → rf_A S B M →
  ∃ c, rf_ct (rf_mo S t0) (1089 * K) c ∧ ∀ q, 1089 * (q + 1) + 1025 ≤ 1089 * K → c (1089 * (q + 1) + 1025) ≤ c (1089 * q) + 1024
theorem ry_cnt {so go t0 K : Nat} (h : ry_CN so go t0 K) : ry_CNT so go t0 K := by
  intro N B0 B Z S t M hZ hB hS hM ht hs hMM hA
  refine ⟨?_, h N B0 B Z S t M hZ hB hS hM ht hs hMM hA⟩
  have e : rf_mo S t0 = rf_mo Z (t + t0) := by rw [hS, rx_moa]
  rw [e]
  refine rq_se hZ ?_
  have hb := hA.1
  have e2 : 1089 * (t + t0) + 1089 * K = 1089 * t + M := by rw [hMM, Nat.mul_add, Nat.mul_add, Nat.add_assoc]
  rw [e2, ← Nat.add_assoc, ← hB]
  exact hb
/-- THE LAW, from the abstract claim and the counts of frames -/
theorem ry_law2 {t0 K : Nat} (h940 : t0 + K = 940) (h10 : 10 ≤ t0) (hABS : ∀ so go, so < 8 → go < 8 → so ≠ go → ry_ABS so go K) (hCN : ∀ so go, so < 8 → go < 8 → so ≠ go → ry_CN so go t0 K) (xs : Nat → Int32) (L : Nat) (hL : L ≤ 260) : wpL_law (fun r => r = 1) L xs :=
  ry_law h940 h10 hABS (fun so go h1 h2 h3 => ry_cnt (hCN so go h1 h2 h3)) xs L hL
/-- two sources alone: the abstract claim holds -/
theorem ry_abs2 {so go : Nat} (h : so = 0 ∨ so = 4) : ry_ABS so go 800 := by
  intro lm Z d N p q hR hs hl h7 hN
  refine ax_W1t hR (A := 0) (B := 4) (fun a b z => ?_) (by decide) (by decide) (by decide) hl h7 hN
  rcases hs a b z with y | y | ⟨y, _⟩
  · exact Or.inl y
  · exact Or.inr y
  · rcases h with e | e
    · exact Or.inl (y.trans e)
    · exact Or.inr (y.trans e)
