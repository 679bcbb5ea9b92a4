/-! ## the ring: every sending of a TELL is heard once -/
theorem rf_sst {S T U : zz_T} {i : Nat} (h : rf_ss S T i) (g : rf_ss T U i) : rf_ss S U i :=
  ⟨g.1.trans h.1, g.2.1.trans h.2.1, g.2.2.1.trans h.2.2.1, g.2.2.2.1.trans h.2.2.2.1, fun k hk => (g.2.2.2.2 k hk).trans (h.2.2.2.2 k hk)⟩
theorem rf_ssr {S : zz_T} {i : Nat} : rf_ss S S i := ⟨rfl, rfl, rfl, rfl, fun _ _ => rfl⟩
theorem rf_prov2 {S : zz_T} {B N : Nat} (hA : rf_A S B N) : ∀ n, n ≤ N → ∀ q, q < 1024 → ¬ rf_S S n 32 q = 0 →
    (∃ j, j < n ∧ ab_zO (rf_Z S) j (rf_sl (rf_S S n) q) ∧ (rf_sl (rf_S S n) q 3 = 1 → rf_S S j 5 0 = nI q) ∧ ∀ k, j + 1 ≤ k → k ≤ n → rf_ss (rf_S S (j + 1)) (rf_S S k) q) ∨ rf_ss S (rf_S S n) q := by
  intro n
  induction n with
  | zero => intro _ q _ _; exact Or.inr rf_ssr
  | succ n ih =>
    intro hn q hq hu
    have hD := (rf_main hA n (by omega)).2 (by omega)
    have tr : rf_ss (rf_S S n) (rf_S S (n + 1)) q → (∃ j, j < n + 1 ∧ ab_zO (rf_Z S) j (rf_sl (rf_S S (n + 1)) q) ∧ (rf_sl (rf_S S (n + 1)) q 3 = 1 → rf_S S j 5 0 = nI q) ∧ ∀ k, j + 1 ≤ k → k ≤ n + 1 → rf_ss (rf_S S (j + 1)) (rf_S S k) q) ∨ rf_ss S (rf_S S (n + 1)) q := by
      intro z
      rcases ih (by omega) q hq (by rw [← z.1]; exact hu) with ⟨j, y1, y2, y3, y4⟩ | y
      · refine Or.inl ⟨j, by omega, by rw [rf_sss z]; exact y2, by rw [rf_sss z]; exact y3, fun k k1 k2 => ?_⟩
        by_cases e : k = n + 1
        · rw [e]
          exact rf_sst (y4 n (by omega) (Nat.le_refl _)) z
        · exact y4 k k1 (by omega)
      · exact Or.inr (rf_sst y z)
    by_cases h0 : n % 1089 = 0
    · exact tr ((hD.2.1 h0).1 q hq)
    · obtain ⟨V, m, ⟨hm, hT1⟩, ⟨j, hj, a1, a2, a3, a4, a5, a6⟩, v4, v5, vs, _⟩ := hD.2.2 h0
      rcases a5 q hq with ⟨k, k1, k2, _, _, k5, _⟩ | ⟨_, q2⟩
      · refine Or.inl ⟨n, by omega, k5, fun h3 => ?_, fun k' k1' k2' => ?_⟩
        · have m1 := hT1 _ k5 h3
          have : q = j := by rw [k2]; omega
          rw [← v5, a1, this]
        · have : k' = n + 1 := by omega
          rw [this]
          exact rf_ssr
      · rcases vs q hq with ⟨_, _, z⟩ | z
        · rw [q2.1, z] at hu
          exact absurd rfl hu
        · exact tr (rf_sst z q2)
theorem rf_V {S : zz_T} {B N : Nat} (hA : rf_A S B N) (hs : rf_s0 S) : ax_V (rf_Z S) N := by
  have ex : ∀ i, ∃ j, i < N → rf_K S i = 1 → rf_X S i 3 = 1 → ab_zD (rf_Z S) 0 4 (rf_X S i 4) 0 < rf_X S i 6 →
      j < i ∧ ab_zO (rf_Z S) j (rf_X S i) ∧ rf_S S j 5 0 = nI (i % 1089 - 1) ∧ ∀ k, j + 1 ≤ k → k ≤ i → rf_ss (rf_S S (j + 1)) (rf_S S k) (i % 1089 - 1) := by
    intro i
    by_cases h1 : i < N ∧ rf_K S i = 1 ∧ rf_X S i 3 = 1 ∧ ab_zD (rf_Z S) 0 4 (rf_X S i 4) 0 < rf_X S i 6
    · obtain ⟨hi, hk, h3, hr⟩ := h1
      obtain ⟨k1, k2, k3⟩ := rf_K1 hk
      rcases rf_prov2 hA i (by omega) (i % 1089 - 1) (by omega) k3.1 with ⟨j, y1, y2, y3, y4⟩ | y
      · exact ⟨j, fun _ _ _ _ => ⟨y1, y2, y3 h3, y4⟩⟩
      · exfalso
        have e : rf_X S i = rf_sl S (i % 1089 - 1) := rf_sss y
        have o := (hs.2.2 (i % 1089 - 1) (by omega) (by rw [← y.1]; exact k3.1)).1.1
        rw [← e] at o
        have := o (by omega)
        omega
    · exact ⟨0, fun a b c d => absurd ⟨a, b, c, d⟩ h1⟩
  obtain ⟨s, hf⟩ := Classical.axiomOfChoice ex
  refine ⟨s, fun i hi hk h3 hr => ⟨(hf i hi hk h3 hr).1, (hf i hi hk h3 hr).2.1⟩, ?_⟩
  -- one slot, and it is emptied by the hearing
  have main : ∀ i j, i < N → j < N → rf_K S i = 1 → rf_K S j = 1 → rf_X S i 3 = 1 → ab_zD (rf_Z S) 0 4 (rf_X S i 4) 0 < rf_X S i 6 → rf_X S i = rf_X S j → s i = s j → ¬ i < j := by
    intro i j hi hj ki kj h3 hr he hsij hlt
    obtain ⟨a1, a2, a3, a4⟩ := hf i hi ki h3 hr
    obtain ⟨b1, b2, b3, b4⟩ := hf j hj kj (by rw [← he]; exact h3) (by rw [← he]; exact hr)
    obtain ⟨k1, k2, k3⟩ := rf_K1 ki
    obtain ⟨l1, l2, l3⟩ := rf_K1 kj
    have eq : i % 1089 - 1 = j % 1089 - 1 := by
      rw [← hsij, a3] at b3
      have h1 := congrArg Int32.toInt b3
      rw [nI_toInt (by omega), nI_toInt (by omega)] at h1
      omega
    rw [← eq] at b4
    rw [← hsij] at b4
    generalize hq : i % 1089 - 1 = q at *
    have hD := (rf_main hA i (by omega)).2 hi
    obtain ⟨V, m, ⟨hm, hT1⟩, ⟨jj, hjj, c1, c2, c3, c4, c5, c6⟩, v4, v5, vs, vk⟩ := hD.2.2 k1
    rw [hq] at vk
    have V0 : V 32 q = 0 := by
      by_cases e : V 32 q = 0
      · exact e
      · exact absurd ki (vk.1 k2 e).1
    have st := b4 (i + 1) (by omega) (by omega)
    have st0 := a4 i (by omega) (Nat.le_refl _)
    have nz : ¬ rf_S S (i + 1) 32 q = 0 := by
      rw [st.1, ← st0.1]
      exact k3.1
    rcases c5 q (by omega) with ⟨k, _, _, _, k5, _, _⟩ | ⟨_, q2⟩
    · -- due a moment later: not what was heard
      obtain ⟨t, ht, e4⟩ := ((rf_main hA i (by omega)).1.1).1
      have d1 : rf_S S i 35 q = rf_S S i 4 0 + 1 := by
        rw [st0.2.2.2.1, ← st.2.2.2.1, k5, v4]
      have := k3.2.1
      rw [d1, e4, nI_1] at this
      apply this
      have hB := hA.1
      rw [Int32.lt_iff_toInt_lt, nI_toInt (by omega), nI_toInt (by omega)]
      omega
    · rw [q2.1, V0] at nz
      exact nz rfl
  intro i j hi hj ki kj h3 hr he hsij
  rcases Nat.lt_trichotomy i j with z | z | z
  · exact absurd z (main i j hi hj ki kj h3 hr he hsij)
  · exact z
  · exact absurd z (main j i hj hi kj ki (by have : rf_X S i = rf_X S j := he; rw [← this]; exact h3) (by have : rf_X S i = rf_X S j := he; rw [← this]; exact hr) he.symm hsij.symm)
