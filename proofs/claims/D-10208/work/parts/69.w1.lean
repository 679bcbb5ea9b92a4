/-! ## two sources, a goal next to one of them -/
theorem ax_W1 {Z : ab_Z} {d : Nat → Nat → Nat} {N A B y lm : Nat} (hR : ax_LR lm Z d N) (hs : ∀ p q, ab_zl Z p q → p = A ∨ p = B) (hAB : A ≠ B) (hB8 : B < 8) (hy : ab_zl Z A y) (hd : d A y = 1) (hN : ab_zn Z 0 + 800 ≤ ab_zn Z N) : False := by
  have hR' := hR
  obtain ⟨h, hL, hG, hl8, h0, hU, hnp⟩ := hR'
  have inA : ∀ q, ab_zl Z q A → q = B := fun q hq => by
    rcases hs q A hq with e | e
    · exact absurd e (hl8 _ _ hq).1
    · exact e
  have inB : ∀ q, ab_zl Z q B → q = A := fun q hq => by
    rcases hs q B hq with e | e
    · exact e
    · exact absurd e (hl8 _ _ hq).1
  have sy := hG.2.2.1
  have d1 : ∀ p q, ab_zl Z p q → 1 ≤ d p q := by
    intro p q hpq
    rcases Nat.eq_zero_or_pos (d p q) with e | e
    · exact absurd (hG.2.2.2.1 p q e) (hl8 _ _ hpq).1
    · exact e
  by_cases cp : ab_zl Z A B ∧ d A B = 1
  · exact ax_R0 hR cp.2 (by omega) cp.1 inA inB (fun g hg => d1 _ _ hg) (fun g hg => d1 _ _ hg) (by omega)
  · have norm : ∀ g, ab_zl Z A g → d A g = 1 → ∀ q, ¬ ab_zl Z g q := by
      intro g hg dg q hq
      rcases hs g q hq with e | e
      · exact (hl8 _ _ hg).1 e.symm
      · rw [e] at hg dg
        exact cp ⟨hg, dg⟩
    have srcB : ∀ g, ab_zl Z A g → ∃ u, (∀ q, ab_zl Z q B → q = u) ∧ g ≠ u ∧ 2 ≤ d B u := by
      intro g hg
      by_cases hAB' : ab_zl Z A B
      · have dAB : d A B ≠ 1 := fun e => cp ⟨hAB', e⟩
        have := d1 _ _ hAB'
        have := sy A B
        exact ⟨A, inB, fun e => (hl8 _ _ hg).1 e.symm, by omega⟩
      · refine ⟨9, fun q hq => ?_, fun e => ?_, ?_⟩
        · rw [inB q hq] at hq
          exact absurd hq hAB'
        · have := (hl8 _ _ hg).2.2
          omega
        · have := ax_d100 (x := B) (v := 9) hG (by omega) (by omega)
          omega
    have hg : ∀ g, ab_zl Z A g → d A g = 1 → (∀ q, ¬ ab_zl Z g q) ∧ ∃ z u, (∀ q, ab_zl Z q g → q = A ∨ q = z) ∧ z ≠ A ∧ (∀ q, ab_zl Z q z → q = u) ∧ g ≠ u ∧ 2 ≤ d z u := by
      intro g hg dg
      obtain ⟨u, u1, u2, u3⟩ := srcB g hg
      exact ⟨norm g hg dg, B, u, fun q hq => hs q g hq, fun e => hAB e.symm, u1, u2, u3⟩
    by_cases hBA : ab_zl Z B A
    · obtain ⟨u, u1, u2, u3⟩ := srcB y hy
      by_cases d3 : 3 ≤ d B A
      · exact ax_R1c hR inA u1 u3 d3 hg hy hd hN
      · exact ax_R1d hR inA inB (by omega) (norm y hy hd) (fun q hq => hs q y hq) (fun e => hAB e.symm) u1 u2 u3 hy hd (by omega)
    · exact ax_R1p hR (fun q hq => hBA (by rw [← inA q hq]; exact hq)) hg hy hd hN
