/-! ## timers: one step -/
def rt_p (D : ab_D) (i j : Nat) : Prop := D 6 i j ≤ D 0 0 0 + 24 ∧ (D 7 i j ≠ 0 → D 6 i j + 26 * D 9 i j < D 8 i j + 24 ∧ D 8 i j ≤ D 0 0 0)
def rt_q (D : ab_D) (i j : Nat) : Prop := D 6 i j < D 0 0 0 + 24 ∧ (D 7 i j ≠ 0 → D 6 i j + 26 * D 9 i j < D 8 i j + 24 ∧ D 8 i j ≤ D 0 0 0)
theorem rt_qp {D : ab_D} {i j : Nat} (h : rt_q D i j) : rt_p D i j := ⟨Nat.le_of_lt h.1, h.2⟩
/-- other pairs keep theirs; a pair that has not been urged in this moment may be urged -/
theorem rt_u {u lv : Nat → Nat → Prop} {cf : Nat → Nat → Nat} {a b i j : Nat} {D : ab_D} : (rt_q D a b → rt_p (ab_u u lv cf a b D).1 a b) ∧ (¬ (i = a ∧ j = b) → (rt_p D i j → rt_p (ab_u u lv cf a b D).1 i j) ∧ (rt_q D i j → rt_q (ab_u u lv cf a b D).1 i j)) := by
  have now : (ab_u u lv cf a b D).1 0 0 0 = D 0 0 0 := by
    have := ab_d0 (u := u) (lv := lv) (cf := cf) (ac := fun _ _ => 0) (k := 2) (a := a) (b := b) (x := fun _ => 0) (D := D)
    rw [ab_do2, if_neg (by decide)] at this
    exact this
  have dt : ∀ i j, _ := fun i j => ab_dt (u := u) (lv := lv) (cf := cf) (ac := fun _ _ => 0) (k := 2) (a := a) (b := b) (i := i) (j := j) (x := fun _ => 0) (D := D)
  simp only [ab_do2] at dt
  refine ⟨fun h => ?_, fun hne => ?_⟩
  · rcases dt a b with ⟨z6, z7, z8, z9⟩ | ⟨_, _, _, hl, hc, ⟨z, z2, z0, z1, _, y7, y8, y9, y6, _⟩ | ⟨_, y7, _, y | ⟨_, y6⟩⟩⟩
    · unfold rt_p
      rw [z6, z7, z8, z9, now]
      exact ⟨Nat.le_of_lt h.1, h.2⟩
    · unfold rt_p
      rw [y6, y8, y9, now]
      refine ⟨Nat.le_of_lt h.1, fun _ => ⟨?_, Nat.le_refl _⟩⟩
      by_cases e : D 7 a b = 0
      · rw [z0 e]
        have := h.1
        omega
      · have t := h.2 e
        have e9 := z1 e
        rcases hc with y | y
        · exact absurd y e
        · omega
    · have y6 := y.2.2.2.2.1
      refine ⟨?_, fun z => absurd y7 z⟩
      rw [y6, now]
      exact Nat.le_refl _
    · refine ⟨?_, fun z => absurd y7 z⟩
      rw [y6, now]
      exact Nat.le_of_lt h.1
  · rcases dt i j with ⟨z6, z7, z8, z9⟩ | ⟨_, e1, e2, _⟩
    · unfold rt_p rt_q
      rw [z6, z7, z8, z9, now]
      exact ⟨fun h => h, fun h => h⟩
    · exact absurd ⟨e1, e2⟩ hne
