/-! ## every TELL frame is heard once, if every sending is heard once -/
def ax_V (Z : ab_Z) (N : Nat) : Prop := ∃ s : Nat → Nat, (∀ i, i < N → ab_zK Z i = 1 → ab_zX Z i 3 = 1 → ab_zD Z 0 4 (ab_zX Z i 4) 0 < ab_zX Z i 6 → s i < i ∧ ab_zO Z (s i) (ab_zX Z i)) ∧
  (∀ i j, i < N → j < N → ab_zK Z i = 1 → ab_zK Z j = 1 → ab_zX Z i 3 = 1 → ab_zD Z 0 4 (ab_zX Z i 4) 0 < ab_zX Z i 6 → ab_zX Z i = ab_zX Z j → s i = s j → i = j)
theorem ax_UI {Z : ab_Z} {d : Nat → Nat → Nat} {N lm : Nat} (h : ab_RL lm Z d N) (hV : ax_V Z N) : ax_U Z N := by
  obtain ⟨s, h1, h2⟩ := hV
  have birth : ∀ i w, i < N → ab_zO Z i w → w 3 = 1 → w 7 = 0 → ab_zD Z i 4 (w 4) 0 + 1 = w 6 ∧ ab_zD Z (i + 1) 4 (w 4) 0 = w 6 := by
    intro i w hi ho h3 h7
    rcases (ab_d1 ho (by omega)).2.2.2 with ⟨_, _, _, _, _, e7, _⟩ | ⟨d4, d7, d6, ds, dd⟩
    · omega
    · have hD := h.1 i hi
      rw [hD, d4, d6, ds]
      refine ⟨rfl, ?_⟩
      unfold ab_zY
      exact ds
  have fwd : ∀ i w, i < N → ab_zO Z i w → w 3 = 1 → w 7 ≠ 0 → ab_zK Z i = 1 ∧ ab_zX Z i 3 = 1 ∧ ab_zX Z i 4 = w 4 ∧ ab_zX Z i 6 = w 6 ∧ ab_zX Z i 7 + 1 = w 7 := by
    intro i w hi ho h3 h7
    rcases (ab_d1 ho (by omega)).2.2.2 with ⟨hk, e3, e4, e5, e6, e7, _⟩ | ⟨d4, d7, d6, ds, dd⟩
    · exact ⟨hk, by omega, e4.symm, e6.symm, e7.symm⟩
    · exact absurd d7 h7
  have K : ∀ n i j, i < N → j < N → ab_zK Z i = 1 → ab_zK Z j = 1 → ab_zX Z i 3 = 1 → ab_zX Z j 3 = 1 → ab_zX Z i 4 = ab_zX Z j 4 → ab_zX Z i 6 = ab_zX Z j 6 → ab_zX Z i 7 = n → ab_zX Z j 7 = n → ab_zD Z 0 4 (ab_zX Z i 4) 0 < ab_zX Z i 6 → i = j := by
    intro n
    induction n with
    | zero =>
      intro i j hi hj ki kj i3 j3 e4 e6 i7 j7 hn
      obtain ⟨a1, a2⟩ := h1 i hi ki i3 hn
      obtain ⟨b1, b2⟩ := h1 j hj kj j3 (by rw [← e4, ← e6]; exact hn)
      obtain ⟨c1, c2⟩ := birth (s i) _ (by omega) a2 i3 i7
      obtain ⟨d1, d2⟩ := birth (s j) _ (by omega) b2 j3 j7
      rw [← e4, ← e6] at d1 d2
      have es : s i = s j := ab_bone h (show s i < N by omega) (show s j < N by omega) c1 c2 d1 d2
      rw [← es] at b2
      exact h2 i j hi hj ki kj i3 hn (ax_one a2 b2 i3 j3) es
    | succ n ih =>
      intro i j hi hj ki kj i3 j3 e4 e6 i7 j7 hn
      obtain ⟨a1, a2⟩ := h1 i hi ki i3 hn
      obtain ⟨b1, b2⟩ := h1 j hj kj j3 (by rw [← e4, ← e6]; exact hn)
      obtain ⟨c1, c2, c3, c4, c5⟩ := fwd (s i) _ (by omega) a2 i3 (by omega)
      obtain ⟨d1, d2, d3, d4, d5⟩ := fwd (s j) _ (by omega) b2 j3 (by omega)
      have es : s i = s j := ih (s i) (s j) (by omega) (by omega) c1 d1 c2 d2 (by rw [c3, d3, e4]) (by rw [c4, d4, e6]) (by omega) (by omega) (by rw [c3, c4]; exact hn)
      rw [← es] at b2
      exact h2 i j hi hj ki kj i3 hn (ax_one a2 b2 i3 j3) es
  intro i j hi hj ki kj i3 hn ex
  exact K _ i j hi hj ki kj i3 (by rw [← ex]; exact i3) (by rw [ex]) (by rw [ex]) rfl (by rw [ex]) hn
