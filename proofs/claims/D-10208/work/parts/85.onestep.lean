/-! ## numbers never outgrow their owners: one step -/
def ri_D (D : ab_D) : Prop := (∀ v c, D 3 v c ≤ D 4 c 0) ∧ ∀ s f q, ab_sn s f q D → q ≤ D 5 f 0
def ri_x (D : ab_D) (x : ab_F) : Prop := (x 3 ≤ 1 → x 6 ≤ D 4 (x 4) 0) ∧ (x 3 = 2 → x 6 ≤ D 4 (x 5) 0) ∧ (x 3 = 0 → x 8 ≤ D 5 (x 4) 0)
theorem ri_do {u lv : Nat → Nat → Prop} {cf ac : Nat → Nat → Nat} {k a b : Nat} {x : ab_F} {D : ab_D} (hu : k = 1 → u a b ∧ b ≠ 8) (hD : ri_D D) (hx : k = 1 → ri_x D x) :
    ri_D (ab_do u lv cf ac k a b x D).1 ∧ (∀ w, ri_x D w → ri_x (ab_do u lv cf ac k a b x D).1 w) ∧ ∀ w, (ab_do u lv cf ac k a b x D).2 w → ri_x (ab_do u lv cf ac k a b x D).1 w := by
  have m4 : ∀ c, D 4 c 0 ≤ (ab_do u lv cf ac k a b x D).1 4 c 0 := by
    intro c
    rcases ab_d4 (u := u) (lv := lv) (cf := cf) (ac := ac) (k := k) (a := a) (b := b) (c := c) (x := x) (D := D) with z | z
    · exact Nat.le_of_eq z.symm
    · exact Nat.le_trans (Nat.le_succ _) (Nat.le_of_eq z.1.symm)
  have m5 : ∀ c, D 5 c 0 ≤ (ab_do u lv cf ac k a b x D).1 5 c 0 := fun c => ab_d5
  have j1 : ∀ v c, (ab_do u lv cf ac k a b x D).1 3 v c ≤ (ab_do u lv cf ac k a b x D).1 4 c 0 := by
    intro v c
    have hy : ab_wy u lv k a b x D (ab_do u lv cf ac k a b x D) v c := ab_dw hu
    rcases hy with ⟨_, _, s3⟩ | ⟨hk, ev, ec, hs, hl, l1, l2, l3⟩ | ⟨_, ⟨_, _, _, y3, _⟩, _⟩
    · rw [s3]
      exact Nat.le_trans (hD.1 v c) (m4 c)
    · rw [l3, ec]
      refine Nat.le_trans ((hx hk).1 ?_) (m4 _)
      rcases hs with ⟨z, _⟩ | z <;> omega
    · rw [y3]
      exact Nat.le_trans (hD.1 v c) (m4 c)
  refine ⟨⟨j1, fun s f q hs => ?_⟩, fun w hw => ⟨fun z => Nat.le_trans (hw.1 z) (m4 _), fun z => Nat.le_trans (hw.2.1 z) (m4 _), fun z => Nat.le_trans (hw.2.2 z) (m5 _)⟩, fun w ho => ⟨fun h3 => ?_, fun h3 => ?_, fun h3 => ?_⟩⟩
  · rcases ab_dsn hs with z | ⟨e1, e2, e3, e4, e5, e6⟩ | ⟨_, z⟩
    · exact Nat.le_trans (hD.2 s f q z) (m5 f)
    · rw [e4, e5]
      exact Nat.le_trans ((hx e1).2.2 e3) (m5 _)
    · exact Nat.le_of_eq z
  · obtain ⟨_, _, _, y⟩ := ab_d1 ho h3
    rcases y with ⟨hk, e3, e4, e5, e6, _⟩ | ⟨e4, _, e6, _⟩
    · rw [e4, e6]
      exact Nat.le_trans ((hx hk).1 (by omega)) (m4 _)
    · rw [e4, e6]
      exact Nat.le_refl _
  · obtain ⟨e1, _, _, e6⟩ := ab_d2 ho h3
    rw [e6]
    exact j1 a (w 5)
  · obtain ⟨_, _, _, y⟩ := ab_d1 ho (by omega)
    rcases y with ⟨hk, e3, e4, e5, e6, _, _, y0, _⟩ | ⟨e4, _, e6, _, y⟩
    · rw [e4, (y0 (by omega)).1]
      exact Nat.le_trans ((hx hk).2.2 (by omega)) (m5 _)
    · rcases y with ⟨_, _, _, w3, _⟩ | ⟨_, _, _, _, w8⟩
      · omega
      · rw [e4, w8]
        exact Nat.le_refl _
