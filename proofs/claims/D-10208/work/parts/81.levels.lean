/-! ## two hubs, all goals at distance 2 or more: done -/
theorem ax_LIn2 {Z : ab_Z} {d : Nat → Nat → Nat} {N x y z lm : Nat} (hR : ax_LR lm Z d N) (hd : d x y = 2) (hl : ab_zl Z x y) (hg : ∀ g, ab_zl Z x g → 2 ≤ d x g) (hzy : ab_zl Z z y → 2 ≤ d z y) (hx : ∀ q, ¬ ab_zl Z q x) (hy : ∀ q, ¬ ab_zl Z y q) (hz : ∀ q, ab_zl Z q y → q = x ∨ q = z) (hzp : ∀ q, ¬ ab_zl Z q z) (hN : ab_zn Z 0 + 240 ≤ ab_zn Z N) : False := by
  have hR' := hR
  obtain ⟨h, hL, hG, hl8, h0, hU, hnp⟩ := hR'
  obtain ⟨a0, s1, s2, s3, s4⟩ := ab_askx h hL h0 hl (show ab_zn Z 0 ≤ ab_zn Z 0 + 40 by omega) (by omega)
  obtain ⟨k, e, k1, e1, e2, k3, e3, hW, h0', hU', hnp'⟩ := ax_wn 36 80 hR s1 (by omega) (by omega) (by omega) (by omega) (by omega)
  have na := ax_shn (Z := Z) (show k ≤ a0 by omega)
  have ne := ax_shn (Z := Z) (show k ≤ e by omega)
  have n0 : ab_zn (ab_sh Z k) 0 = ab_zn Z k := rfl
  exact ax_In2 (N := e - k) (r := 2) hW h0' hnp' hd (by omega) hg hzy (show a0 - k < e - k by omega) (ab_sha (show k ≤ a0 by omega) s2) (by omega) (by omega) hx hy hz hzp
/-- what a question that goes round its goal says of the distances -/
theorem ax_vio {Z : ab_Z} {d : Nat → Nat → Nat} {x g c p l : Nat} (hG : ab_G (ab_zu Z) d) (x8 : x < 8) (g8 : g < 8) (c8 : c < 8) (hpc : p ≠ c) (hs : d x p + d c p = d x c) (hc7 : d x c ≤ 7) (hw : ab_gd (ab_zu Z) g x l p) (hn : ¬ ab_gd (ab_zu Z) g x (d x p) p) :
    d x c ≤ 5 ∧ d x g + 1 ≤ d x p ∧ d x p + 1 ≤ d x c ∧ p < 8 ∧ (∃ b, b < 8 ∧ b ≠ g ∧ d x b = d x g) ∧ ∃ b q, b < 8 ∧ q < 8 ∧ b ≠ q ∧ d x b = d x g + 1 ∧ d x q = d x g + 1 ∧ ab_gd (ab_zu Z) g x (d x b) b ∧ ¬ ab_gd (ab_zu Z) g x (d x q) q := by
  have dcp : 1 ≤ d c p := by
    rcases Nat.eq_zero_or_pos (d c p) with e | e
    · exact absurd (hG.2.2.2.1 c p e).symm hpc
    · exact e
  have dpg : d x g + 1 ≤ d x p := by
    by_cases e : d x g + 1 ≤ d x p
    · exact e
    · exact absurd (ab_gdb hG g x (d x p) p rfl (by omega) (by omega)) hn
  have p8 : p < 8 := by
    obtain ⟨s, s1, _⟩ := hG.2.2.2.2.1 x p (by omega) (by omega)
    exact (hG.2.2.2.2.2.1 _ _ s1).2.2.1
  obtain ⟨t1, t2⟩ := ab_cnt hG g8 (fun v _ => by
    rcases hG.2.2.2.2.2.2 x v with e | e
    · exact Or.inl e
    · refine Or.inr (fun k hk => ?_)
      have := ab_gd7 hG g x k v hk
      omega) p8 (by omega) c8 rfl hc7 hw hn x8
  obtain ⟨⟨b1, a1, a2, a3⟩, ⟨b2, a4, a5, a6⟩, ⟨q, a7, a8, a9⟩⟩ := ax_efs hG x8 g8 ⟨p, l, hw, hn⟩
  exact ⟨by omega, dpg, by omega, p8, ⟨b1, a1, a2, a3⟩, b2, q, a4, a7, fun e => a9 (by rw [← e]; exact a6), a5, a8, a6, a9⟩
/-- the surroundings of x with two neighbours: from the far stations to those at distance 2 -/
theorem ax_L2g {Z : ab_Z} {d : Nat → Nat → Nat} {x g c p l w v v' : Nat} (hG : ab_G (ab_zu Z) d) (x8 : x < 8) (g8 : g < 8) (c8 : c < 8) (w8 : w < 8) (hg2 : d x g = 2) (hpc : p ≠ c) (hs : d x p + d c p = d x c) (hc7 : d x c ≤ 7) (hw : ab_gd (ab_zu Z) g x l p) (hn : ¬ ab_gd (ab_zu Z) g x (d x p) p)
    (hv : d x v = 1) (hv' : d x v' = 1) (hvv : v ≠ v') (v8 : v < 8) (v8' : v' < 8) (hwd : 3 ≤ d x w) :
    (∀ g1 g2 g3, g1 < 8 → g2 < 8 → g3 < 8 → d x g1 = 2 → d x g2 = 2 → d x g3 = 2 → g1 = g2 ∨ g1 = g3 ∨ g2 = g3) ∧ ∀ g', g' < 8 → d x g' = 2 → d w g' ≤ 3 := by
  obtain ⟨c5, pg, pc, p8, ⟨b1, b18, b1g, db1⟩, b2, q0, b28, q8, bq, db2, dq, gb2, nq⟩ := ax_vio hG x8 g8 c8 hpc hs hc7 hw hn
  have x0 := hG.1 x
  have dif : ∀ p q, d x p ≠ d x q → p ≠ q := fun p q e z => e (by rw [z])
  have sym : ∀ a b, ab_zu Z a b → ab_zu Z b a := fun a b hu => (hG.2.2.2.2.2.1 a b hu).1
  have two : ∀ g1 g2 g3, g1 < 8 → g2 < 8 → g3 < 8 → d x g1 = 2 → d x g2 = 2 → d x g3 = 2 → g1 = g2 ∨ g1 = g3 ∨ g2 = g3 := by
    intro g1 g2 g3 h1 h2 h3 e1 e2 e3
    by_cases z1 : g1 = g2
    · exact Or.inl z1
    · by_cases z2 : g1 = g3
      · exact Or.inr (Or.inl z2)
      · by_cases z3 : g2 = g3
        · exact Or.inr (Or.inr z3)
        · exfalso
          exact ax_nine (x := x) (t1 := v) (t2 := v') (t3 := b2) (y := q0) (g1 := c) (g2 := g1) (g3 := g2) (g4 := g3) x8 v8 v8' b28 q8 c8 h1 h2 h3
            (dif _ _ (by omega)) ⟨dif _ _ (by omega), fun e => hvv e.symm⟩ ⟨dif _ _ (by omega), dif _ _ (by omega), dif _ _ (by omega)⟩ ⟨dif _ _ (by omega), dif _ _ (by omega), dif _ _ (by omega), fun e => bq e.symm⟩
            ⟨dif _ _ (by omega), dif _ _ (by omega), dif _ _ (by omega), dif _ _ (by omega), dif _ _ (by omega)⟩ ⟨dif _ _ (by omega), dif _ _ (by omega), dif _ _ (by omega), dif _ _ (by omega), dif _ _ (by omega), dif _ _ (by omega)⟩
            ⟨dif _ _ (by omega), dif _ _ (by omega), dif _ _ (by omega), dif _ _ (by omega), dif _ _ (by omega), dif _ _ (by omega), fun e => z1 e.symm⟩
            ⟨dif _ _ (by omega), dif _ _ (by omega), dif _ _ (by omega), dif _ _ (by omega), dif _ _ (by omega), dif _ _ (by omega), fun e => z2 e.symm, fun e => z3 e.symm⟩
  -- the far stations
  have far : ∀ s, s < 8 → 3 ≤ d x s → s = b2 ∨ s = q0 ∨ s = c := by
    intro s s8 ds
    by_cases z1 : s = b2
    · exact Or.inl z1
    · by_cases z2 : s = q0
      · exact Or.inr (Or.inl z2)
      · by_cases z3 : s = c
        · exact Or.inr (Or.inr z3)
        · exfalso
          exact ax_nine (x := x) (t1 := v) (t2 := v') (t3 := g) (y := b1) (g1 := b2) (g2 := q0) (g3 := c) (g4 := s) x8 v8 v8' g8 b18 b28 q8 c8 s8
            (dif _ _ (by omega)) ⟨dif _ _ (by omega), fun e => hvv e.symm⟩ ⟨dif _ _ (by omega), dif _ _ (by omega), dif _ _ (by omega)⟩ ⟨dif _ _ (by omega), dif _ _ (by omega), dif _ _ (by omega), b1g⟩
            ⟨dif _ _ (by omega), dif _ _ (by omega), dif _ _ (by omega), dif _ _ (by omega), dif _ _ (by omega)⟩ ⟨dif _ _ (by omega), dif _ _ (by omega), dif _ _ (by omega), dif _ _ (by omega), dif _ _ (by omega), fun e => bq e.symm⟩
            ⟨dif _ _ (by omega), dif _ _ (by omega), dif _ _ (by omega), dif _ _ (by omega), dif _ _ (by omega), dif _ _ (by omega), dif _ _ (by omega)⟩
            ⟨dif _ _ (by omega), dif _ _ (by omega), dif _ _ (by omega), dif _ _ (by omega), dif _ _ (by omega), z1, z2, z3⟩
  have pq : p = q0 := by
    rcases far p p8 (by omega) with z | z | z
    · exact absurd (by rw [z]; exact gb2) hn
    · exact z
    · exact absurd z hpc
  have dc4 : d x c = 4 := by
    by_cases e : d x c = 4
    · exact e
    · exfalso
      obtain ⟨s, s8, ds⟩ := ab_lev hG x (d x c) c rfl hc7 c8 4 (by omega)
      rcases far s s8 (by omega) with z | z | z
      · rw [z] at ds; omega
      · rw [z] at ds; omega
      · rw [z] at ds; exact e ds
  have dp3 : d x p = 3 := by rw [pq]; omega
  have cp : ab_zu Z c p := by
    obtain ⟨s, s1, s2⟩ := hG.2.2.2.2.1 c p (by omega) (by omega)
    have : s = c := (hG.2.2.2.1 c s (by omega)).symm
    rw [this] at s1
    exact s1
  have lev2 : ∀ s, s < 8 → d x s = 2 → s = g ∨ s = b1 := by
    intro s s8 ds
    rcases two s g b1 s8 g8 b18 ds hg2 (by omega) with z | z | z
    · exact Or.inl z
    · exact Or.inr z
    · exact absurd z.symm b1g
  have b1p : ¬ ab_zu Z b1 p := by
    intro hu
    refine hn ?_
    exact ab_gdn (ab_gdb hG g x (d x b1) b1 rfl (by omega) (by omega)) b1g hu (by omega)
  have gp : ab_zu Z g p := by
    obtain ⟨s, s1, s2⟩ := hG.2.2.2.2.1 x p (by omega) (by omega)
    rcases lev2 s (hG.2.2.2.2.2.1 _ _ s1).2.1 (by omega) with z | z
    · rw [z] at s1; exact s1
    · rw [z] at s1; exact absurd s1 b1p
  have b1b2 : ab_zu Z b1 b2 := by
    obtain ⟨s, s1, s2, s3, s4⟩ := ab_gdw (k := 2) hG gb2 (by omega)
    rcases lev2 s (hG.2.2.2.2.2.1 _ _ s4).2.1 s2 with z | z
    · exact absurd z s3
    · rw [z] at s4; exact s4
  have cross : ∀ k s, ab_gd (ab_zu Z) g x k s → s = p ∨ s = c → ab_zu Z b2 p ∨ ab_zu Z b2 c := by
    intro k
    induction k with
    | zero =>
      intro s e hs'
      rw [show s = x from e] at hs'
      rcases hs' with z | z
      · rw [← z] at dp3; omega
      · rw [← z] at dc4; omega
    | succ k ih =>
      intro s ⟨t, t1, t2, t3⟩ hs'
      have t8 := (hG.2.2.2.2.2.1 _ _ t3).2.1
      have lip := hG.2.1 x t s t3
      have ds : 3 ≤ d x s := by rcases hs' with z | z <;> rw [z] <;> omega
      by_cases dt : 3 ≤ d x t
      · rcases far t t8 dt with z | z | z
        · rw [z] at t3
          rcases hs' with y | y
          · rw [y] at t3; exact Or.inl t3
          · rw [y] at t3; exact Or.inr t3
        · exact ih t t1 (Or.inl (by rw [z, pq]))
        · exact ih t t1 (Or.inr z)
      · exfalso
        rcases lev2 t t8 (by omega) with z | z
        · exact t2 z
        · rcases hs' with y | y
          · rw [z, y] at t3
            exact b1p t3
          · rw [y] at lip
            omega
  have cr := cross l p hw (Or.inl rfl)
  refine ⟨two, fun g' g8' dg' => ?_⟩
  have st : ∀ a s t, ab_zu Z s t → d a t ≤ d a s + 1 := fun a s t hu => hG.2.1 a s t hu
  have e0 := hG.1
  rcases far w w8 hwd with z | z | z
  · rw [z]
    have h0 := e0 b2
    rcases lev2 g' g8' dg' with y | y
    · rw [y]
      rcases cr with u | u
      · have h1 := st b2 _ _ u
        have h2 := st b2 _ _ (sym _ _ gp)
        omega
      · have h1 := st b2 _ _ u
        have h2 := st b2 _ _ cp
        have h3 := st b2 _ _ (sym _ _ gp)
        omega
    · rw [y]
      have h1 := st b2 _ _ (sym _ _ b1b2)
      omega
  · rw [z, ← pq]
    have h0 := e0 p
    rcases lev2 g' g8' dg' with y | y
    · rw [y]
      have h1 := st p _ _ (sym _ _ gp)
      omega
    · rw [y]
      rcases cr with u | u
      · have h1 := st p _ _ (sym _ _ u)
        have h2 := st p _ _ (sym _ _ b1b2)
        omega
      · have h1 := st p _ _ (sym _ _ cp)
        have h2 := st p _ _ (sym _ _ u)
        have h3 := st p _ _ (sym _ _ b1b2)
        omega
  · rw [z]
    have h0 := e0 c
    rcases lev2 g' g8' dg' with y | y
    · rw [y]
      have h1 := st c _ _ cp
      have h2 := st c _ _ (sym _ _ gp)
      omega
    · rw [y]
      rcases cr with u | u
      · have h1 := st c _ _ cp
        have h2 := st c _ _ (sym _ _ u)
        have h3 := st c _ _ (sym _ _ b1b2)
        omega
      · have h1 := st c _ _ (sym _ _ u)
        have h2 := st c _ _ (sym _ _ b1b2)
        omega
