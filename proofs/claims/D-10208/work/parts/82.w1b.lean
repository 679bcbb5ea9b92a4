/-- a hub x whose questions can bend TELLs, the other hub w -/
theorem ax_W1v {Z : ab_Z} {d : Nat → Nat → Nat} {N x w g c p l lm : Nat} (hR : ax_LR lm Z d N) (hs : ∀ p q, ab_zl Z p q → p = x ∨ p = w) (hxw : x ≠ w) (x8 : x < 8) (w8 : w < 8) (h2 : ∀ p q, ab_zl Z p q → 2 ≤ d p q) (hc7 : d x c ≤ 7)
    (lg : ab_zl Z x g) (lc : ab_zl Z x c) (hpc : p ≠ c) (hsum : d x p + d c p = d x c) (hw : ab_gd (ab_zu Z) g x l p) (hn : ¬ ab_gd (ab_zu Z) g x (d x p) p) (hN : ab_zn Z 0 + 260 ≤ ab_zn Z N) : False := by
  have hR' := hR
  obtain ⟨h, hL, hG, hl8, h0, hU, hnp⟩ := hR'
  have sy := hG.2.2.1
  obtain ⟨_, _, g8⟩ := hl8 _ _ lg
  obtain ⟨_, _, c8⟩ := hl8 _ _ lc
  have hx : ∀ q, ab_zl Z q x → q = w := fun q hq => by
    rcases hs q x hq with z | z
    · exact absurd z (hl8 _ _ hq).1
    · exact z
  have hwI : ∀ q, ab_zl Z q w → q = x := fun q hq => by
    rcases hs q w hq with z | z
    · exact z
    · exact absurd z (hl8 _ _ hq).1
  have hg : ∀ g, ab_zl Z x g → 2 ≤ d x g := fun g hg => (h2 x g hg)
  have hgw : ∀ g, ab_zl Z w g → 2 ≤ d w g := fun g hg => (h2 w g hg)
  have nos : ∀ g, g ≠ x → g ≠ w → ∀ q, ¬ ab_zl Z g q := fun g h1 h2 q hq => by
    rcases hs g q hq with z | z
    · exact h1 z
    · exact h2 z
  obtain ⟨c5, pg, pc, p8, ⟨b1, b18, b1g, db1⟩, b2, q0, b28, q8, bq, db2, dq, gb2, nq⟩ := ax_vio hG x8 g8 c8 hpc hsum hc7 hw hn
  have g2 := hg g lg
  have x0 := hG.1 x
  have dif : ∀ p q, d x p ≠ d x q → p ≠ q := fun p q e z => e (by rw [z])
  have s8 : ∀ s, 0 < d x s → d x s ≤ 7 → s < 8 := fun s h1 h2 => by
    obtain ⟨t, t1, _⟩ := hG.2.2.2.2.1 x s h1 h2
    exact (hG.2.2.2.2.2.1 _ _ t1).2.2.1
  have gx : ∀ y, ab_zl Z x y → y ≠ x := fun y hy e => (hl8 _ _ hy).1 e.symm
  -- the two hubs next to each other at distance 2
  by_cases cp : (ab_zl Z x w ∨ ab_zl Z w x) ∧ d x w = 2
  · rcases cp.1 with z | z
    · exact ax_R0 hR cp.2 (by omega) z hx hwI hg hgw (by omega)
    · exact ax_R0 hR (show d w x = 2 by rw [sy]; exact cp.2) (by omega) z hwI hx hgw hg (by omega)
  -- levels 1, 2 are single stations, if the goal is at distance 3
  have thin3 : d x g = 3 → (∀ v v', d x v = d x v' → d x v < 3 → v = v') := by
    intro e3 v v' e lt
    by_cases ev : v = v'
    · exact ev
    · exfalso
      rcases Nat.eq_zero_or_pos (d x v) with z | z
      · exact ev (by rw [← hG.2.2.2.1 x v z, ← hG.2.2.2.1 x v' (by omega)])
      · have v8 := s8 v z (by omega)
        have v8' := s8 v' (by omega) (by omega)
        obtain ⟨u, u8, du⟩ := ab_lev hG x (d x c) c rfl (by omega) c8 (3 - d x v) (by omega)
        exact ax_nine (x := x) (t1 := v) (t2 := v') (t3 := u) (y := g) (g1 := b1) (g2 := b2) (g3 := q0) (g4 := c) x8 v8 v8' u8 g8 b18 b28 q8 c8
          (dif _ _ (by omega)) ⟨dif _ _ (by omega), fun e => ev e.symm⟩ ⟨dif _ _ (by omega), dif _ _ (by omega), dif _ _ (by omega)⟩ ⟨dif _ _ (by omega), dif _ _ (by omega), dif _ _ (by omega), dif _ _ (by omega)⟩
          ⟨dif _ _ (by omega), dif _ _ (by omega), dif _ _ (by omega), dif _ _ (by omega), b1g⟩ ⟨dif _ _ (by omega), dif _ _ (by omega), dif _ _ (by omega), dif _ _ (by omega), dif _ _ (by omega), dif _ _ (by omega)⟩
          ⟨dif _ _ (by omega), dif _ _ (by omega), dif _ _ (by omega), dif _ _ (by omega), dif _ _ (by omega), dif _ _ (by omega), fun e => bq e.symm⟩
          ⟨dif _ _ (by omega), dif _ _ (by omega), dif _ _ (by omega), dif _ _ (by omega), dif _ _ (by omega), dif _ _ (by omega), dif _ _ (by omega), dif _ _ (by omega)⟩
  -- no pair between the hubs
  by_cases no : ¬ ab_zl Z x w ∧ ¬ ab_zl Z w x
  · have px : ∀ q, ¬ ab_zl Z q x := fun q hq => by
      have hq' := hq
      rw [hx q hq] at hq'
      exact no.2 hq'
    have pw : ∀ q, ¬ ab_zl Z q w := fun q hq => by
      have hq' := hq
      rw [hwI q hq] at hq'
      exact no.1 hq'
    by_cases t2 : ∃ y, ab_zl Z x y ∧ d x y = 2
    · obtain ⟨y, ly, dy⟩ := t2
      exact ax_LIn2 hR dy ly hg (fun hl => (h2 _ _ hl)) px (nos y (gx y ly) (fun e => no.1 (by rw [← e]; exact ly))) (fun q hq => hs q y hq) pw (by omega)
    · by_cases t3 : ∃ y, ab_zl Z w y ∧ d w y = 2
      · obtain ⟨y, ly, dy⟩ := t3
        exact ax_LIn2 hR dy ly hgw (fun hl => (h2 _ _ hl)) pw (nos y (fun e => no.2 (by rw [← e]; exact ly)) (fun e => (hl8 _ _ ly).1 e.symm)) (fun q hq => (hs q y hq).symm) px (by omega)
      · have hg3 : ∀ g, ab_zl Z x g → 3 ≤ d x g := fun g lg => by
          have := hg g lg
          by_cases e : d x g = 2
          · exact absurd ⟨g, lg, e⟩ t2
          · omega
        have hw3 : ∀ g, ab_zl Z w g → 3 ≤ d w g := fun g lg => by
          have := hgw g lg
          by_cases e : d w g = 2
          · exact absurd ⟨g, lg, e⟩ t3
          · omega
        have e3 : d x g = 3 := by have := hg3 g lg; omega
        have th := thin3 e3
        by_cases dw : 3 ≤ d x w
        · exact ax_th3 hR e3 lg (by omega) hx hwI hg3 hgw th dw (show d x b2 = 4 by omega) (show d x q0 = 4 by omega) (show d x c = 5 by omega) bq b28 q8 c8 (fun y ly dy => ⟨nos y (gx y ly) (fun e => no.1 (by rw [← e]; exact ly)), fun q hq => hs q y hq, fun e => no.1 (by rw [e]; exact ly)⟩)
        · -- w lies between x and its goals: it is a source of none of them
          have far9 : ∀ q, ¬ ab_zl Z q 9 := fun q hq => by have := (hl8 _ _ hq).2.2; omega
          have far9' : ∀ q, ¬ ab_zl Z 9 q := fun q hq => by have := (hl8 _ _ hq).2.1; omega
          refine ax_th3 (w := 9) hR e3 lg (by omega) (fun q hq => absurd hq (px q)) (fun q hq => absurd hq (far9 q)) hg3 (fun g hg => absurd hg (far9' g)) th (by rw [ax_d100 hG (by omega) (by omega)]; omega) (show d x b2 = 4 by omega) (show d x q0 = 4 by omega) (show d x c = 5 by omega) bq b28 q8 c8 (fun y ly dy => ⟨nos y (gx y ly) (fun e => no.1 (by rw [← e]; exact ly)), fun q hq => ?_, fun e => by have := (hl8 _ _ ly).2.2; omega⟩)
          rcases hs q y hq with z | z
          · exact Or.inl z
          · exfalso
            rw [z] at hq
            have d3 := hw3 y hq
            -- y is reached over w
            obtain ⟨s, s1, s2⟩ := hG.2.2.2.2.1 x y (by omega) (by omega)
            have ds : d x s = 2 := by omega
            obtain ⟨t, t1, t2'⟩ := hG.2.2.2.2.1 x s (by omega) (by omega)
            have dt : d x t = 1 := by omega
            have w1 : 1 ≤ d x w := by
              rcases Nat.eq_zero_or_pos (d x w) with z | z
              · exact absurd (hG.2.2.2.1 x w z) hxw
              · exact z
            have l1 := hG.2.1 w s y s1
            have l2 := hG.2.1 w t s t1
            have w0 := hG.1 w
            by_cases ew : d x w = 1
            · have : t = w := th t w (by omega) (by omega)
              rw [this] at l2
              omega
            · have : s = w := th s w (by omega) (by omega)
              rw [this] at l1
              omega
  -- a pair between the hubs, at distance 3 or more
  have dw : 3 ≤ d x w := by
    have lv : ab_zl Z x w ∨ ab_zl Z w x := by
      by_cases z : ab_zl Z x w
      · exact Or.inl z
      · by_cases y : ab_zl Z w x
        · exact Or.inr y
        · exact absurd ⟨z, y⟩ no
    have : 2 ≤ d x w := by
      rcases lv with z | z
      · exact (h2 _ _ z)
      · have := (h2 _ _ z)
        have := sy w x
        omega
    by_cases e : d x w = 2
    · exact absurd ⟨lv, e⟩ cp
    · omega
  have norm : ∀ y, ab_zl Z x y → y ≠ w → (∀ q, ¬ ab_zl Z y q) ∧ ∀ q, ab_zl Z q y → q = x ∨ q = w := fun y ly hyw => ⟨nos y (gx y ly) hyw, fun q hq => hs q y hq⟩
  by_cases t2 : ∃ y, ab_zl Z x y ∧ d x y = 2
  · obtain ⟨y, ly, dy⟩ := t2
    by_cases leaf : ∀ v v', d x v = 1 → d x v' = 1 → v = v'
    · exact ax_th2 hR dy ly (by omega) hx hwI hg hgw leaf dw (fun g lg dg => norm g lg (dif _ _ (by omega)))
    · -- two neighbours: the goal is at distance 2
      have e2 : d x g = 2 := by
        by_cases e : d x g = 2
        · exact e
        · exfalso
          exact leaf (fun v v' e1 e2 => thin3 (by omega) v v' (by omega) (by omega))
      have ex : ∃ v v', d x v = 1 ∧ d x v' = 1 ∧ v ≠ v' := by
        by_cases z : ∃ v v', d x v = 1 ∧ d x v' = 1 ∧ v ≠ v'
        · exact z
        · exfalso
          refine leaf (fun v v' e1 e2 => ?_)
          by_cases q : v = v'
          · exact q
          · exact absurd ⟨v, v', e1, e2, q⟩ z
      obtain ⟨v, v', e1, e1', evv⟩ := ex
      obtain ⟨k1, k2⟩ := ax_L2g hG x8 g8 c8 w8 e2 hpc hsum hc7 hw hn e1 e1' evv (s8 v (by omega) (by omega)) (s8 v' (by omega) (by omega)) dw
      exact ax_g2L hR dy ly (by omega) hx hwI hg hgw dw k1 (fun g lg dg => ⟨(norm g lg (dif _ _ (by omega))).1, (norm g lg (dif _ _ (by omega))).2, fun _ => k2 g (hl8 _ _ lg).2.2 dg⟩)
  · have hg3 : ∀ g, ab_zl Z x g → 3 ≤ d x g := fun g lg => by
      have := hg g lg
      by_cases e : d x g = 2
      · exact absurd ⟨g, lg, e⟩ t2
      · omega
    have e3 : d x g = 3 := by have := hg3 g lg; omega
    have th := thin3 e3
    by_cases lw : ab_zl Z x w ∧ d x w = 3
    · by_cases oth : ∃ y, ab_zl Z x y ∧ d x y = 3 ∧ y ≠ w
      · obtain ⟨y, ly, dy, yw⟩ := oth
        obtain ⟨a0, n0, h0', t0, t0'⟩ := ab_askx (t := ab_zn Z 0 + 104) h hL h0 ly (by omega) (by omega)
        exact (ax_thS hR dy (by omega) (by omega) n0 h0' (by omega) (by omega) hx hwI hg3 th dw (fun e => yw e.symm) (norm y ly yw).1 (norm y ly yw).2).2.2.2.2 (by omega) hgw
      · -- the couple over distance 3
        obtain ⟨s, s1, s2⟩ := hG.2.2.2.2.1 x w (by omega) (by omega)
        obtain ⟨t, t1, t2'⟩ := hG.2.2.2.2.1 x s (by omega) (by omega)
        have dt : d x t = 1 := by omega
        have hleaf : ∀ v, ab_zu Z v x → v = t := by
          intro v hv
          have lv := hG.2.1 x x v (hG.2.2.2.2.2.1 _ _ hv).1
          have nv := (hG.2.2.2.2.2.1 _ _ hv).2.2.2
          have v1 : 1 ≤ d x v := by
            rcases Nat.eq_zero_or_pos (d x v) with z | z
            · exact absurd (hG.2.2.2.1 x v z).symm nv
            · exact z
          exact th v t (by omega) (by omega)
        have dwt : d w t = 2 := by
          have a1 := hG.2.1 w w s (hG.2.2.2.2.2.1 _ _ s1).1
          have a2 := hG.2.1 w s t (hG.2.2.2.2.2.1 _ _ t1).1
          have a0 := hG.1 w
          have a3 := ab_tri hG w t 1 x (by rw [sy]; exact dt) (by omega)
          have a4 := sy w x
          omega
        exact ax_R0L hR lw.2 hleaf dwt lw.1 hx hwI hg3 hgw (by omega)
    · exact ax_th3 hR e3 lg (by omega) hx hwI hg3 hgw th dw (show d x b2 = 4 by omega) (show d x q0 = 4 by omega) (show d x c = 5 by omega) bq b28 q8 c8 (fun y ly dy => ⟨(norm y ly (fun e => lw ⟨by rw [← e]; exact ly, by rw [← e]; exact dy⟩)).1, (norm y ly (fun e => lw ⟨by rw [← e]; exact ly, by rw [← e]; exact dy⟩)).2, fun e => lw ⟨by rw [e]; exact ly, by rw [e]; exact dy⟩⟩)
/-- a live pair of smallest distance -/
theorem ax_min {Z : ab_Z} {d : Nat → Nat → Nat} : ∀ n, (∃ a b, ab_zl Z a b ∧ d a b ≤ n) → ∃ a b, ab_zl Z a b ∧ ∀ a' b', ab_zl Z a' b' → d a b ≤ d a' b' := by
  intro n
  induction n with
  | zero =>
    intro ⟨a, b, h1, h2⟩
    exact ⟨a, b, h1, fun _ _ _ => by omega⟩
  | succ n ih =>
    intro ⟨a, b, h1, h2⟩
    by_cases e : ∃ a b, ab_zl Z a b ∧ d a b ≤ n
    · exact ih e
    · refine ⟨a, b, h1, fun a' b' h' => ?_⟩
      by_cases e2 : d a' b' ≤ n
      · exact absurd ⟨a', b', h', e2⟩ e
      · omega
/-- TWO HUBS ARE THE ONLY SOURCES: no long run without progress -/
theorem ax_W1t {Z : ab_Z} {d : Nat → Nat → Nat} {N A B p q lm : Nat} (hR : ax_LR lm Z d N) (hs : ∀ p q, ab_zl Z p q → p = A ∨ p = B) (hAB : A ≠ B) (A8 : A < 8) (B8 : B < 8) (hl : ab_zl Z p q) (h7 : d p q ≤ 7) (hN : ab_zn Z 0 + 800 ≤ ab_zn Z N) : False := by
  have hR' := hR
  obtain ⟨h, hL, hG, hl8, h0, hU, hnp⟩ := hR'
  have sA : ∀ p q, ab_zl Z p q → p = B ∨ p = A := fun p q z => (hs p q z).symm
  by_cases d1 : ∃ a b, ab_zl Z a b ∧ d a b ≤ 1
  · obtain ⟨a, b, l1, l2⟩ := d1
    have db : d a b = 1 := by
      rcases Nat.eq_zero_or_pos (d a b) with z | z
      · exact absurd (hG.2.2.2.1 a b z) (hl8 _ _ l1).1
      · omega
    rcases hs a b l1 with z | z
    · rw [z] at l1 db
      exact ax_W1 hR hs hAB B8 l1 db hN
    · rw [z] at l1 db
      exact ax_W1 hR sA (fun e => hAB e.symm) A8 l1 db hN
  · have h2 : ∀ p q, ab_zl Z p q → 2 ≤ d p q := fun p q z => by
      by_cases e : d p q ≤ 1
      · exact absurd ⟨p, q, z, e⟩ d1
      · omega
    by_cases nb : ab_NB Z d
    · obtain ⟨a, b, l1, l2⟩ := ax_min (d p q) ⟨p, q, hl, Nat.le_refl _⟩
      have hk : ab_hk Z A B 9 9 := ⟨fun a b z => ⟨(hs a b z).elim Or.inl (fun y => Or.inr (Or.inl y)), hl8 a b z⟩, hAB, by omega, by omega, by omega⟩
      exact ab_NBF h hL h0 hG hk nb hnp l1 rfl (Nat.le_trans (l2 p q hl) h7) l2 (by omega)
    · have : ∃ z g c p l, ab_zl Z z g ∧ ab_zl Z z c ∧ g ≠ c ∧ p ≠ c ∧ d z p + d c p = d z c ∧ d z c ≤ 7 ∧ ab_gd (ab_zu Z) g z l p ∧ ¬ ab_gd (ab_zu Z) g z (d z p) p := by
        by_cases e : ∃ z g c p l, ab_zl Z z g ∧ ab_zl Z z c ∧ g ≠ c ∧ p ≠ c ∧ d z p + d c p = d z c ∧ d z c ≤ 7 ∧ ab_gd (ab_zu Z) g z l p ∧ ¬ ab_gd (ab_zu Z) g z (d z p) p
        · exact e
        · exfalso
          refine nb (fun z g c p l e1 e2 e3 e4 e5 e6 e7 => ?_)
          by_cases e8 : ab_gd (ab_zu Z) g z (d z p) p
          · exact e8
          · exact absurd ⟨z, g, c, p, l, e1, e2, e3, e4, e5, e6, e7, e8⟩ e
      obtain ⟨z, g, c, p', l, e1, e2, e3, e4, e5, e6, e7, e8⟩ := this
      rcases hs z g e1 with y | y
      · rw [y] at e1 e2 e5 e6 e7 e8
        exact ax_W1v hR hs hAB A8 B8 h2 e6 e1 e2 e4 e5 e7 e8 (by omega)
      · rw [y] at e1 e2 e5 e6 e7 e8
        exact ax_W1v hR sA (fun e => hAB e.symm) B8 A8 h2 e6 e1 e2 e4 e5 e7 e8 (by omega)
