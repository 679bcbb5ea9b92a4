/-! ## thin surroundings in a long run -/
/-- with straight ways to x all is over at once -/
theorem ax_thB {Z : ab_Z} {d : Nat → Nat → Nat} {N a x y w r nb t0 Ex : Nat} (hW : ax_W Z d N) (h0 : ab_t0 Z N) (hnp : ab_np Z N) (hd : d x y = r) (r2 : 2 ≤ r) (r3 : r ≤ 3) (haN : a < N) (ha : ab_ask Z a x y) (ht : ab_zn Z 0 + 24 ≤ ab_zn Z a) (hN : ab_zn Z a + 22 ≤ ab_zn Z N)
    (hx : ∀ q, ab_zl Z q x → q = w) (hw : ∀ q, ab_zl Z q w → q = x) (hg : ∀ g, ab_zl Z x g → r ≤ d x g) (hth : ∀ v v', d x v = d x v' → d x v < r → v = v') (hwd : r ≤ d x w) (hwy : w ≠ y)
    (hy : ∀ q, ¬ ab_zl Z y q) (hz : ∀ q, ab_zl Z q y → q = x ∨ q = w) (hb0 : ab_zD Z 0 4 y 0 < nb) (hbn : ab_bn Z N y nb t0) (ht0 : ab_zn Z 0 + 28 ≤ t0) (hrx : nb ≤ ab_zD Z a 3 x y)
    (hEx : ax_E Z d N x r (ab_zD Z (a + 1) 4 x 0) Ex) (hEx2 : ab_zn Z a + 6 * r ≤ Ex + 1) : False := by
  obtain ⟨p, j, c1, c2, c3, c4, c5, c6, c7, c8, c9, c10, c11, c12, _⟩ := ax_thP hW h0 hd r2 r3 haN ha ht hN hx hw hg hth hwd hwy hy hz hb0 hbn ht0 hrx
  obtain ⟨b, _, _, b3, _⟩ := ax_ans hW hnp hEx (fun z hz => by rw [hx z hz]; exact hwd) hd haN ha c12 c11 c2 c3 c4 c5 c6 c7 c8 (by omega) (by omega) c1
  exact hy _ b3.2.2.2.2
/-- one attempt in a long run -/
theorem ax_thS {Z : ab_Z} {d : Nat → Nat → Nat} {N a x y w r lm : Nat} (hR : ax_LR lm Z d N) (hd : d x y = r) (r2 : 2 ≤ r) (r3 : r ≤ 3) (haN : a < N) (ha : ab_ask Z a x y) (ht : ab_zn Z 0 + 104 ≤ ab_zn Z a) (hN : ab_zn Z a + 22 < ab_zn Z N)
    (hx : ∀ q, ab_zl Z q x → q = w) (hw : ∀ q, ab_zl Z q w → q = x) (hg : ∀ g, ab_zl Z x g → r ≤ d x g) (hth : ∀ v v', d x v = d x v' → d x v < r → v = v') (hwd : r ≤ d x w) (hwy : w ≠ y)
    (hy : ∀ q, ¬ ab_zl Z y q) (hz : ∀ q, ab_zl Z q y → q = x ∨ q = w) :
    (∃ b g, b < N ∧ ab_ask Z b x g ∧ d x g = r ∧ ab_zn Z a < ab_zn Z b ∧ ab_zn Z b ≤ ab_zn Z a + 3 * r + 1) ∧ (∃ k, a < k ∧ k < N ∧ ab_go Z k x y ∧ ab_zn Z k = ab_zn Z a + 2 * r) ∧ ab_zl Z w x ∧ d x w ≤ 7 ∧ (d x w ≤ 3 → (∀ g, ab_zl Z w g → 2 ≤ d w g) → False) := by
  have hR' := hR
  obtain ⟨h, hL, hG, hl8, h0, hU, hnp⟩ := hR'
  obtain ⟨ap, apN, hap, hp1, hp2⟩ := ab_askx (t := ab_zn Z a - 78) h hL h0 ha.2.2.1 (by omega) (by omega)
  have hapa : ap < a := by
    by_cases e : ap < a
    · exact e
    · have := ab_nowm h (show a ≤ ap by omega) (by omega)
      omega
  have hsp := ab_sp h hapa haN hap ha
  obtain ⟨k0, e, k1, k2, k3, k4, k5, hW, h0', hU', hnp'⟩ := ax_wn 104 22 hR haN (by omega) (by omega) (by omega) (by omega) (by omega)
  have kap : k0 < ap := by
    by_cases q : k0 < ap
    · exact q
    · have := ab_nowm h (show ap ≤ k0 by omega) (by omega)
      omega
  have n0 : ab_zn (ab_sh Z k0) 0 = ab_zn Z k0 := by rw [← ax_shn (Nat.le_refl k0), Nat.sub_self]
  have na : ab_zn (ab_sh Z k0) (a - k0) = ab_zn Z a := ax_shn (by omega)
  have nap : ab_zn (ab_sh Z k0) (ap - k0) = ab_zn Z ap := ax_shn (by omega)
  have nN : ab_zn (ab_sh Z k0) (e - k0) = ab_zn Z e := ax_shn (by omega)
  have ha' := ab_sha (k := k0) (show k0 ≤ a by omega) ha
  have hap' := ab_sha (k := k0) (show k0 ≤ ap by omega) hap
  obtain ⟨j, m, i, g1, g2, g3, g4, g5, g6, g7, g8, g9, g10⟩ := ax_thG (N := e - k0) hW h0' hd r2 r3 (show ap - k0 < e - k0 by omega) hap' (by omega) (by omega) hx hw hg hth hwd hwy
  have gr := ax_tgrow hW.1 g2 g1
  have jd := g2.2.2.2.2.2.2.2.2.1
  rw [hd] at jd
  have y00 := ab_ownm (c := y) hW.1 (Nat.zero_le j) (by omega)
  have hma : m < a - k0 := by
    by_cases q : m < a - k0
    · exact q
    · have := ab_nowm hW.1 (show a - k0 ≤ m by omega) (by omega)
      omega
  have hrx := Nat.le_trans g10 (ab_nrm (v := x) (c := y) hW.1 (show m + 1 ≤ a - k0 by omega) (by omega))
  have hbn : ab_bn (ab_sh Z k0) (e - k0) y (ab_zD (ab_sh Z k0) (j + 1) 4 y 0) (ab_zn (ab_sh Z k0) j) := ⟨j, g1, rfl, by omega, Nat.le_refl _⟩
  obtain ⟨p, j', c1, c2, c3, c4, c5, c6, c7, c8, c9, c10, c11, c12, kk, d1, d2, d3, d4⟩ := ax_thP hW h0' hd r2 r3 (show a - k0 < e - k0 by omega) ha' (by omega) (by omega) hx hw hg hth hwd hwy hy hz (by omega) hbn (by omega) hrx
  obtain ⟨b, g, b1, b2, b3, b4, b5, jj, aw, b6, b7⟩ := ax_thA hW h0' hU' hnp' hd r2 r3 (show a - k0 < e - k0 by omega) ha' (by omega) (by omega) hx hw hg hth hwd hwy hy hz (by omega) hbn (by omega) hrx
  have wl : ab_zl Z w x := b7.2.1.2.2.1
  refine ⟨⟨k0 + b, g, by omega, b2, b3, ?_, ?_⟩, ⟨k0 + kk, by omega, by omega, d3, ?_⟩, wl, by rw [hG.2.2.1]; exact b7.2.2.2.2.2.2.2.2.2.1, ?_⟩
  · show ab_zn Z a < ab_zn (ab_sh Z k0) b
    omega
  · show ab_zn (ab_sh Z k0) b ≤ _
    omega
  · show ab_zn (ab_sh Z k0) kk = _
    omega
  · intro dw gw
    obtain ⟨q1, q2, q3⟩ := ab_qf hW.1 (show a - k0 < e - k0 by omega) ha'
    have sy := hG.2.2.1 w x
    have hEx : ax_E (ab_sh Z k0) d (e - k0) x r (ab_zD (ab_sh Z k0) (a - k0 + 1) 4 x 0) (ab_zn (ab_sh Z k0) (e - k0)) := by
      refine ax_cE (w := w) (t := ab_zn Z a) hW hx hw (fun _ g hg' => ?_) (fun _ _ g hg' => ?_) hg q2 ⟨a - k0, by omega, by omega, by omega, Nat.le_refl _⟩ (by omega)
      · have := gw g hg'
        omega
      · have := hg g hg'
        omega
    exact ax_thB hW h0' hnp' hd r2 r3 (show a - k0 < e - k0 by omega) ha' (by omega) (by omega) hx hw hg hth hwd hwy hy hz (by omega) hbn (by omega) hrx hEx (by omega)
/-- THIN, r = 2: x has one neighbour, its nearest goals are at distance 2 and no sources -/
theorem ax_th2 {Z : ab_Z} {d : Nat → Nat → Nat} {N x y w lm : Nat} (hR : ax_LR lm Z d N) (hd : d x y = 2) (hl : ab_zl Z x y) (hN : ab_zn Z 0 + 240 ≤ ab_zn Z N)
    (hx : ∀ q, ab_zl Z q x → q = w) (hw : ∀ q, ab_zl Z q w → q = x) (hg : ∀ g, ab_zl Z x g → 2 ≤ d x g) (hgw : ∀ g, ab_zl Z w g → 2 ≤ d w g) (hth : ∀ v v', d x v = 1 → d x v' = 1 → v = v') (hwd : 3 ≤ d x w)
    (hgy : ∀ g, ab_zl Z x g → d x g = 2 → (∀ q, ¬ ab_zl Z g q) ∧ ∀ q, ab_zl Z q g → q = x ∨ q = w) : False := by
  have hR' := hR
  obtain ⟨h, hL, hG, hl8, h0, hU, hnp⟩ := hR'
  have hth' : ∀ v v', d x v = d x v' → d x v < 2 → v = v' := by
    intro v v' e lt
    by_cases e0 : d x v = 0
    · rw [← hG.2.2.2.1 x v e0, ← hG.2.2.2.1 x v' (by omega)]
    · exact hth v v' (by omega) (by omega)
  have step : ∀ a y, a < N → ab_ask Z a x y → d x y = 2 → ab_zn Z 0 + 104 ≤ ab_zn Z a → ab_zn Z a + 22 < ab_zn Z N → (∃ b g, b < N ∧ ab_ask Z b x g ∧ d x g = 2 ∧ ab_zn Z a < ab_zn Z b ∧ ab_zn Z b ≤ ab_zn Z a + 7) ∧ (∃ k, a < k ∧ k < N ∧ ab_go Z k x y ∧ ab_zn Z k = ab_zn Z a + 4) ∧ 4 ≤ d x w ∧ d x w ≤ 7 ∧ w < 8 := by
    intro a y haN ha hdy t1 t2
    have hl' := ha.2.2.1
    have hwy : w ≠ y := fun e => by rw [e] at hwd; omega
    obtain ⟨s1, s2, s3, s5, s4⟩ := ax_thS hR hdy (by omega) (by omega) haN ha t1 t2 hx hw hg hth' (by omega) hwy (hgy y hl' hdy).1 (hgy y hl' hdy).2
    refine ⟨s1, s2, ?_, s5, (hl8 _ _ s3).2.1⟩
    by_cases e : 4 ≤ d x w
    · exact e
    · exact absurd hgw (s4 (by omega))
  obtain ⟨a0, n0, h0', t0, t0'⟩ := ab_askx (t := ab_zn Z 0 + 104) h hL h0 hl (by omega) (by omega)
  obtain ⟨⟨a1, g1, n1, h1, d1, t1, t1'⟩, ⟨k0, k01, k02, k03, k04⟩, dw, wlt, w8⟩ := step a0 y n0 h0' hd (by omega) (by omega)
  obtain ⟨⟨a2, g2, n2, h2, d2, t2, t2'⟩, ⟨k1, k11, k12, k13, k14⟩, _⟩ := step a1 g1 n1 h1 d1 (by omega) (by omega)
  obtain ⟨⟨a3, g3, n3, h3, d3, t3, t3'⟩, ⟨k2, k21, k22, k23, k24⟩, _⟩ := step a2 g2 n2 h2 d2 (by omega) (by omega)
  obtain ⟨⟨a4, g4, n4, h4, d4, t4, t4'⟩, ⟨k3, k31, k32, k33, k34⟩, _⟩ := step a3 g3 n3 h3 d3 (by omega) (by omega)
  -- a pair does not ask again so soon
  have far : ∀ a b g k, a < k → k < N → ab_go Z k x g → ab_zn Z k = ab_zn Z a + 4 → b < N → ab_ask Z b x g → ab_zn Z a < ab_zn Z b → ab_ask Z a x g → ab_zn Z a + 30 ≤ ab_zn Z b := by
    intro a b g k c1 c2 c3 c4 c5 c6 c7 c8
    have hab : a < b := by
      by_cases e : a < b
      · exact e
      · have := ab_nowm h (show b ≤ a by omega) (by omega)
        omega
    by_cases e : k < b
    · have := ax_n26 h c2 c3 e c5 c6
      omega
    · exfalso
      have sp := ab_sp h hab c5 c8 c6
      have := ab_nowm h (show b ≤ k by omega) (by omega)
      omega
  have ne : ∀ a b g g' k, ab_ask Z a x g → a < k → k < N → ab_go Z k x g → ab_zn Z k = ab_zn Z a + 4 → b < N → ab_ask Z b x g' → ab_zn Z a < ab_zn Z b → ab_zn Z b ≤ ab_zn Z a + 28 → g' ≠ g := by
    intro a b g g' k c8 c1 c2 c3 c4 c5 c6 c7 c9 e
    rw [e] at c6
    have := far a b g k c1 c2 c3 c4 c5 c6 c7 c8
    omega
  obtain ⟨_, x8, y8⟩ := hl8 _ _ hl
  obtain ⟨u1, u18, hu1⟩ := ab_lev hG x (d x w) w rfl wlt w8 1 (by omega)
  obtain ⟨u3, u38, hu3⟩ := ab_lev hG x (d x w) w rfl wlt w8 3 (by omega)
  have x0 := hG.1 x
  have dif : ∀ p q, d x p ≠ d x q → p ≠ q := fun p q e z => e (by rw [z])
  refine ax_nine (x := x) (t1 := u1) (t2 := u3) (t3 := w) (y := y) (g1 := g1) (g2 := g2) (g3 := g3) (g4 := g4) x8 u18 u38 w8 y8 (hl8 _ _ h1.2.2.1).2.2 (hl8 _ _ h2.2.2.1).2.2 (hl8 _ _ h3.2.2.1).2.2 (hl8 _ _ h4.2.2.1).2.2
    (dif _ _ (by omega)) ⟨dif _ _ (by omega), dif _ _ (by omega)⟩ ⟨dif _ _ (by omega), dif _ _ (by omega), dif _ _ (by omega)⟩ ⟨dif _ _ (by omega), dif _ _ (by omega), dif _ _ (by omega), dif _ _ (by omega)⟩
    ⟨dif _ _ (by omega), dif _ _ (by omega), dif _ _ (by omega), dif _ _ (by omega), ?_⟩ ⟨dif _ _ (by omega), dif _ _ (by omega), dif _ _ (by omega), dif _ _ (by omega), ?_, ?_⟩ ⟨dif _ _ (by omega), dif _ _ (by omega), dif _ _ (by omega), dif _ _ (by omega), ?_, ?_, ?_⟩ ⟨dif _ _ (by omega), dif _ _ (by omega), dif _ _ (by omega), dif _ _ (by omega), ?_, ?_, ?_, ?_⟩
  · exact ne a0 a1 y g1 k0 h0' k01 k02 k03 k04 n1 h1 (by omega) (by omega)
  · exact ne a0 a2 y g2 k0 h0' k01 k02 k03 k04 n2 h2 (by omega) (by omega)
  · exact ne a1 a2 g1 g2 k1 h1 k11 k12 k13 k14 n2 h2 (by omega) (by omega)
  · exact ne a0 a3 y g3 k0 h0' k01 k02 k03 k04 n3 h3 (by omega) (by omega)
  · exact ne a1 a3 g1 g3 k1 h1 k11 k12 k13 k14 n3 h3 (by omega) (by omega)
  · exact ne a2 a3 g2 g3 k2 h2 k21 k22 k23 k24 n3 h3 (by omega) (by omega)
  · exact ne a0 a4 y g4 k0 h0' k01 k02 k03 k04 n4 h4 (by omega) (by omega)
  · exact ne a1 a4 g1 g4 k1 h1 k11 k12 k13 k14 n4 h4 (by omega) (by omega)
  · exact ne a2 a4 g2 g4 k2 h2 k21 k22 k23 k24 n4 h4 (by omega) (by omega)
  · exact ne a3 a4 g3 g4 k3 h3 k31 k32 k33 k34 n4 h4 (by omega) (by omega)
/-- THIN, r = 3: one station at distance 1 and one at distance 2, nearest goals at distance 3 and no sources, two stations at distance 4, one at distance 5 -/
theorem ax_th3 {Z : ab_Z} {d : Nat → Nat → Nat} {N x y w s1 s2 s3 lm : Nat} (hR : ax_LR lm Z d N) (hd : d x y = 3) (hl : ab_zl Z x y) (hN : ab_zn Z 0 + 240 ≤ ab_zn Z N)
    (hx : ∀ q, ab_zl Z q x → q = w) (hw : ∀ q, ab_zl Z q w → q = x) (hg : ∀ g, ab_zl Z x g → 3 ≤ d x g) (hgw : ∀ g, ab_zl Z w g → 2 ≤ d w g) (hth : ∀ v v', d x v = d x v' → d x v < 3 → v = v') (hwd : 3 ≤ d x w)
    (hs1 : d x s1 = 4) (hs2 : d x s2 = 4) (hs3 : d x s3 = 5) (hs12 : s1 ≠ s2) (s18 : s1 < 8) (s28 : s2 < 8) (s38 : s3 < 8)
    (hgy : ∀ g, ab_zl Z x g → d x g = 3 → (∀ q, ¬ ab_zl Z g q) ∧ (∀ q, ab_zl Z q g → q = x ∨ q = w) ∧ w ≠ g) : False := by
  have hR' := hR
  obtain ⟨h, hL, hG, hl8, h0, hU, hnp⟩ := hR'
  have step : ∀ a y, a < N → ab_ask Z a x y → d x y = 3 → ab_zn Z 0 + 104 ≤ ab_zn Z a → ab_zn Z a + 22 < ab_zn Z N → (∃ b g, b < N ∧ ab_ask Z b x g ∧ d x g = 3 ∧ ab_zn Z a < ab_zn Z b ∧ ab_zn Z b ≤ ab_zn Z a + 10) ∧ (∃ k, a < k ∧ k < N ∧ ab_go Z k x y ∧ ab_zn Z k = ab_zn Z a + 6) := by
    intro a y haN ha hdy t1 t2
    have hl' := ha.2.2.1
    obtain ⟨s1, s2, s3, s5, s4⟩ := ax_thS hR hdy (by omega) (by omega) haN ha t1 t2 hx hw hg hth hwd (hgy y hl' hdy).2.2 (hgy y hl' hdy).1 (hgy y hl' hdy).2.1
    exact ⟨s1, s2⟩
  obtain ⟨a0, n0, h0', t0, t0'⟩ := ab_askx (t := ab_zn Z 0 + 104) h hL h0 hl (by omega) (by omega)
  obtain ⟨⟨a1, g1, n1, h1, d1, t1, t1'⟩, ⟨k0, k01, k02, k03, k04⟩⟩ := step a0 y n0 h0' hd (by omega) (by omega)
  obtain ⟨⟨a2, g2, n2, h2, d2, t2, t2'⟩, ⟨k1, k11, k12, k13, k14⟩⟩ := step a1 g1 n1 h1 d1 (by omega) (by omega)
  have ne : ∀ a b g g' k, ab_ask Z a x g → a < k → k < N → ab_go Z k x g → ab_zn Z k = ab_zn Z a + 6 → b < N → ab_ask Z b x g' → ab_zn Z a < ab_zn Z b → ab_zn Z b ≤ ab_zn Z a + 20 → g' ≠ g := by
    intro a b g g' k c8 c1 c2 c3 c4 c5 c6 c7 c9 e
    rw [e] at c6
    have hab : a < b := by
      by_cases e : a < b
      · exact e
      · have := ab_nowm h (show b ≤ a by omega) (by omega)
        omega
    have := ab_sp h hab c5 c8 c6
    omega
  obtain ⟨_, x8, y8⟩ := hl8 _ _ hl
  obtain ⟨u1, u18, hu1⟩ := ab_lev hG x (d x s3) s3 rfl (by omega) s38 1 (by omega)
  obtain ⟨u2, u28, hu2⟩ := ab_lev hG x (d x s3) s3 rfl (by omega) s38 2 (by omega)
  have x0 := hG.1 x
  have dif : ∀ p q, d x p ≠ d x q → p ≠ q := fun p q e z => e (by rw [z])
  refine ax_nine (x := x) (t1 := u1) (t2 := u2) (t3 := s3) (y := s1) (g1 := s2) (g2 := y) (g3 := g1) (g4 := g2) x8 u18 u28 s38 s18 s28 y8 (hl8 _ _ h1.2.2.1).2.2 (hl8 _ _ h2.2.2.1).2.2
    (dif _ _ (by omega)) ⟨dif _ _ (by omega), dif _ _ (by omega)⟩ ⟨dif _ _ (by omega), dif _ _ (by omega), dif _ _ (by omega)⟩ ⟨dif _ _ (by omega), dif _ _ (by omega), dif _ _ (by omega), dif _ _ (by omega)⟩
    ⟨dif _ _ (by omega), dif _ _ (by omega), dif _ _ (by omega), dif _ _ (by omega), fun e => hs12 e.symm⟩ ⟨dif _ _ (by omega), dif _ _ (by omega), dif _ _ (by omega), dif _ _ (by omega), dif _ _ (by omega), dif _ _ (by omega)⟩ ⟨dif _ _ (by omega), dif _ _ (by omega), dif _ _ (by omega), dif _ _ (by omega), dif _ _ (by omega), dif _ _ (by omega), ?_⟩ ⟨dif _ _ (by omega), dif _ _ (by omega), dif _ _ (by omega), dif _ _ (by omega), dif _ _ (by omega), dif _ _ (by omega), ?_, ?_⟩
  · exact ne a0 a1 y g1 k0 h0' k01 k02 k03 k04 n1 h1 (by omega) (by omega)
  · exact ne a0 a2 y g2 k0 h0' k01 k02 k03 k04 n2 h2 (by omega) (by omega)
  · exact ne a1 a2 g1 g2 k1 h1 k11 k12 k13 k14 n2 h2 (by omega) (by omega)
