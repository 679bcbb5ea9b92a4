/-! ## when z asks again -/
/-- the asking of an urge without a way -/
theorem ax_uask {Z : ab_Z} {d : Nat → Nat → Nat} {N s z y : Nat} {lm : Nat} (h : ab_RL lm Z d N) (hl : ab_zl Z z y) (hs : s < N) (sk : ab_zK Z s = 2) (ss : ab_zs Z s = z) (sp : ab_zp Z s = y) (h7 : ab_zD Z s 7 z y = 0 ∨ ab_zD Z s 8 z y + 26 ≤ ab_zn Z s) (h6 : ab_zD Z s 6 z y ≤ ab_zn Z s) (hw : ¬ ab_hw (ab_zu Z) z y (ab_zD Z s) ∨ (ab_zD Z s 7 z y ≠ 0 ∧ 1 ≤ ab_zD Z s 9 z y)) : ab_ask Z s z y := by
  refine ⟨ss, sp, hl, ?_⟩
  have hD := h.1 s hs
  rcases ab_uc (u := ab_zu Z) (lv := ab_zl Z) (cf := ab_zc Z) (a := z) (b := y) (D := ab_zD Z s) with ⟨_, q⟩ | ⟨_, _, ⟨q, q2, q0, q1, yy⟩ | ⟨_, yy⟩⟩
  · exact absurd ⟨hl, h7⟩ q
  · exfalso
    rcases hw with hw | ⟨w7, w9⟩
    · exact hw yy.1
    · have := q1 w7
      omega
  · obtain ⟨a1, a2', q | q⟩ := ab_nwc yy
    · exfalso
      have q' : ab_zn Z s < ab_zD Z s 6 z y := q.1
      omega
    · rw [hD]
      unfold ab_zY
      rw [sk, ab_do2, ss, sp]
      exact ⟨rfl, a1, a2', q.1, q.2.2.2.1, by rw [q.2.2.1 z, if_pos rfl], by rw [q.2.1 z, if_pos rfl]⟩
/-- a piece within 24 moments, or an asking 24 moments later -/
theorem ax_gon {Z : ab_Z} {d : Nat → Nat → Nat} {N a z y : Nat} {lm : Nat} (h : ab_RL lm Z d N) (hL : ab_L Z N) (haN : a < N) (ha : ab_ask Z a z y) (hN : ab_zn Z a + 26 ≤ ab_zn Z N) :
    (∃ k, a < k ∧ k < N ∧ ab_zn Z a < ab_zn Z k ∧ ab_zn Z k ≤ ab_zn Z a + 24 ∧ ab_go Z k z y) ∨ (∃ s, a < s ∧ s < N ∧ ab_zn Z s = ab_zn Z a + 24 ∧ ab_ask Z s z y) := by
  have hl := ha.2.2.1
  have hn0 := ab_nowm h (Nat.zero_le a) (by omega)
  obtain ⟨s, hs, sn, sk, ss, sp', _⟩ := hL.2.1 (ab_zn Z a + 23) z y (by omega) (by omega) hl
  have hazs : a < s := by
    by_cases e : a < s
    · exact e
    · have := ab_nowm h (show s ≤ a by omega) (by omega)
      omega
  have sn1 : ab_zn Z (s + 1) = ab_zn Z s := by rw [ab_now1 h hs, if_neg (by omega)]
  rcases ab_att h hL haN ha (s + 1) (by omega) (by omega) (by omega) with ⟨k', b1, b2, b3, b4⟩ | ⟨z7, z6⟩
  · have := ab_nowm h (show k' ≤ s by omega) (by omega)
    exact Or.inl ⟨k', b1, by omega, b4, by omega, b3⟩
  · obtain ⟨s', hs', sn', sk', ss', sp'', _⟩ := hL.2.1 (ab_zn Z a + 24) z y (by omega) (by omega) hl
    have hss : s < s' := by
      by_cases e : s < s'
      · exact e
      · have := ab_nowm h (show s' ≤ s by omega) (by omega)
        omega
    have same : ∀ i, s + 1 ≤ i → i ≤ s' → ab_zD Z i 7 z y = 0 ∧ ab_zD Z i 6 z y = ab_zn Z a + 24 := by
      intro i
      induction i with
      | zero => intro q; omega
      | succ i ih =>
        intro i1 i2
        by_cases e : s = i
        · rw [← e]; exact ⟨z7, z6⟩
        · obtain ⟨y7, y6⟩ := ih (by omega) (by omega)
          have hD := h.1 i (by omega)
          rcases ab_dt (u := ab_zu Z) (lv := ab_zl Z) (cf := ab_zc Z) (ac := ab_za Z) (k := ab_zK Z i) (a := ab_zs Z i) (b := ab_zp Z i) (i := z) (j := y) (x := ab_zX Z i) (D := ab_zD Z i) with q | ⟨k2, e1, e2, hl, hc, _⟩
          · refine ⟨?_, ?_⟩
            · rw [hD]; exact q.2.1.trans y7
            · rw [hD]; exact q.1.trans y6
          · exfalso
            have t1 := ab_nowm h (show s ≤ i by omega) (by omega)
            have t2 := ab_nowm h (show i ≤ s' by omega) (by omega)
            by_cases e3 : ab_zn Z i = ab_zn Z a + 23
            · have := hL.2.2 i s (by omega) hs k2 sk (by omega) (by rw [← e1, ss]) (by rw [← e2, sp'])
              omega
            · have := hL.2.2 i s' (by omega) hs' k2 sk' (by omega) (by rw [← e1, ss']) (by rw [← e2, sp''])
              omega
    obtain ⟨y7, y6⟩ := same s' (by omega) (Nat.le_refl _)
    by_cases hw : ab_hw (ab_zu Z) z y (ab_zD Z s')
    · refine Or.inl ⟨s', by omega, hs', by omega, by omega, ⟨sk', ss', sp'', hw.1, hw.2, ?_, y7⟩⟩
      rcases ab_uc (u := ab_zu Z) (lv := ab_zl Z) (cf := ab_zc Z) (a := z) (b := y) (D := ab_zD Z s') with ⟨_, q⟩ | ⟨_, _, ⟨q, q2, q0, q1, yy⟩ | ⟨q, yy⟩⟩
      · exact absurd ⟨hl, Or.inl y7⟩ q
      · unfold ab_zO ab_zY
        rw [sk', ab_do2, ss', sp'', yy.2]
        show ab_pt (ab_zn Z s') z (ab_zD Z s' 1 z y) (ab_fr 3 z y (ab_zc Z z y) 0 8) = ab_pt (ab_w (ab_w (ab_w (ab_zD Z s') 9 z y q) 7 z y 1) 8 z y (ab_zD Z s' 0 0 0) 0 0 0) z (ab_zD Z s' 1 z y) (ab_fr 3 z y (ab_zc Z z y) 0 8)
        rw [ab_wf (by decide), ab_wf (by decide), ab_wf (by decide)]
      · rcases q with q | q
        · exact absurd hw q
        · exact absurd y7 q.1
    · exact Or.inr ⟨s', by omega, hs', sn', ax_uask h hl hs' sk' ss' sp'' (Or.inl y7) (by omega) (Or.inl hw)⟩
/-- a piece a moment behind the asking, or no way then -/
theorem ax_g1 {Z : ab_Z} {d : Nat → Nat → Nat} {N a z y : Nat} {lm : Nat} (h : ab_RL lm Z d N) (hL : ab_L Z N) (haN : a < N) (ha : ab_ask Z a z y) (hN : ab_zn Z a + 2 ≤ ab_zn Z N) :
    (∃ k, a < k ∧ k < N ∧ ab_zn Z k = ab_zn Z a + 1 ∧ ab_go Z k z y) ∨ (∃ s, a < s ∧ s < N ∧ ab_zn Z s = ab_zn Z a + 1 ∧ ab_zD Z (s + 1) 1 z y = 8 ∧ ∀ j, j < N → ab_zn Z j = ab_zn Z a + 1 → ab_zK Z j = 1 → j < s) := by
  have hl := ha.2.2.1
  have hn0 := ab_nowm h (Nat.zero_le a) (by omega)
  obtain ⟨s, hs, sn, sk, ss, sp', sall⟩ := hL.2.1 (ab_zn Z a + 1) z y (by omega) (by omega) hl
  have hazs : a < s := by
    by_cases e : a < s
    · exact e
    · have := ab_nowm h (show s ≤ a by omega) (by omega)
      omega
  have sn1 : ab_zn Z (s + 1) = ab_zn Z s := by rw [ab_now1 h hs, if_neg (by omega)]
  rcases ab_att h hL haN ha (s + 1) (by omega) (by omega) (by omega) with ⟨k', b1, b2, b3, b4⟩ | ⟨z7, z6⟩
  · have := ab_nowm h (show k' ≤ s by omega) (by omega)
    exact Or.inl ⟨k', b1, by omega, by omega, b3⟩
  · refine Or.inr ⟨s, hazs, hs, sn, ?_, sall⟩
    have hD := h.1 s hs
    rcases ab_att h hL haN ha s (by omega) (by omega) (by omega) with ⟨k', b1, b2, b3, b4⟩ | ⟨y7, y6⟩
    · exfalso
      have t0 := ax_t0 h (show k' < N by omega) b3
      have hk' := ab_nowm h (show k' ≤ s by omega) (by omega)
      have := ax_wt1 h t0 (s + 1) (by omega) (by omega) (fun j j1 j2 _ _ _ => by
        have := ab_nowm h (show j ≤ s by omega) (by omega)
        omega)
      have := this.1
      omega
    · rcases ab_uc (u := ab_zu Z) (lv := ab_zl Z) (cf := ab_zc Z) (a := z) (b := y) (D := ab_zD Z s) with ⟨_, q⟩ | ⟨_, _, ⟨q, q2, q0, q1, yy⟩ | ⟨_, yy⟩⟩
      · exact absurd ⟨hl, Or.inl y7⟩ q
      · exfalso
        rw [hD] at z7
        unfold ab_zY at z7
        rw [sk, ab_do2, ss, sp', yy.2] at z7
        have z7' : ab_w (ab_w (ab_w (ab_zD Z s) 9 z y q) 7 z y 1) 8 z y (ab_zD Z s 0 0 0) 7 z y = 0 := z7
        rw [ab_wf (by decide), ab_we] at z7'
        omega
      · rw [hD]
        unfold ab_zY
        rw [sk, ab_do2, ss, sp']
        exact (ab_nwc yy).1
/-- behind a piece: an asking 26 or exactly 52 moments later -/
theorem ax_n52x {Z : ab_Z} {d : Nat → Nat → Nat} {N k z y : Nat} {lm : Nat} (h : ab_RL lm Z d N) (hL : ab_L Z N) (hl : ab_zl Z z y) (hk : k < N) (hg : ab_go Z k z y) (hE : ab_zn Z k + 52 < ab_zn Z N) (h6 : ab_zD Z (k + 1) 6 z y ≤ ab_zn Z k + 26) :
    (∃ s, k < s ∧ s < N ∧ ab_zn Z s = ab_zn Z k + 26 ∧ ab_ask Z s z y) ∨ (∃ s, k < s ∧ s < N ∧ ab_zn Z s = ab_zn Z k + 52 ∧ ab_ask Z s z y) := by
  have w0 : ax_wt Z (k + 1) z y (ab_zn Z k) 0 := ax_t0 h hk hg
  have hk0 := ab_nowm h (Nat.zero_le k) (by omega)
  -- between the urges nothing happens to the timers
  have six : ∀ i j, i ≤ j → j ≤ N → (∀ m, i ≤ m → m < j → ¬ (ab_zK Z m = 2 ∧ ab_zs Z m = z ∧ ab_zp Z m = y ∧ (ab_zD Z m 7 z y = 0 ∨ ab_zD Z m 8 z y + 26 ≤ ab_zn Z m))) → ab_zD Z j 6 z y = ab_zD Z i 6 z y := by
    intro i j
    induction j with
    | zero => intro h1 _ _; rw [show i = 0 by omega]
    | succ j ih =>
      intro h1 h2 h3
      by_cases e : i = j + 1
      · rw [e]
      · have I := ih (by omega) (by omega) (fun m m1 m2 => h3 m m1 (by omega))
        have hD := h.1 j (by omega)
        rcases ab_dt (u := ab_zu Z) (lv := ab_zl Z) (cf := ab_zc Z) (ac := ab_za Z) (k := ab_zK Z j) (a := ab_zs Z j) (b := ab_zp Z j) (i := z) (j := y) (x := ab_zX Z j) (D := ab_zD Z j) with q | ⟨k2, e1, e2, hl, hc, _⟩
        · rw [hD, ← I]; exact q.1
        · exfalso
          refine h3 j (by omega) (by omega) ⟨k2, e1.symm, e2.symm, ?_⟩
          rw [← e1, ← e2] at hc
          exact hc
  obtain ⟨m, hm, mn, mk, ms, mp, _⟩ := hL.2.1 (ab_zn Z k + 26) z y (by omega) (by omega) hl
  have hkm : k < m := by
    by_cases e : k < m
    · exact e
    · have := ab_nowm h (show m ≤ k by omega) (by omega)
      omega
  have wm0 : ∀ i, k + 1 ≤ i → i ≤ m → ax_wt Z i z y (ab_zn Z k) 0 := fun i i1 i2 => ax_wt1 h w0 i i1 (by omega) (fun j j1 j2 j3 j4 j5 => by
    have h1 := ab_nowm h (show j ≤ m by omega) (by omega)
    by_cases e : ab_zn Z j = ab_zn Z k + 26
    · have := hL.2.2 j m (by omega) hm j3 mk (by omega) (by rw [j4, ms]) (by rw [j5, mp])
      omega
    · omega)
  have wm := wm0 m (by omega) (Nat.le_refl _)
  have m6 : ab_zD Z m 6 z y = ab_zD Z (k + 1) 6 z y := six (k + 1) m (by omega) (by omega) (fun i i1 i2 ⟨j3, j4, j5, j6⟩ => by
    have w := wm0 i i1 (by omega)
    have h1 := ab_nowm h (show i ≤ m by omega) (by omega)
    rcases j6 with j6 | j6
    · rw [w.1] at j6; omega
    · rw [w.2.1] at j6
      have := hL.2.2 i m (by omega) hm j3 mk (by omega) (by rw [j4, ms]) (by rw [j5, mp])
      omega)
  by_cases hw : ab_hw (ab_zu Z) z y (ab_zD Z m)
  · have hD := h.1 m hm
    have sent : ax_wt Z (m + 1) z y (ab_zn Z k + 26) 1 ∧ ab_zD Z (m + 1) 6 z y = ab_zD Z m 6 z y := by
      unfold ax_wt
      rw [hD]
      unfold ab_zY
      rw [mk, ab_do2, ms, mp]
      rcases ab_uc (u := ab_zu Z) (lv := ab_zl Z) (cf := ab_zc Z) (a := z) (b := y) (D := ab_zD Z m) with ⟨_, e⟩ | ⟨_, _, ⟨q, _, _, q1, yy⟩ | ⟨e, yy⟩⟩
      · refine absurd ⟨hl, Or.inr ?_⟩ e
        rw [wm.2.1]
        show ab_zn Z k + 26 ≤ ab_zn Z m
        omega
      · rw [yy.2]
        have hq := q1 (by rw [wm.1]; decide)
        rw [wm.2.2] at hq
        refine ⟨⟨?_, ?_, ?_⟩, ?_⟩
        · show ab_w (ab_w (ab_w (ab_zD Z m) 9 z y q) 7 z y 1) 8 z y (ab_zD Z m 0 0 0) 7 z y = 1
          rw [ab_wf (by decide), ab_we]
        · show ab_w (ab_w (ab_w (ab_zD Z m) 9 z y q) 7 z y 1) 8 z y (ab_zD Z m 0 0 0) 8 z y = ab_zn Z k + 26
          rw [ab_we]
          exact mn
        · show ab_w (ab_w (ab_w (ab_zD Z m) 9 z y q) 7 z y 1) 8 z y (ab_zD Z m 0 0 0) 9 z y = 1
          rw [ab_wf (by decide), ab_wf (by decide), ab_we, hq]
        · show ab_w (ab_w (ab_w (ab_zD Z m) 9 z y q) 7 z y 1) 8 z y (ab_zD Z m 0 0 0) 6 z y = _
          rw [ab_wf (by decide), ab_wf (by decide), ab_wf (by decide)]
      · exfalso
        rcases e with e | ⟨_, e⟩
        · exact e hw
        · rw [wm.2.2] at e
          omega
    obtain ⟨wm1, m61⟩ := sent
    obtain ⟨m', hm', mn', mk', ms', mp', _⟩ := hL.2.1 (ab_zn Z k + 52) z y (by omega) (by omega) hl
    have hmm : m < m' := by
      by_cases e : m < m'
      · exact e
      · have := ab_nowm h (show m' ≤ m by omega) (by omega)
        omega
    have wm2 : ∀ i, m + 1 ≤ i → i ≤ m' → ax_wt Z i z y (ab_zn Z k + 26) 1 := fun i i1 i2 => ax_wt1 h wm1 i i1 (by omega) (fun j j1 j2 j3 j4 j5 => by
      have h1 := ab_nowm h (show j ≤ m' by omega) (by omega)
      by_cases e : ab_zn Z j = ab_zn Z k + 52
      · have := hL.2.2 j m' (by omega) hm' j3 mk' (by omega) (by rw [j4, ms']) (by rw [j5, mp'])
        omega
      · omega)
    have w2 := wm2 m' (by omega) (Nat.le_refl _)
    have m6' : ab_zD Z m' 6 z y = ab_zD Z (m + 1) 6 z y := six (m + 1) m' (by omega) (by omega) (fun i i1 i2 ⟨j3, j4, j5, j6⟩ => by
      have w := wm2 i i1 (by omega)
      have h1 := ab_nowm h (show i ≤ m' by omega) (by omega)
      rcases j6 with j6 | j6
      · rw [w.1] at j6; omega
      · rw [w.2.1] at j6
        have := hL.2.2 i m' (by omega) hm' j3 mk' (by omega) (by rw [j4, ms']) (by rw [j5, mp'])
        omega)
    exact Or.inr ⟨m', by omega, hm', mn', ax_uask h hl hm' mk' ms' mp' (Or.inr (by rw [w2.2.1]; omega)) (by omega) (Or.inr ⟨by rw [w2.1]; omega, by rw [w2.2.2]; omega⟩)⟩
  · exact Or.inl ⟨m, hkm, hm, mn, ax_uask h hl hm mk ms mp (Or.inr (by rw [wm.2.1]; omega)) (by omega) (Or.inl hw)⟩
/-! ## bad attempts one behind the other, z the goal of one station: the TELL is older and older -/
/-- z asked 24 moments before -/
def ax_F (Z : ab_Z) (N z y b0 : Nat) : Prop := ∃ b, b < N ∧ ab_ask Z b z y ∧ ab_zn Z b + 24 = ab_zn Z b0
/-- a way that z learns: the TELL behind it, which is young -/
theorem ax_zq {Z : ab_Z} {d : Nat → Nat → Nat} {N x y z u nb t0 q : Nat} (hW : ax_W Z d N) (h0 : ab_t0 Z N) (hU : ax_U Z N) (hd : d x y = 1) (hy : ∀ q, ¬ ab_zl Z y q) (hz : ∀ q, ab_zl Z q y → q = x ∨ q = z) (hu : ∀ q, ab_zl Z q z → q = u) (hyu : y ≠ u) (hdu : 2 ≤ d z u) (hzx : z ≠ x) (hb0 : ab_zD Z 0 4 y 0 < nb) (hbn : ab_bn Z N y nb t0) (ht0 : ab_zn Z 0 + 27 ≤ t0)
    (hq : q < N) (hk : ab_zK Z q = 1) (hs : ab_zs Z q = z) (h4 : ab_zX Z q 4 = y) (h3 : ab_zX Z q 3 ≤ 1) (hn : nb ≤ ab_zX Z q 6) :
    ∃ j a r, j < N ∧ ab_tb Z d j a y z ∧ ax_fr Z N j y z r (ab_zX Z q) ∧ ab_zn Z q = ab_zn Z a + d z y + ab_zX Z q 7 + 1 ∧ ab_zn Z q ≤ ab_zn Z a + 25 ∧ ab_zD Z j 4 y 0 + 1 = ab_zX Z q 6 ∧ ab_zn Z j = ab_zn Z a + d z y := by
  have h := hW.1
  obtain ⟨_, _, _, _, _, _, y1, _⟩ := ax_hT hW hy hq hk h4 h3 hb0 hbn (by omega) hn
  obtain ⟨j, a, zq, r, c1, c2, c3, c4, c5, c6, c7, c8, c9, c10, c11, c12⟩ := ax_hT1 hW hq hk h4 y1.2.2.1 hb0 hbn (by omega) hn
  have hzq : zq = z := by
    rcases hz zq c2.2.1.2.2.1 with e | e
    · exfalso
      rw [e] at c2 c4
      have := (ax_dirT hW c1 c2 hd r c4.1 _ c4.2.1 c4.2.2.1 c4.2.2.2.1 c4.2.2.2.2.1 c4.2.2.2.2.2.1 c4.2.2.2.2.2.2).2
      rw [c5, hs] at this
      exact hzx this
    · exact e
  rw [hzq] at c2 c4
  have jd := c2.2.2.2.2.2.2.2.2.1
  have d7 := c2.2.2.2.2.2.2.2.2.2.1
  obtain ⟨l1, l2, l3, l4⟩ := ax_life2 hW h0 hU hu hdu c1 c2 (by omega) _ r _ c4 rfl
  exact ⟨j, a, r, c1, c2, c4, by omega, by omega, c12, jd⟩
theorem ax_bad4 {Z : ab_Z} {d : Nat → Nat → Nat} {N a a2 x y z u nb t0 m j az r m' j' az' r' : Nat} (hW : ax_W Z d N) (h0 : ab_t0 Z N) (hU : ax_U Z N) (hd : d x y = 1) (ha2N : a2 < N) (ha : ab_ask Z a x y) (haa : a < a2) (hT : ab_zn Z a2 = ab_zn Z m + 52) (hN : ab_zn Z a + 62 ≤ ab_zn Z N)
    (hy : ∀ q, ¬ ab_zl Z y q) (hz : ∀ q, ab_zl Z q y → q = x ∨ q = z) (hu : ∀ q, ab_zl Z q z → q = u) (hyu : y ≠ u) (hdu : 2 ≤ d z u) (hzx : z ≠ x) (hb0 : ab_zD Z 0 4 y 0 < nb) (hbn : ab_bn Z N y nb t0) (ht0 : ab_zn Z 0 + 27 ≤ t0)
    (hrz : ∀ i, az < i → i ≤ N → ab_zD Z i 1 z y ≠ 8 → nb ≤ ab_zD Z i 3 z y)
    (m1 : m < N) (m2 : ab_zK Z m = 1) (m3 : ab_zs Z m = x) (m4 : ab_zn Z a < ab_zn Z m) (m5 : ab_zn Z m ≤ ab_zn Z a + 2) (m6 : j < N) (m7 : ab_tb Z d j az y z) (m8 : ax_fr Z N j y z r (ab_zX Z m)) (m9 : ab_zn Z m = ab_zn Z j + ab_zX Z m 7 + 1) (m10 : 1 ≤ ab_zX Z m 7) (m11 : ab_zn Z 0 + 20 ≤ ab_zn Z az)
    (n1 : m' < N) (n2 : ab_zK Z m' = 1) (n3 : ab_zs Z m' = x) (n4 : ab_zn Z a2 < ab_zn Z m') (n5 : ab_zn Z m' ≤ ab_zn Z a2 + 2) (n6 : j' < N) (n7 : ab_tb Z d j' az' y z) (n8 : ax_fr Z N j' y z r' (ab_zX Z m')) (n9 : ab_zn Z m' = ab_zn Z j' + ab_zX Z m' 7 + 1) (n10 : 1 ≤ ab_zX Z m' 7) (n11 : ab_zn Z 0 + 20 ≤ ab_zn Z az') :
    ab_zX Z m 7 + ab_if (ax_F Z N z y az) 0 3 + 2 ≤ ab_zX Z m' 7 + ab_if (ax_F Z N z y az') 0 3 := by
  have hW' := hW
  obtain ⟨h, hL, hG, hl8, hq⟩ := hW'
  obtain ⟨hzy, z8, y8⟩ := hl8 _ _ m7.2.1.2.2.1
  have hlz := m7.2.1.2.2.1
  have jd := m7.2.2.2.2.2.2.2.2.1
  have d7 := m7.2.2.2.2.2.2.2.2.2.1
  have jd' := n7.2.2.2.2.2.2.2.2.1
  have azj := m7.1
  have azN : az < N := by omega
  have az'N : az' < N := by have := n7.1; omega
  have d2 : 2 ≤ d z y := by
    have d1 : 1 ≤ d z y := ax_d1 hW hzy
    by_cases e : d z y = 1
    · have := (ax_dirT hW m6 m7 e r m8.1 _ m8.2.1 m8.2.2.1 m8.2.2.2.1 m8.2.2.2.2.1 m8.2.2.2.2.2.1 m8.2.2.2.2.2.2).1
      omega
    · omega
  have lxy : d z y ≤ d z x + 1 := by
    obtain ⟨p, hp1, hp2⟩ := hG.2.2.2.2.1 x y (by omega) (by omega)
    have : p = x := (hG.2.2.2.1 x p (by omega)).symm
    rw [this] at hp1
    exact hG.2.1 z x y hp1
  have X17 : ab_zX Z m 7 ≤ 17 := by
    obtain ⟨l1, l2, l3, l4⟩ := ax_life2 hW h0 hU hu hdu m6 m7 m11 _ r _ m8 rfl
    have e2 : ab_zX Z m 2 = ab_zs Z m := (h.2.2.2.2.2.1 m m1 m2).2.2.1
    rw [e2, m3] at l3
    omega
  have X17' : ab_zX Z m' 7 ≤ 17 := by
    obtain ⟨l1, l2, l3, l4⟩ := ax_life2 hW h0 hU hu hdu n6 n7 n11 _ r' _ n8 rfl
    have e2 : ab_zX Z m' 2 = ab_zs Z m' := (h.2.2.2.2.2.1 m' n1 n2).2.2.1
    rw [e2, n3] at l3
    omega
  have azz : az < az' := by
    by_cases e : az < az'
    · exact e
    · have := ab_nowm h (show az' ≤ az by omega) (by omega)
      omega
  have spz := ab_sp h azz az'N m7.2.1 n7.2.1
  have hn0 := ab_nowm h (Nat.zero_le az) (by omega)
  have f3 : ab_if (ax_F Z N z y az) 0 3 ≤ 3 := by
    by_cases e : ax_F Z N z y az
    · rw [ab_ip e]; omega
    · rw [ab_in e]; omega
  -- askings and pieces in order
  have ord : ∀ k b, k < N → b < N → ab_zn Z k < ab_zn Z b → k < b := by
    intro k b hk hb e
    by_cases e1 : k < b
    · exact e1
    · have := ab_nowm h (show b ≤ k by omega) (by omega)
      omega
  have kneb : ∀ k b, k < N → b < N → ab_go Z k z y → ab_ask Z b z y → ab_zn Z k = ab_zn Z b → False := by
    intro k b hk hb hg hab e
    have := hL.2.2 k b hk hb hg.1 hab.2.2.2.1 e (by rw [hg.2.1, hab.1]) (by rw [hg.2.2.1, hab.2.1])
    rw [this] at hg
    have h7 := hab.2.2.2.2.2.1
    have := (ax_t0 h hb hg).1
    omega
  -- the timer of z
  have tim : ∀ k i, az < k → k < N → ab_go Z k z y → (∀ b, k < b → b < i → b < N → ab_ask Z b z y → ab_zn Z k + 26 ≤ ab_zn Z b) → i < N → k < i → ab_zn Z i ≤ ab_zn Z k + 26 → ab_zn Z k ≤ ab_zn Z az + 51 → (∀ b, k < b → b < i → ab_ask Z b z y → False) → ab_zD Z i 6 z y ≤ ab_zn Z k + 24 := by
    intro k i hak hkN hg _ hiN hki hit hkt hnb
    rcases ab_la (a := z) (b := y) h i (by omega) with e | ⟨b, b1, b2, b3⟩
    · have := (h0.1 z y).1
      have := ab_nowm h (show az ≤ k by omega) (by omega)
      omega
    · by_cases e : k < b
      · exact absurd b2 (fun q => hnb b e b1 q)
      · have := ab_nowm h (show b ≤ k by omega) (by omega)
        omega
  have nobf : ∀ k i, k < N → ab_go Z k z y → i < N → ab_zK Z i = 2 → ab_zs Z i = z → ab_zp Z i = y → ab_zn Z i ≤ ab_zn Z k + 26 → ∀ b, k < b → b < i → ab_ask Z b z y → False := by
    intro k i hkN hg hiN ik is ip hit b hb1 hb2 hab
    have n26 := ax_n26 h hkN hg hb1 (by omega) hab
    have := ab_nowm h (show b ≤ i by omega) (by omega)
    have := hL.2.2 b i (by omega) hiN hab.2.2.2.1 ik (by omega) (by rw [hab.1, is]) (by rw [hab.2.1, ip])
    omega
  have n26e : ∀ k b, az < k → k < N → ab_zn Z k ≤ ab_zn Z az + 51 → ab_zn Z k + 26 < ab_zn Z N → ab_go Z k z y → k < b → b < N → ab_ask Z b z y → ab_zn Z b = ab_zn Z k + 26 ∨ ab_zn Z k + 50 ≤ ab_zn Z b := by
    intro k b hak hkN hkt hE hg hkb hbN hab
    refine ax_n26e h hL hlz hkN hg hkb hbN hab hE (fun i hi hiN hit hk2 hs2 hp2 => ?_)
    have := tim k i hak hkN hg (fun b' b1 _ b3 b4 => ax_n26 h hkN hg b1 b3 b4) hiN hi (by omega) hkt (nobf k i hkN hg hiN hk2 hs2 hp2 (by omega))
    omega
  -- a way that is learned behind the TELL's asking
  have lrn : ∀ s k, az ≤ s → s < k → k < N → ab_zD Z (s + 1) 1 z y = 8 → ab_go Z k z y → ∃ q jq aq rq, s < q ∧ q < k ∧ ab_zK Z q = 1 ∧ ab_zs Z q = z ∧ jq < N ∧ ab_tb Z d jq aq y z ∧ ax_fr Z N jq y z rq (ab_zX Z q) ∧ ab_zn Z q = ab_zn Z aq + d z y + ab_zX Z q 7 + 1 ∧ ab_zn Z q ≤ ab_zn Z aq + 25 ∧ ab_zD Z jq 4 y 0 + 1 = ab_zX Z q 6 ∧ ab_zn Z jq = ab_zn Z aq + d z y ∧ ab_zD Z k 3 z y = ab_zX Z q 6 := by
    intro s k has hsk hkN h8 hg
    obtain ⟨q, q1, q2, q3, q4, q5, q6, q7, q8⟩ := ax_ll h h8 k (by omega) (by omega) hg.2.2.2.1
    have hnq := hrz k (by omega) (by omega) hg.2.2.2.1
    obtain ⟨jq, aq, rq, c1, c2, c3, c4, c5, c6, c7⟩ := ax_zq hW h0 hU hd hy hz hu hyu hdu hzx hb0 hbn ht0 (show q < N by omega) q3 q4 q5 (by rcases q6 with ⟨s, _⟩ | s <;> omega) (by omega)
    exact ⟨q, jq, aq, rq, by omega, q2, q3, q4, c1, c2, c3, c4, c5, c6, c7, q8⟩
  -- asked again, and the way comes by that asking: it stays too long
  have pers : ∀ s k q jq aq rq, az < s → s < N → ab_ask Z s z y → ab_zn Z az + 24 ≤ ab_zn Z s → ab_zn Z s ≤ ab_zn Z az + 27 → s < k → k < N → ab_zn Z s < ab_zn Z k → ab_zn Z k ≤ ab_zn Z s + 24 → ab_go Z k z y → s < q → q < k → jq < N → ab_tb Z d jq aq y z → ax_fr Z N jq y z rq (ab_zX Z q) → ab_zn Z q = ab_zn Z aq + d z y + ab_zX Z q 7 + 1 → ab_zn Z q ≤ ab_zn Z aq + 25 → ab_zD Z jq 4 y 0 + 1 = ab_zX Z q 6 → ab_zn Z jq = ab_zn Z aq + d z y → ab_zD Z k 3 z y = ab_zX Z q 6 → ab_zn Z az + 26 ≤ ab_zn Z q → k < az' → False := by
    intro s k q jq aq rq has hsN hsa s24 s27 hsk hkN hskn hks hg hsq hqk c1 c2 c3 c4 c5 c6 c7 q8 hq26 hka
    have hqk' := ab_nowm h (show q ≤ k by omega) (by omega)
    have aqN : aq < N := by have := c2.1; omega
    have haq : az < aq := by
      by_cases e : az < aq
      · exact e
      · have := ab_nowm h (show aq ≤ az by omega) (by omega)
        omega
    have sp1 := ab_sp h haq aqN m7.2.1 c2.2.1
    have aqs : aq = s := by
      rcases Nat.lt_trichotomy aq s with e | e | e
      · have := ab_sp h e hsN c2.2.1 hsa
        omega
      · exact e
      · have := ab_sp h e aqN hsa c2.2.1
        omega
    rw [aqs] at c7
    have w10 : ab_zD Z 0 4 y 0 < ab_zX Z q 6 := by
      have := ab_ownm (c := y) h (Nat.zero_le jq) (by omega)
      omega
    have hajq : a < jq := ord a jq (by omega) c1 (by omega)
    have hsjq : s < jq := ord s jq hsN c1 (by omega)
    have nv1 : ∀ jj q', jj < N → ab_zn Z jj < ab_zn Z a + 53 → ab_zn Z jj ≤ ab_zn Z s + 52 → ab_vv Z jj q' y → ab_zD Z jj 3 q' y < ab_zX Z q 6 := by
      intro jj q' hjj hjt hjs hv
      by_cases e : jj ≤ jq
      · have s1 := (ab_san h jj (by omega)).1 q' y
        have s2 := ab_ownm (c := y) h e (by omega)
        omega
      · rcases hz q' hv.2.2.2.2 with e1 | e1
        · rw [e1] at hv
          have := ab_vsp h hL h0 (show a < jj by omega) hjj hv ha
          omega
        · rw [e1] at hv
          have := ab_vsp h hL h0 (show s < jj by omega) hjj hv hsa
          omega
    have n26 := ax_n26 h hkN hg hka az'N n7.2.1
    by_cases e53 : ab_zn Z k + 26 < ab_zn Z a + 53
    · have n52 := ax_n52 h hL hlz hkN hg hka az'N n7.2.1 (by omega) (fun i hi hin => by
        have hki := ord k i hkN hi (by omega)
        have hni : ab_zX Z q 6 ≤ ab_zD Z i 3 z y := by
          have := ab_nrm (v := z) (c := y) h (show k ≤ i by omega) (by omega)
          omega
        have h8' := ax_pres h w10 i (by omega) (fun jj q' hjj hv => nv1 jj q' (by omega) (by
          have := ab_nowm h (show jj ≤ i by omega) (by omega)
          omega) (by
          have := ab_nowm h (show jj ≤ i by omega) (by omega)
          omega) hv) z hzy hni
        obtain ⟨_, _, _, _, _, _, _, hpp'⟩ := ab_wcI h i (by omega) z y (by omega)
        exact ⟨h8', (hpp' h8').1⟩)
      omega
    · omega
  by_cases G1 : ∃ k, az < k ∧ k < N ∧ ab_zn Z k = ab_zn Z az + 1 ∧ ab_go Z k z y
  · obtain ⟨k, k1, k2, k3, hg⟩ := G1
    obtain ⟨q, jq, aq, rq, q1, q2, q3, q4, c1, c2, c3, c4, c5, c6, c7, q8⟩ := lrn az k (Nat.le_refl _) k1 k2 m7.2.1.2.2.2.2.1 hg
    have hqk := ab_nowm h (show q ≤ k by omega) (by omega)
    have hqa := ab_nowm h (show az ≤ q by omega) (by omega)
    have hqa1 : ab_zn Z az < ab_zn Z q := ab_urg h hL h0 (show q < N by omega) (show az < q by omega) q3 m7.2.1.2.2.2.1 (by rw [m7.2.1.1, m7.2.1.2.1]; exact hlz) (by omega)
    have aqN : aq < N := by have := c2.1; omega
    have haq : aq < az := by
      rcases Nat.lt_trichotomy aq az with e | e | e
      · exact e
      · rw [e] at c4; omega
      · have := ab_sp h e aqN m7.2.1 c2.2.1
        omega
    have sp1 := ab_sp h haq azN c2.2.1 m7.2.1
    have hF : ax_F Z N z y az := ⟨aq, aqN, c2.2.1, by omega⟩
    rw [ab_ip hF]
    have ka' : k < az' := ord k az' k2 az'N (by omega)
    have no : ∀ b, b < N → ab_ask Z b z y → ab_zn Z az + 27 < ab_zn Z b → ab_zn Z b < ab_zn Z az + 51 → False := by
      intro b hb hab b1 b2
      rcases n26e k b k1 k2 (by omega) (by omega) hg (ord k b k2 hb (by omega)) hb hab with e | e <;> omega
    rcases n26e k az' k1 k2 (by omega) (by omega) hg ka' az'N n7.2.1 with e | e
    · omega
    · by_cases e54 : ab_zn Z az' ≤ ab_zn Z az + 53
      · by_cases e51 : ab_zn Z az' = ab_zn Z az + 51
        · omega
        · have nF : ¬ ax_F Z N z y az' := fun ⟨b, b1, b2, b3⟩ => no b b1 b2 (by omega) (by omega)
          rw [ab_in nF]
          omega
      · exfalso
        have h61 : ab_zD Z (k + 1) 6 z y ≤ ab_zn Z k + 26 := by
          have hk1 : ab_zn Z (k + 1) = ab_zn Z k := by rw [ab_now1 h k2, if_neg (by rw [hg.1]; omega)]
          rcases ab_la (a := z) (b := y) h (k + 1) (by omega) with e | ⟨b, b1, b2, b3⟩
          · have := (h0.1 z y).1
            omega
          · have := ab_nowm h (show b ≤ k by omega) (by omega)
            omega
        rcases ax_n52x h hL hlz k2 hg (by omega) h61 with ⟨s, s1, s2, s3, s4⟩ | ⟨s, s1, s2, s3, s4⟩
        · have hs' : s < az' := ord s az' s2 az'N (by omega)
          rcases ax_gon h hL s2 s4 (by omega) with ⟨kk, g1, g2, g3, g4, g5⟩ | ⟨s'', g1, g2, g3, g4⟩
          · obtain ⟨q', jq', aq', rq', p1, p2, p3, p4, w1, w2, w3, w4, w5, w6, w7, p8⟩ := lrn s kk (by omega) g1 g2 s4.2.2.2.2.1 g5
            have hq's : ab_zn Z s < ab_zn Z q' := by
              have hqk' := ab_nowm h (show q' ≤ kk by omega) (by omega)
              exact ab_urg h hL h0 (show q' < N by omega) (show s < q' by omega) p3 s4.2.2.2.1 (by rw [s4.1, s4.2.1]; exact hlz) (by omega)
            have kka : kk < az' := by
              rcases Nat.lt_trichotomy kk az' with e | e | e
              · exact e
              · exact (kneb kk az' g2 az'N g5 n7.2.1 (by rw [e])).elim
              · exfalso
                have := ab_sp h hs' az'N s4 n7.2.1
                have := ab_nowm h (show az' ≤ kk by omega) (by omega)
                exact kneb kk az' g2 az'N g5 n7.2.1 (by omega)
            exact pers s kk q' jq' aq' rq' (by omega) s2 s4 (by omega) (by omega) g1 g2 g3 g4 g5 p1 p2 w1 w2 w3 w4 w5 w6 w7 p8 (by omega) kka
          · have hs2 : s'' < az' := ord s'' az' g2 az'N (by omega)
            have := ab_sp h hs2 az'N g4 n7.2.1
            omega
        · have hs' : s < az' := ord s az' s2 az'N (by omega)
          have := ab_sp h hs' az'N s4 n7.2.1
          omega
  · rcases ax_g1 h hL azN m7.2.1 (by omega) with ⟨k, k1, k2, k3, k4⟩ | ⟨s0, t1, t2, t3, t4, t5⟩
    · exact absurd ⟨k, k1, k2, k3, k4⟩ G1
    rcases ax_gon h hL azN m7.2.1 (by omega) with ⟨kz, g1, g2, g3, g4, g5⟩ | ⟨s', g1, g2, g3, g4⟩
    · have hkz2 : ab_zn Z az + 2 ≤ ab_zn Z kz := by
        by_cases e : ab_zn Z kz = ab_zn Z az + 1
        · exact absurd ⟨kz, g1, g2, e, g5⟩ G1
        · omega
      have hs0k : s0 < kz := ord s0 kz t2 g2 (by omega)
      obtain ⟨q, jq, aq, rq, q1, q2, q3, q4, c1, c2, c3, c4, c5, c6, c7, q8⟩ := lrn s0 kz (by omega) hs0k g2 t4 g5
      have hqk := ab_nowm h (show q ≤ kz by omega) (by omega)
      have hqs := ab_nowm h (show s0 ≤ q by omega) (by omega)
      have hq2 : ab_zn Z az + 2 ≤ ab_zn Z q := by
        by_cases e : ab_zn Z q = ab_zn Z az + 1
        · have := t5 q (by omega) e q3
          omega
        · omega
      have aqN : aq < N := by have := c2.1; omega
      have aqz : aq = az := by
        rcases Nat.lt_trichotomy aq az with e | e | e
        · have := ab_sp h e azN c2.2.1 m7.2.1
          omega
        · exact e
        · have := ab_sp h e aqN m7.2.1 c2.2.1
          omega
      have jqj : jq = j := ab_tone h c1 m6 c2 m7 (by rw [aqz] at c7; omega) (by rw [aqz] at c7; omega)
      rw [jqj] at c3
      have en := ax_end hW hU m6 m7 (show q < N by omega) q3 q4 c3 r _ m8
      have late : ab_zn Z m + 1 ≤ ab_zn Z kz := by
        by_cases e : ab_zX Z m 7 = ab_zX Z q 7
        · exfalso
          obtain ⟨_, ee⟩ := ax_uq hW hU m6 m7 (ab_zX Z q 7) r rq _ _ m8 c3 e rfl
          have := hU m q m1 (by omega) m2 q3 m8.2.2.1 (ax_frn m8) ee
          rw [this, q4] at m3
          exact hzx m3
        · rw [aqz] at c4
          omega
      have ka' : kz < az' := by
        rcases Nat.lt_trichotomy kz az' with e | e | e
        · exact e
        · exact (kneb kz az' g2 az'N g5 n7.2.1 (by rw [e])).elim
        · exfalso
          have := ab_nowm h (show az' ≤ kz by omega) (by omega)
          exact kneb kz az' g2 az'N g5 n7.2.1 (by omega)
      rcases n26e kz az' (by omega) g2 (by omega) (by omega) g5 ka' az'N n7.2.1 with e | e
      · have nF : ¬ ax_F Z N z y az' := fun ⟨b, b1, b2, b3⟩ => by
          have hkb := ord kz b g2 b1 (by omega)
          have := ax_n26 h g2 g5 hkb b1 b2
          omega
        rw [ab_in nF]
        omega
      · omega
    · have hle : s' ≤ az' := by
        by_cases e : s' ≤ az'
        · exact e
        · have := ab_sp h (show az' < s' by omega) g2 n7.2.1 g4
          omega
      by_cases e : s' = az'
      · rw [← e] at jd'
        omega
      · have hs' : s' < az' := by omega
        have sp3 := ab_sp h hs' az'N g4 n7.2.1
        by_cases G2 : ∃ k, s' < k ∧ k < N ∧ ab_zn Z k = ab_zn Z s' + 1 ∧ ab_go Z k z y
        · obtain ⟨k, k1, k2, k3, hg⟩ := G2
          have ka' : k < az' := ord k az' k2 az'N (by omega)
          rcases n26e k az' (by omega) k2 (by omega) (by omega) hg ka' az'N n7.2.1 with e | e
          · have nF : ¬ ax_F Z N z y az' := fun ⟨b, b1, b2, b3⟩ => by
              have hkb := ord k b k2 b1 (by omega)
              have := ax_n26 h k2 hg hkb b1 b2
              omega
            rw [ab_in nF]
            omega
          · omega
        · rcases ax_g1 h hL g2 g4 (by omega) with ⟨k, k1, k2, k3, k4⟩ | ⟨s1, t1', t2', t3', t4', t5'⟩
          · exact absurd ⟨k, k1, k2, k3, k4⟩ G2
          rcases ax_gon h hL g2 g4 (by omega) with ⟨kk, o1, o2, o3, o4, o5⟩ | ⟨s'', o1, o2, o3, o4⟩
          · exfalso
            have hkk2 : ab_zn Z s' + 2 ≤ ab_zn Z kk := by
              by_cases e : ab_zn Z kk = ab_zn Z s' + 1
              · exact absurd ⟨kk, o1, o2, e, o5⟩ G2
              · omega
            have hs1k : s1 < kk := ord s1 kk t2' o2 (by omega)
            obtain ⟨q', jq', aq', rq', p1, p2, p3, p4, w1, w2, w3, w4, w5, w6, w7, p8⟩ := lrn s1 kk (by omega) hs1k o2 t4' o5
            have hqs := ab_nowm h (show s1 ≤ q' by omega) (by omega)
            have hq2 : ab_zn Z s' + 2 ≤ ab_zn Z q' := by
              by_cases e : ab_zn Z q' = ab_zn Z s' + 1
              · have := t5' q' (by omega) e p3
                omega
              · omega
            have kka : kk < az' := by
              rcases Nat.lt_trichotomy kk az' with e | e | e
              · exact e
              · exact (kneb kk az' o2 az'N o5 n7.2.1 (by rw [e])).elim
              · exfalso
                have := ab_nowm h (show az' ≤ kk by omega) (by omega)
                exact kneb kk az' o2 az'N o5 n7.2.1 (by omega)
            exact pers s' kk q' jq' aq' rq' (by omega) g2 g4 (by omega) (by omega) o1 o2 o3 o4 o5 (by omega) p2 w1 w2 w3 w4 w5 w6 w7 p8 (by omega) kka
          · by_cases e48 : s'' = az'
            · rw [← e48] at jd'
              omega
            · have hle2 : s'' < az' := by
                by_cases e : s'' < az'
                · exact e
                · have := ab_sp h (show az' < s'' by omega) o2 n7.2.1 o4
                  omega
              have := ab_sp h hle2 az'N o4 n7.2.1
              omega
