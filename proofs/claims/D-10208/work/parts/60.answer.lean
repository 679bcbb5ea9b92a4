/-! ## a neighbour of w that sends every TELL to w straight on -/
theorem ax_dirn {Z : ab_Z} {d : Nat → Nat → Nat} {N x y w v0 jj aw : Nat} (hW : ax_W Z d N) (h0 : ab_t0 Z N) (hU : ax_U Z N) (hv0 : ∀ q, ab_zl Z q w → q = v0) (hdw : 3 ≤ d w x) (hd : d x y = 1) (hj : jj < N) (ht : ab_tb Z d jj aw x w) (h20 : ab_zn Z 0 + 20 ≤ ab_zn Z aw) :
    ∃ nb0, nb0 < 8 ∧ ab_zu Z nb0 w ∧ nb0 ≠ y ∧ nb0 ≠ x ∧ ∀ r f, ax_fr Z N jj x w r f → ab_zn Z r ≤ ab_zn Z aw + 24 → f 1 = nb0 → f 2 = w := by
  have hW' := hW
  obtain ⟨h, hL, hG, hl8, hq⟩ := hW'
  have hl : ∀ a b, ab_zl Z a b → a ≠ b := fun a b z => (hl8 a b z).1
  obtain ⟨hwx, w8, x8⟩ := hl8 _ _ ht.2.1.2.2.1
  have awN : aw < N := by have := ht.1; omega
  have haw := ht.2.1
  obtain ⟨q1, q2, q3⟩ := ab_qf h awN haw
  have hbq : ab_bn Z N w (ab_zD Z (aw + 1) 4 w 0) (ab_zn Z aw) := ⟨aw, awN, rfl, by omega, Nat.le_refl _⟩
  have d7 := ht.2.2.2.2.2.2.2.2.2.1
  have sy := hG.2.2.1
  have far : ∀ s, ab_zu Z s w → d w s ≤ 1 := by
    intro s hs
    have := hG.2.1 w w s (h.2.1 _ _ hs).1
    rw [hG.1] at this
    exact this
  have dwy : 2 ≤ d w y := by
    obtain ⟨p, hp1, hp2⟩ := hG.2.2.2.2.1 x y (by omega) (by omega)
    have : p = x := (hG.2.2.2.1 x p (by omega)).symm
    rw [this] at hp1
    have := hG.2.1 w y x (h.2.1 _ _ hp1).1
    omega
  -- with one link left, or by a question, the next station is w
  have one : ∀ r f, ax_fr Z N jj x w r f → ab_zD Z (r + 1) 2 (f 1) w = 1 → f 2 = w := by
    intro r f hf e2
    obtain ⟨g2, gn, gz, gu, g0⟩ := ab_tnr h hl hj ht r hf.1 f hf.2.1 hf.2.2.1 hf.2.2.2.1 hf.2.2.2.2.1 hf.2.2.2.2.2.1 hf.2.2.2.2.2.2
    have h8 : ab_zD Z (r + 1) 1 (f 1) w ≠ 8 := by
      rw [← g2]
      have := (h.2.1 _ _ gu).2.2.1
      omega
    obtain ⟨_, _, _, _, _, _, _, hpp⟩ := ab_wcI h (r + 1) (by have := hf.1; omega) (f 1) w (by omega)
    obtain ⟨_, r2, _⟩ := hpp h8
    rw [← g2] at r2
    exact (hG.2.2.2.1 w _ (by omega)).symm
  have ques : ∀ r f b, ax_fr Z N jj x w r f → ab_zu Z (f 1) w → b < r + 1 → ab_zK Z b = 1 → ab_zX Z b 3 = 0 → ab_zX Z b 4 = w → ab_zX Z b 6 = ab_zD Z (r + 1) 3 (f 1) w → f 2 = w := by
    intro r f b hf hlk hb bk b3 b4 b6
    obtain ⟨g2, gn, gz, gu, g0⟩ := ab_tnr h hl hj ht r hf.1 f hf.2.1 hf.2.2.1 hf.2.2.2.1 hf.2.2.2.2.1 hf.2.2.2.2.2.1 hf.2.2.2.2.2.2
    have rN := hf.1
    have mr : ab_rc Z (ab_zX Z b) := ⟨by omega, Or.inl (by rw [b4]; omega)⟩
    obtain ⟨b', hb'm, hba, hb6, hb8, hbt'⟩ := ab_hask h (by omega) bk b3 mr
    rw [b4] at hba hb6
    have qx := ab_qx h hL (show b' < N by omega) hba (show r + 1 ≤ N by omega) (by rw [← b6, hb6]) (show ab_gd (ab_zu Z) (ab_zX Z b 5) w 1 (f 1) from ⟨w, rfl, (hl8 _ _ hba.2.2.1).1, (h.2.1 _ _ hlk).1⟩)
    obtain ⟨_, _, _, _, d1, _⟩ := ab_wcI h (r + 1) (by omega) (f 1) w (by omega)
    exact one r f hf (by omega)
  -- a way by a TELL of w: that TELL is the one of these moments
  have tell : ∀ r f b, ax_fr Z N jj x w r f → ab_zn Z r ≤ ab_zn Z aw + 24 → b < r + 1 → ab_zK Z b = 1 → ab_zX Z b 3 = 1 → ab_zX Z b 4 = w → ab_zX Z b 6 = ab_zD Z (r + 1) 3 (f 1) w →
      ∃ j2 a2 r2, j2 < N ∧ ab_tb Z d j2 a2 w v0 ∧ ab_zD Z (aw + 1) 4 w 0 ≤ ab_zD Z (j2 + 1) 4 w 0 ∧ ab_zD Z (r + 1) 3 (f 1) w = ab_zD Z (j2 + 1) 4 w 0 ∧ ab_zn Z aw ≤ ab_zn Z j2 ∧ ab_zn Z j2 ≤ ab_zn Z aw + 23 ∧ ax_fr Z N j2 w v0 r2 (ab_zX Z b) := by
    intro r f b hf hrt hb bk b3 b4 b6
    obtain ⟨g2, gn, gz, gu, g0⟩ := ab_tnr h hl hj ht r hf.1 f hf.2.1 hf.2.2.1 hf.2.2.2.1 hf.2.2.2.2.1 hf.2.2.2.2.2.1 hf.2.2.2.2.2.2
    have rN := hf.1
    obtain ⟨j2, a2, w2, r2, c1, c2, c3, c4, c5, c6, c7, c8, c9, c10, c11, c12⟩ := ax_hT1 hW (show b < N by omega) bk b4 b3 q2 hbq (by omega) (by omega)
    have w2v := hv0 w2 c2.2.1.2.2.1
    rw [w2v] at c2 c4
    obtain ⟨t', hb', _, ht', d1, _⟩ := ab_wcI h (r + 1) (by omega) (f 1) w (by omega)
    have bb : ab_bn Z N w (ab_zD Z (r + 1) 3 (f 1) w) (ab_zn Z j2) := ⟨j2, c1, rfl, by omega, by omega⟩
    have eb := ab_bnu h hb' bb
    have kr : ab_zK Z r = 1 := by
      by_cases e : f 7 = 0
      · rw [g0 e]; exact ht.2.2.1
      · exact (ax_prv hW hj ht hf e).1
    have hn1 : ab_zn Z (r + 1) = ab_zn Z r := by rw [ab_now1 h rN, if_neg (by omega)]
    exact ⟨j2, a2, r2, c1, c2, by omega, by omega, c10, by omega, c4⟩
  by_cases ex : ∃ j2 a2 f0, j2 < N ∧ ab_tb Z d j2 a2 w v0 ∧ ab_zD Z (aw + 1) 4 w 0 ≤ ab_zD Z (j2 + 1) 4 w 0 ∧ ab_zn Z aw ≤ ab_zn Z j2 ∧ ab_zn Z j2 ≤ ab_zn Z aw + 23 ∧ ax_fr Z N j2 w v0 j2 f0 ∧ f0 7 = 0
  · obtain ⟨j2, a2, f0, c1, c2, c3, c4, c5, c6, c7⟩ := ex
    have f01 : f0 1 = w := by
      have := (ab_d1 c6.2.1 (by have := c6.2.2.1; omega)).2.1
      rw [c2.2.2.2.1] at this
      exact this
    have f0u := (ab_d1 c6.2.1 (by have := c6.2.2.1; omega)).2.2.1
    have lk : ab_zu Z w (f0 2) := by
      obtain ⟨_, _, _, gu, _⟩ := ab_tnr h hl c1 c2 j2 c6.1 f0 c6.2.1 c6.2.2.1 c6.2.2.2.1 c6.2.2.2.2.1 c6.2.2.2.2.2.1 c6.2.2.2.2.2.2
      rw [f01] at gu
      exact gu
    have lk' := (h.2.1 _ _ lk)
    have d1 := far _ lk'.1
    refine ⟨f0 2, lk'.2.2.1, lk'.1, fun e => by rw [e] at d1; omega, fun e => by rw [e] at d1; omega, fun r f hf hrt hf1 => ?_⟩
    have rN := hf.1
    obtain ⟨g2, gn, gz, gu, g0⟩ := ab_tnr h hl hj ht r hf.1 f hf.2.1 hf.2.2.1 hf.2.2.2.1 hf.2.2.2.2.1 hf.2.2.2.2.2.1 hf.2.2.2.2.2.2
    obtain ⟨b, hbi, s1, s2, s3, s4, s5, s6, s7, s8⟩ := ab_srcI h (r + 1) (by omega) (f 1) w (by omega)
    rcases s3 with ⟨y30, _⟩ | y31
    · exact ques r f b hf (by rw [hf1]; exact lk'.1) hbi s1 y30 s4 s5
    · obtain ⟨j3, a3, r3, e1, e2, e3, e4, e5, e6, e7⟩ := tell r f b hf hrt hbi s1 y31 s4 s5
      have e32 : j3 = j2 := ab_tone h e1 c1 e2 c2 (by omega) (by omega)
      rw [e32] at e4
      -- heard straight from w
      have f00 : f0 0 = ab_zn Z j2 := (ab_d1 c6.2.1 (by have := c6.2.2.1; omega)).1
      have kr : ab_zK Z r = 1 := by
        by_cases e : f 7 = 0
        · rw [g0 e]; exact ht.2.2.1
        · exact (ax_prv hW hj ht hf e).1
      have hn1 : ab_zn Z (r + 1) = ab_zn Z r := by rw [ab_now1 h rN, if_neg (by omega)]
      have hnr : ax_nr Z w (ab_zD Z (aw + 1) 4 w 0) (r + 1) := ax_nrI hW h0 hv0 awN haw h20 (r + 1) (by omega) (by omega)
      obtain ⟨t', hb', _, ht', d1', _⟩ := ab_wcI h (r + 1) (by omega) (f 1) w (by omega)
      have gr := ax_tgrow h c2 c1
      have bb : ab_bn Z N w (ab_zD Z (r + 1) 3 (f 1) w) (ab_zn Z j2) := ⟨j2, c1, rfl, by omega, by omega⟩
      have eb := ab_bnu h hb' bb
      refine one r f hf ?_
      by_cases e2' : ab_zD Z (r + 1) 2 (f 1) w = 1
      · exact e2'
      · exfalso
        have hrN := ab_nowm h (show r ≤ N by omega) (Nat.le_refl _)
        obtain ⟨m1, hm1, hmN, k1, kx, kn, ks, kp⟩ := hL.1 j2 f0 c1 c6.2.1 (by omega)
        have b6 : ab_zX Z m1 6 = ab_zD Z (j2 + 1) 4 w 0 := by
          have := c6.2.2.2.2.1.2.2.2.1
          rw [c6.2.2.2.2.2.1] at this
          rw [kx, this]
        have hmr : m1 < r + 1 := by
          by_cases e : m1 < r + 1
          · exact e
          · have := ab_nowm h (show r + 1 ≤ m1 by omega) (by omega)
            omega
        have := ax_Hb hW q2 hmr (by omega) k1 (by rw [ks, ← hf1]; exact gz) (by rw [kx]; exact c6.2.2.1) (by rw [kx]; exact c6.2.2.2.2.2.1) (by omega) hnr (by rw [ks, ← hf1, b6]; exact e4)
        rw [ks, ← hf1, kx, c7] at this
        omega
  · obtain ⟨nb0, lk, dn⟩ := hG.2.2.2.2.1 x w (by have := sy x w; omega) (by have := sy x w; omega)
    have lk' := h.2.1 _ _ lk
    have d1 := far _ lk
    refine ⟨nb0, lk'.2.1, lk, fun e => by rw [e] at d1; omega, fun e => by rw [e] at d1; omega, fun r f hf hrt hf1 => ?_⟩
    have rN := hf.1
    obtain ⟨g2, gn, gz, gu, g0⟩ := ab_tnr h hl hj ht r hf.1 f hf.2.1 hf.2.2.1 hf.2.2.2.1 hf.2.2.2.2.1 hf.2.2.2.2.2.1 hf.2.2.2.2.2.2
    obtain ⟨b, hbi, s1, s2, s3, s4, s5, s6, s7, s8⟩ := ab_srcI h (r + 1) (by omega) (f 1) w (by omega)
    rcases s3 with ⟨y30, _⟩ | y31
    · exact ques r f b hf (by rw [hf1]; exact lk) hbi s1 y30 s4 s5
    · exfalso
      obtain ⟨j3, a3, r3, e1, e2, e3, e4, e5, e6, e7⟩ := tell r f b hf hrt hbi s1 y31 s4 s5
      obtain ⟨i', f', hf', e'⟩ := ax_dn hW e1 e2 (ab_zX Z b 7) r3 _ e7 (Nat.le_refl _)
      have f70 : f' 7 = 0 := by omega
      have ij := (ab_tnr h hl e1 e2 i' hf'.1 f' hf'.2.1 hf'.2.2.1 hf'.2.2.2.1 hf'.2.2.2.2.1 hf'.2.2.2.2.2.1 hf'.2.2.2.2.2.2).2.2.2.2 f70
      rw [ij] at hf'
      exact ex ⟨j3, a3, f', e1, e2, e3, e5, e6, hf', f70⟩
/-! ## the answer of the second try, x the goal of one station -/
/-- a way of one link is not lost -/
theorem ax_dl {Z : ab_Z} {d : Nat → Nat → Nat} {N c v n : Nat} (hW : ax_W Z d N) (hvc : v ≠ c) (hn0 : ab_zD Z 0 4 c 0 < n) (hl : ¬ ab_zl Z v c) : ∀ i, i ≤ N → n ≤ ab_zD Z i 3 v c → ab_zD Z i 2 v c = 1 → ab_zD Z i 1 v c = c := by
  have h := hW.1
  have hG := hW.2.2.1
  intro i
  induction i with
  | zero =>
    intro _ hn _
    have := h.2.2.2.2.1 v c
    omega
  | succ i ih =>
    intro hi hn h2
    have hi' : i < N := by omega
    have hD := h.1 i hi'
    have fin : ab_zD Z (i + 1) 1 v c ≠ 8 → ab_zD Z (i + 1) 1 v c = c := by
      intro h8
      obtain ⟨_, _, _, _, _, _, _, hp⟩ := ab_wcI h (i + 1) hi v c (by omega)
      obtain ⟨_, r2, _⟩ := hp h8
      exact (hG.2.2.2.1 c _ (by omega)).symm
    rcases ab_Ry h hi' v c with ⟨s1, s2, s3⟩ | ⟨hk, ev, ec, hs', hl', l1, l2, l3⟩ | ⟨ev, ⟨y0, y1, y2, y3, _⟩, y⟩
    · rw [← hD] at s1 s2 s3
      rw [s1]
      exact ih (by omega) (by omega) (by omega)
    · rw [← hD] at l1
      refine fin ?_
      rw [l1]
      have := (h.2.1 _ _ (h.2.2.2.2.2.1 i hi' hk).1).2.1
      omega
    · exfalso
      rw [← hD] at y2 y3
      have hc := ih (by omega) (by omega) (by omega)
      obtain ⟨_, _, _, _, _, _, _, hp⟩ := ab_wcI h i (by omega) v c (by omega)
      obtain ⟨p1, _, _⟩ := hp y0
      rcases y with y | ⟨k1, x3, x5, xv, xb, xn⟩ | ⟨k2, kc, kV, kl⟩
      · exact absurd p1 y
      · obtain ⟨hu, e1, e2, ho⟩ := h.2.2.2.2.2.1 i hi' k1
        rcases ho with ⟨⟨j, hj, ho⟩, e0⟩ | ho
        · obtain ⟨f1, f0, f8, f6⟩ := ab_d2 ho x3
          have hDj := h.1 j (by omega)
          have f6' : ab_zX Z i 6 = ab_zD Z (j + 1) 3 (ab_zs Z j) c := by rw [hDj, x5]; exact f6
          have ep : ab_zs Z j = c := by rw [← hc, xb, ← e1, f1]
          rw [ep] at f6'
          have := ab_self h c (j + 1) (by omega)
          omega
        · have := ho.1.2.1 x3
          rw [← x5] at this
          omega
      · exact hl kl
/-- walks can be turned round -/
theorem ax_gfr {u : Nat → Nat → Prop} {h : Nat} : ∀ k p c v, ab_gd u h p k c → u v p → v ≠ h → p ≠ h → ab_gd u h v (k + 1) c := by
  intro k
  induction k with
  | zero =>
    intro p c v hp hu hv _
    rw [show c = p from hp]
    exact ⟨v, rfl, hv, hu⟩
  | succ k ih =>
    intro p c v ⟨q, q1, q2, q3⟩ hu hv hp
    exact ⟨q, ih p q v q1 hu hv hp, q2, q3⟩
theorem ax_grev {u : Nat → Nat → Prop} {h : Nat} (hs : ∀ p q, u p q → u q p) : ∀ k c v, c ≠ h → v ≠ h → ab_gd u h c k v → ab_gd u h v k c := by
  intro k
  induction k with
  | zero => intro c v _ _ e; exact (show v = c from e).symm
  | succ k ih =>
    intro c v hc hv ⟨p, p1, p2, p3⟩
    exact ax_gfr k p c v (ih c p hc p2 p1) (hs p v p3) hv p2
theorem ax_AL {Z : ab_Z} {d : Nat → Nat → Nat} {N a x y w v0 p jT : Nat} (hW : ax_W Z d N) (h0 : ab_t0 Z N) (hU : ax_U Z N) (hnp : ab_np Z N) (hd : d x y = 1) (haN : a < N) (ha : ab_ask Z a x y) (ht : ab_zn Z 0 + 27 ≤ ab_zn Z a) (hN : ab_zn Z a + 46 ≤ ab_zn Z N)
    (hx : ∀ q, ab_zl Z q x → q = w) (hy : ∀ q, ¬ ab_zl Z y q) (hv0 : ∀ q, ab_zl Z q w → q = v0) (hdv : 2 ≤ d w v0) (hdw : 3 ≤ d w x)
    (pa : a < p) (p2 : p < N) (p3 : ab_zK Z p = 1) (p4 : ab_zs Z p = y) (p5 : ab_zX Z p 3 = 3) (p6 : ab_zX Z p 4 = x) (p7 : ab_zX Z p 5 = y) (p8 : ab_zX Z p 6 = ab_zc Z x y) (p9 : ab_zn Z a + 28 ≤ ab_zn Z p) (p10 : ab_zn Z p ≤ ab_zn Z a + 35) (hjT : jT < p) (o5 : ab_zD Z (a + 1) 4 x 0 ≤ ab_zD Z (jT + 1) 3 y x) :
    ((∃ b g, b < N ∧ ab_ask Z b x g ∧ d x g = 1 ∧ ab_zn Z p ≤ ab_zn Z b + 1 ∧ ab_zn Z b ≤ ab_zn Z p) ∧ ∃ s1 s2 s3, s1 < 8 ∧ s2 < 8 ∧ s3 < 8 ∧ s1 ≠ s2 ∧ s1 ≠ s3 ∧ s2 ≠ s3 ∧ 2 ≤ d x s1 ∧ 2 ≤ d x s2 ∧ 2 ≤ d x s3) ∨
    (∃ j1 a1 j2 a2, j1 < N ∧ j2 < N ∧ ab_tb Z d j1 a1 x w ∧ ab_tb Z d j2 a2 x w ∧ ab_zD Z (a + 1) 4 x 0 ≤ ab_zD Z (j1 + 1) 4 x 0 ∧ ab_zD Z (j1 + 1) 4 x 0 < ab_zD Z (j2 + 1) 4 x 0 ∧ ab_zn Z j2 ≤ ab_zn Z p + 5 ∧ ∃ k, ab_gd (ab_zu Z) y x k w) := by
  have hW' := hW
  obtain ⟨h, hL, hG, hl8, hq⟩ := hW'
  have hl : ∀ a b, ab_zl Z a b → a ≠ b := fun a b z => (hl8 a b z).1
  obtain ⟨hxy, x8, y8⟩ := hl8 _ _ ha.2.2.1
  obtain ⟨q1, q2, q3⟩ := ab_qf h haN ha
  have hbq : ab_bn Z N x (ab_zD Z (a + 1) 4 x 0) (ab_zn Z a) := ⟨a, haN, rfl, by omega, Nat.le_refl _⟩
  have hlink : ab_zu Z x y := by
    obtain ⟨p, hp1, hp2⟩ := hG.2.2.2.2.1 x y (by omega) (by omega)
    have : p = x := (hG.2.2.2.1 x p (by omega)).symm
    rw [this] at hp1
    exact hp1
  by_cases L0 : (∃ b g, b < N ∧ ab_ask Z b x g ∧ d x g = 1 ∧ ab_zn Z p ≤ ab_zn Z b + 1 ∧ ab_zn Z b ≤ ab_zn Z p) ∧ ∃ s1 s2 s3, s1 < 8 ∧ s2 < 8 ∧ s3 < 8 ∧ s1 ≠ s2 ∧ s1 ≠ s3 ∧ s2 ≠ s3 ∧ 2 ≤ d x s1 ∧ 2 ≤ d x s2 ∧ 2 ≤ d x s3
  · exact Or.inl L0
  by_cases L2 : ∃ j1 a1 j2 a2, j1 < N ∧ j2 < N ∧ ab_tb Z d j1 a1 x w ∧ ab_tb Z d j2 a2 x w ∧ ab_zD Z (a + 1) 4 x 0 ≤ ab_zD Z (j1 + 1) 4 x 0 ∧ ab_zD Z (j1 + 1) 4 x 0 < ab_zD Z (j2 + 1) 4 x 0 ∧ ab_zn Z j2 ≤ ab_zn Z p + 5 ∧ ∃ k, ab_gd (ab_zu Z) y x k w
  · exact Or.inr L2
  exfalso
  -- an answer that comes to x is news
  have hac := hnp.1 p p2 p3 p5 (by rw [p7, p4])
  rw [p6, p8, p4] at hac
  have hac2 : ab_za Z x y = ab_zc Z x y + 1 := by
    rcases hnp.2.2 x y ha.2.2.1 with z | z
    · exact absurd z.symm hac
    · exact z
  have news : ∀ f, f < N → ab_zK Z f = 1 → ab_zs Z f = x → ab_zX Z f 3 = 4 → ab_zX Z f 4 = y → ab_zX Z f 5 = x → ab_zX Z f 6 = ab_za Z x y → False := by
    intro f f2 f3 f4 f5 f6 f7 f8
    have := hnp.2.1 f f2 f3 f5 (by rw [f7, f4])
    rw [f4, f6, f8] at this
    exact this hac2
  have hny : ab_zD Z (a + 1) 4 x 0 ≤ ab_zD Z p 3 y x := Nat.le_trans o5 (ab_nrm h (by omega) (by omega))
  have send0 : ab_zD Z p 1 y x ≠ 8 → ab_zO Z p (ab_pt (ab_zn Z p) y (ab_zD Z p 1 y x) (ab_fr 4 y x (ab_za Z x y) 0 8)) := by
    intro h8
    obtain ⟨_, _, _, _, _, _, _, hpp⟩ := ab_wcI h p (by omega) y x (by omega)
    have v1 := (hpp h8).1
    unfold ab_zO ab_zY
    rw [p3, ab_do1, p4]
    have := ab_ano (u := ab_zu Z) (ac := ab_za Z) (s := y) (p := ab_zp Z p) (x := ab_zX Z p) (D := ab_zD Z p) p5 p7 (by rw [p6]; exact h8) (by rw [p6]; exact v1)
    rw [p6] at this
    exact this
  obtain ⟨b, hbp, s1, s2, s3, s4, s5, s6, s7, s8⟩ := ab_srcI h p (by omega) y x (by omega)
  have mrb : ab_rc Z (ab_zX Z b) := ⟨by rcases s3 with ⟨y, _⟩ | y <;> omega, Or.inl (by rw [s4]; omega)⟩
  rcases s3 with ⟨x30, _⟩ | x31
  · -- a question: the way is direct
    obtain ⟨b', hb'm, hba, hb6, hb8, hbt'⟩ := ab_hask h (by omega) s1 x30 mrb
    rw [s4] at hba hb6
    have g1 : ab_gd (ab_zu Z) (ab_zX Z b 5) x 1 y := ⟨x, rfl, (hl8 _ _ hba.2.2.1).1, hlink⟩
    have qx := ab_qx h hL (show b' < N by omega) hba (show p ≤ N by omega) (by rw [← s5, hb6]) g1
    have hc := ax_dl hW (fun e => hxy e.symm) q2 (hy x) p (by omega) hny (by omega)
    have so := send0 (by rw [hc]; omega)
    rw [hc] at so
    obtain ⟨f, fk, fN, f1, fx, fn, fs, fp⟩ := hL.1 p _ p2 so (by show ab_zn Z p + 2 ≤ _; omega)
    exact news f fN f1 fs (by rw [fx]; rfl) (by rw [fx]; rfl) (by rw [fx]; rfl) (by rw [fx]; rfl)
  · obtain ⟨jj, aw, w', r', c1, c2, c3, c4, c5, c6, c7, c8, c9, c10, c11, c12⟩ := ax_hT1 hW (show b < N by omega) s1 s4 x31 q2 hbq (by omega) (by omega)
    have ww := hx w' c2.2.1.2.2.1
    rw [ww] at c2 c4
    have jd := c2.2.2.2.2.2.2.2.2.1
    have d7 := c2.2.2.2.2.2.2.2.2.2.1
    obtain ⟨_, w8, _⟩ := hl8 _ _ c2.2.1.2.2.1
    have hjn : ab_zD Z (a + 1) 4 x 0 ≤ ab_zD Z (jj + 1) 4 x 0 := by omega
    have gr := ax_tgrow h c2 c1
    have haw : ab_zn Z 0 + 20 ≤ ab_zn Z aw := by omega
    obtain ⟨nb0, hnb, hbw, hby, hbx, hdir⟩ := ax_dirn hW h0 hU hv0 hdw hd c1 c2 haw
    have hwx : w ≠ x := (hl8 _ _ c2.2.1.2.2.1).1
    have hwy : w ≠ y := fun e => by
      rw [e] at hdw
      have := hG.2.2.1 y x
      omega
    have hx0 := ab_ownm (c := x) h (Nat.zero_le jj) (by omega)
    have hn0 : ab_zD Z 0 4 x 0 < ab_zD Z (jj + 1) 4 x 0 := by omega
    have hbj : ab_bn Z N x (ab_zD Z (jj + 1) 4 x 0) (ab_zn Z jj) := ⟨jj, c1, rfl, by omega, Nat.le_refl _⟩
    -- no V on x with such a number
    have nv : ∀ i, i ≤ N → ab_zn Z i ≤ ab_zn Z a + 44 → ax_nv Z x (ab_zD Z (jj + 1) 4 x 0) i := by
      intro i hi hin k q hk hv
      have hkt := ab_nowm h (show k ≤ i by omega) hi
      by_cases e : ab_zD Z k 3 q x < ab_zD Z (jj + 1) 4 x 0
      · exact e
      · exfalso
        have qw := hx q hv.2.2.2.2
        have s1 := (ab_san h k (by omega)).1 q x
        have hjk : jj < k := by
          by_cases e : jj < k
          · exact e
          · have := ab_ownm (c := x) h (show k ≤ jj by omega) (by omega)
            omega
        rw [qw] at hv
        have := ab_vsp h hL h0 (show aw < k by have := c2.1; omega) (by omega) hv c2.2.1
        omega
    have hnr : ∀ i, i ≤ N → ab_zn Z i ≤ ab_zn Z a + 40 → ax_nr Z x (ab_zD Z (a + 1) 4 x 0) i := fun i hi hin => ax_nrI hW h0 hx haN ha (by omega) i hi hin
    -- the trail up to y: at most five stations
    have hpn : ab_zD Z p 3 y x = ab_zD Z (jj + 1) 4 x 0 := by omega
    obtain ⟨t1, t2, t3, tb, tr, u1, u2, u3, u4, u5⟩ := ax_Hp (i := p) (p := y) hW haN ha (by omega) c1 c2 rfl hjn (by omega) (hnr p (by omega) (by omega)) hpn
    -- a walk from x to w round y
    by_cases one : ab_zD Z p 2 y x = 1
    · have hc := ax_dl hW (fun e => hxy e.symm) q2 (hy x) p (by omega) hny one
      have so := send0 (by rw [hc]; omega)
      rw [hc] at so
      obtain ⟨f, fk, fN, f1, fx, fn, fs, fp⟩ := hL.1 p _ p2 so (by show ab_zn Z p + 2 ≤ _; omega)
      exact news f fN f1 fs (by rw [fx]; rfl) (by rw [fx]; rfl) (by rw [fx]; rfl) (by rw [fx]; rfl)
    have hwalk : ∃ k, ab_gd (ab_zu Z) y x k w := by
      obtain ⟨i', f', hf', e'⟩ := ax_dn hW c1 c2 (ab_zX Z tb 7) tr _ u4 (Nat.le_refl _)
      have f70 : f' 7 = 0 := by omega
      obtain ⟨g2, gn, gz, gu, g0⟩ := ab_tnr h hl c1 c2 i' hf'.1 f' hf'.2.1 hf'.2.2.1 hf'.2.2.2.1 hf'.2.2.2.2.1 hf'.2.2.2.2.2.1 hf'.2.2.2.2.2.2
      have ij := g0 f70
      have f1x : f' 1 = x := by
        have := (ab_d1 hf'.2.1 (by have := hf'.2.2.1; omega)).2.1
        rw [ij, c2.2.2.2.1] at this
        exact this
      have f00 : f' 0 = ab_zn Z i' := (ab_d1 hf'.2.1 (by have := hf'.2.2.1; omega)).1
      obtain ⟨r9, _, _, _, _, gt9, _⟩ := ax_Hf hW haN ha (by omega) c1 c2 hjn (show tb < N by omega) u2 u4.2.2.1 u4.2.2.2.2.2.1 (by
        have := u4.2.2.2.2.1.2.2.2.1
        rw [u4.2.2.2.2.2.1] at this
        exact this.symm)
      have htp := ab_nowm h (show tb ≤ p by omega) (by omega)
      have hij : ab_zn Z i' = ab_zn Z jj := by rw [ij]
      have d2 : 1 < ab_zD Z p 2 y x := by omega
      have pny : f' 2 ≠ y := by
        intro e
        obtain ⟨m1, hm1, hmN, k1', kx, kn, ks, kp⟩ := hL.1 i' f' hf'.1 hf'.2.1 (by omega)
        refine t2 1 d2 ⟨fun e => hxy e.symm, y8, m1, hmN, k1', by rw [ks, e], by rw [kx]; exact hf'.2.2.1, by rw [kx]; exact hf'.2.2.2.2.2.1, ?_, by rw [kx, f70]; omega⟩
        have := hf'.2.2.2.2.1.2.2.2.1
        rw [hf'.2.2.2.2.2.1] at this
        rw [kx]
        exact this.symm
      have awN : aw < N := by have := c2.1; omega
      obtain ⟨z1, z2, z3⟩ := ab_qf h awN c2.2.1
      have hbw' : ab_bn Z N w (ab_zD Z (aw + 1) 4 w 0) (ab_zn Z aw) := ⟨aw, awN, rfl, by omega, Nat.le_refl _⟩
      have h8 : ab_zD Z (i' + 1) 1 (f' 1) w ≠ 8 := by
        rw [← g2]
        have := (h.2.1 _ _ gu).2.2.1
        omega
      obtain ⟨t', hb', _, ht', _, _, _, hpp⟩ := ab_wcI h (i' + 1) (by have := hf'.1; omega) (f' 1) w (by omega)
      obtain ⟨_, r2, _⟩ := hpp h8
      have lb := ab_bnl h hbw' hb' gn
      have hn1 : ab_zn Z (i' + 1) = ab_zn Z i' := by rw [ab_now1 h hf'.1, if_neg (by rw [ij, c2.2.2.1]; omega)]
      rw [← g2] at r2
      have dwy : d w x ≤ d w y + 1 := hG.2.1 w y x (h.2.1 _ _ hlink).1
      have g1 : ab_gd (ab_zu Z) y w (d w (f' 2)) (f' 2) := ab_gdb hG y w _ (f' 2) rfl (by omega) (by omega)
      have g3 : ab_gd (ab_zu Z) y w (d w (f' 2) + 1) x := ⟨f' 2, g1, pny, by rw [← f1x]; exact (h.2.1 _ _ gu).1⟩
      exact ⟨_, ax_grev (fun p q hu => (h.2.1 p q hu).1) _ w x (fun e => hwy e) (fun e => hxy e) g3⟩
    -- if an adjacent goal is asked in time, all stations but w and nb0 are next to x
    have L1 : (∃ b g, b < N ∧ ab_ask Z b x g ∧ d x g = 1 ∧ ab_zn Z p ≤ ab_zn Z b + 1 ∧ ab_zn Z b ≤ ab_zn Z p) → ∀ v, v < 8 → v ≠ x → v ≠ w → v ≠ nb0 → d x v = 1 := by
      intro hE v v8 vx vw vn
      by_cases e : d x v = 1
      · exact e
      · exfalso
        have d1 : 1 ≤ d x v := ax_d1 hW (fun q => vx q.symm)
        have dn : 2 ≤ d x nb0 := by
          have h1 := hG.2.1 w w nb0 (h.2.1 _ _ hbw).1
          rw [hG.1] at h1
          have h2 := hG.2.1 x nb0 w hbw
          have h3 := hG.2.2.1 x w
          omega
        have dw : 2 ≤ d x w := by
          have h3 := hG.2.2.1 x w
          omega
        exact L0 ⟨hE, w, nb0, v, w8, hnb, v8, fun q => (h.2.1 _ _ hbw).2.2.2 q.symm, fun q => vw q.symm, fun q => vn q.symm, dw, dn, by omega⟩
    have nw : ¬ ax_H Z N (ab_zD Z (jj + 1) 4 x 0) x (ab_zD Z p 2 y x) w := by
      intro ⟨_, _, q, y1, y2, y3, y4, y5, y6, y7⟩
      obtain ⟨r1, hr1, hf1, _, _, _, _⟩ := ax_Hf hW haN ha (by omega) c1 c2 hjn y1 y2 y4 y5 y6
      have en := ax_end hW hU c1 c2 y1 y2 y3 hf1 tr _ u4
      obtain ⟨_, ee⟩ := ax_uq hW hU c1 c2 (ab_zX Z q 7) tr r1 _ _ u4 hf1 (by omega) rfl
      have := hU tb q (by omega) y1 u2 y2 u4.2.2.1 (ax_frn u4) ee
      rw [this, y3] at u3
      exact hwy u3
    have nb : ¬ ax_H Z N (ab_zD Z (jj + 1) 4 x 0) x (ab_zD Z p 2 y x) nb0 := by
      intro ⟨_, _, q, y1, y2, y3, y4, y5, y6, y7⟩
      obtain ⟨r1, hr1, hf1, g2, g1, gt, _⟩ := ax_Hf hW haN ha (by omega) c1 c2 hjn y1 y2 y4 y5 y6
      by_cases e : ab_zX Z q 7 = ab_zX Z tb 7
      · obtain ⟨_, ee⟩ := ax_uq hW hU c1 c2 (ab_zX Z q 7) tr r1 _ _ u4 hf1 (by omega) rfl
        have := hU tb q (by omega) y1 u2 y2 u4.2.2.1 (ax_frn u4) ee
        rw [this, y3] at u3
        exact hby u3
      · -- the frame behind the hearing at nb0 goes to w
        have htb := ab_nowm h (show tb ≤ p by omega) (by omega)
        obtain ⟨i', f', hf', e'⟩ := ax_dn hW c1 c2 (ab_zX Z tb 7 - (ab_zX Z q 7 + 1)) tr _ u4 (by omega)
        obtain ⟨k1, w1, x1, y1', mm, _, hfm⟩ := ax_prv hW c1 c2 hf' (by omega)
        obtain ⟨_, ee⟩ := ax_uq hW hU c1 c2 (ab_zX Z q 7) mm r1 _ _ hfm hf1 (by omega) rfl
        have eq := hU i' q hf'.1 y1 k1 y2 y1' (ax_frn hfm) ee
        have f1 := (ab_d1 hf'.2.1 (by have := hf'.2.2.1; omega)).2.1
        have ft := (ax_life2 hW h0 hU hv0 hdv c1 c2 haw _ i' f' hf' rfl).1
        have fw := hdir i' f' hf' ft (by rw [f1, eq]; exact y3)
        -- so w hears it, and it ends
        obtain ⟨m1, hm1, hmN, k1', kx, kn, ks, kp⟩ := hL.1 i' f' hf'.1 hf'.2.1 (by
          have f0 : f' 0 = ab_zn Z i' := (ab_d1 hf'.2.1 (by have := hf'.2.2.1; omega)).1
          have := hf'.2.2.2.2.1.2.1
          obtain ⟨r2, _, hf2, _, _, gt2, _⟩ := ax_Hf hW haN ha (by omega) c1 c2 hjn (show tb < N by omega) u2 u4.2.2.1 u4.2.2.2.2.2.1 (by
            have := u4.2.2.2.2.1.2.2.2.1
            rw [u4.2.2.2.2.2.1] at this
            exact this.symm)
          omega)
        have en := ax_end hW hU c1 c2 hmN k1' (by rw [ks, fw]) (by rw [kx]; exact hf') tr _ u4
        rw [kx] at en
        obtain ⟨_, e3⟩ := ax_uq hW hU c1 c2 (ab_zX Z tb 7) tr i' _ _ u4 hf' rfl (by omega)
        have t2' : ab_zX Z tb 2 = ab_zs Z tb := (h.2.2.2.2.2.1 tb (by omega) u2).2.2.1
        rw [e3, fw, u3] at t2'
        exact hwy t2'
    have five : ax_cn (ax_H Z N (ab_zD Z (jj + 1) 4 x 0) x (ab_zD Z p 2 y x)) ≤ 5 := by
      have a1 := ax_add (P := fun v => v = x) (Q := ax_H Z N (ab_zD Z (jj + 1) 4 x 0) x (ab_zD Z p 2 y x)) (fun v p q => q.1 p) 8
      have a2 := ax_add (P := fun v => v = w) (Q := fun v => v = x ∨ ax_H Z N (ab_zD Z (jj + 1) 4 x 0) x (ab_zD Z p 2 y x) v) (fun v p q => by
        rcases q with q | q
        · exact hwx (by rw [← p, q])
        · rw [p] at q; exact nw q) 8
      have nbw : nb0 ≠ w := (h.2.1 _ _ hbw).2.2.2
      have a3 := ax_add (P := fun v => v = nb0) (Q := fun v => v = w ∨ (v = x ∨ ax_H Z N (ab_zD Z (jj + 1) 4 x 0) x (ab_zD Z p 2 y x) v)) (fun v p q => by
        rcases q with q | q | q
        · exact nbw (by rw [← p, q])
        · exact hbx (by rw [← p, q])
        · rw [p] at q; exact nb q) 8
      have k1 : 1 ≤ ax_cn (fun v => v = x) := ax_cn1 x8 rfl
      have k2 : 1 ≤ ax_cn (fun v => v = w) := ax_cn1 w8 rfl
      have k3 : 1 ≤ ax_cn (fun v => v = nb0) := ax_cn1 hnb rfl
      have l8 := ax_le (P := fun v => v = nb0 ∨ (v = w ∨ (v = x ∨ ax_H Z N (ab_zD Z (jj + 1) 4 x 0) x (ab_zD Z p 2 y x) v))) 8
      simp only [ax_cn] at *
      omega
    -- newer numbers are questions from the moment before p on
    have late : ∀ i v, i ≤ N → ab_zn Z i ≤ ab_zn Z p + 5 → v ≠ x → ab_zD Z (jj + 1) 4 x 0 < ab_zD Z i 3 v x →
        ∃ b' g, b' < N ∧ ab_ask Z b' x g ∧ ab_zD Z i 3 v x = ab_zD Z (b' + 1) 4 x 0 ∧ ab_zn Z p ≤ ab_zn Z b' + 1 ∧ ab_zn Z b' + ab_zD Z i 2 v x ≤ ab_zn Z i := by
      intro i v hi hit hv hgt
      obtain ⟨c, hci, d1, d2, d3, d4, d5, d6, d7', d8⟩ := ab_srcI h i hi v x (by omega)
      have mrc : ab_rc Z (ab_zX Z c) := ⟨by rcases d3 with ⟨y, _⟩ | y <;> omega, Or.inl (by rw [d4]; omega)⟩
      rcases d3 with ⟨y30, _⟩ | y31
      · obtain ⟨b', hb'm, hba, hb6, hb8, hbt'⟩ := ab_hask h (by omega) d1 y30 mrc
        rw [d4] at hba hb6
        have hb'N : b' < N := by omega
        refine ⟨b', _, hb'N, hba, by omega, ?_, ?_⟩
        · by_cases e : ab_zn Z p ≤ ab_zn Z b' + 1
          · exact e
          · exfalso
            have g1 : ab_gd (ab_zu Z) (ab_zX Z c 5) x 1 y := ⟨x, rfl, (hl8 _ _ hba.2.2.1).1, hlink⟩
            obtain ⟨i0, i1, i2, hf, i4, i5, i6⟩ := ab_flood h hL hb'N hba.1 hba.2.1 hba.2.2.2 1 y g1 (fun e => hxy e.symm) (by omega)
            obtain ⟨f1, f2, f3, f4, f5, f6⟩ := hf
            have := ab_hnr (u := ab_zu Z) (ac := ab_za Z) (s := y) (p := ab_zp Z i0) (x := ab_zX Z i0) (D := ab_zD Z i0) (Or.inl ⟨f3, by rw [f4, f5]; exact f6⟩) (by rw [f4]; exact fun e => hxy e.symm)
            have k : ab_zX Z i0 6 ≤ ab_zD Z (i0 + 1) 3 y x := by
              rw [h.1 i0 i2]
              unfold ab_zY
              rw [f1, ab_do1, f2]
              rw [f4] at this
              exact this
            have hip : i0 < p := by
              by_cases e : i0 < p
              · exact e
              · have := ab_nowm h (show p ≤ i0 by omega) (by omega)
                omega
            have := ab_nrm (v := y) (c := x) h (show i0 + 1 ≤ p by omega) (by omega)
            omega
        · obtain ⟨z1, z2, z3⟩ := ab_qf h hb'N hba
          obtain ⟨t', hb', _, ht', _⟩ := ab_wcI h i hi v x (by omega)
          have bb : ab_bn Z N x (ab_zD Z i 3 v x) (ab_zn Z b') := ⟨b', hb'N, rfl, by omega, by omega⟩
          have := ab_bnu h hb' bb
          omega
      · exfalso
        obtain ⟨j2, a2, w2, r2, g1, g2, g3, g4, g5, g6, g7, g8, g9, g10, g11, g12⟩ := ax_hT1 hW (show c < N by omega) d1 d4 y31 q2 hbq (by omega) (by omega)
        have w2w := hx w2 g2.2.1.2.2.1
        rw [w2w] at g2
        refine L2 ⟨jj, aw, j2, a2, c1, g1, c2, g2, hjn, by omega, ?_, hwalk⟩
        have := ab_nowm h (show c ≤ i by omega) (by omega)
        omega
    have h8p := ax_pres h hn0 p (by omega) (nv p (by omega) (by omega)) y (fun e => hxy e.symm) (by omega)
    -- the ride
    have ride : ∀ q e i v, e + q = 5 → i < N → v ≠ x → ab_zn Z i = ab_zn Z p + e → ab_zD Z (jj + 1) 4 x 0 ≤ ab_zD Z i 3 v x →
        (ab_zD Z i 3 v x = ab_zD Z (jj + 1) 4 x 0 → e + ax_cn (ax_H Z N (ab_zD Z (jj + 1) 4 x 0) x (ab_zD Z i 2 v x)) ≤ 5 ∧ ab_zD Z i 2 v x ≤ ab_zD Z p 2 y x) → (ab_zD Z (jj + 1) 4 x 0 < ab_zD Z i 3 v x → e + ab_zD Z i 2 v x ≤ 5 ∧ ((∃ b g, b < N ∧ ab_ask Z b x g ∧ d x g = 1 ∧ ab_zn Z p ≤ ab_zn Z b + 1 ∧ ab_zn Z b ≤ ab_zn Z p) → ab_zD Z i 2 v x = 1)) →
        ab_zO Z i (ab_pt (ab_zn Z i) v (ab_zD Z i 1 v x) (ab_fr 4 y x (ab_za Z x y) 0 (8 - e))) → False := by
      intro q
      induction q with
      | zero =>
        intro e i v heq hi hv hin hnum hB hC ho
        by_cases en : ab_zD Z i 3 v x = ab_zD Z (jj + 1) 4 x 0
        · obtain ⟨t1, _⟩ := ax_Hp (i := i) (p := v) hW haN ha (by omega) c1 c2 rfl hjn (by omega) (hnr i (by omega) (by omega)) en
          have := ax_cn1 t1.2.1 t1
          have := (hB en).1
          omega
        · have := (hC (by omega)).1
          obtain ⟨_, _, _, _, d1, _⟩ := ab_wcI h i (by omega) v x (by omega)
          omega
      | succ q ih =>
        intro e i v heq hi hv hin hnum hB hC ho
        have h8 := ax_pres h hn0 i (by omega) (nv i (by omega) (by omega)) v hv hnum
        obtain ⟨_, _, _, _, dv1, _, _, hpn1⟩ := ab_wcI h i (by omega) v x (by omega)
        obtain ⟨lk, r2, _⟩ := hpn1 h8
        obtain ⟨m1, hm1, hmN, k1, kx, kn, ks, kp⟩ := hL.1 i _ hi ho (by show ab_zn Z i + 2 ≤ _; omega)
        have kn' : ab_zn Z m1 = ab_zn Z i + 1 := kn
        have ks' : ab_zs Z m1 = ab_zD Z i 1 v x := ks
        by_cases hc : ab_zD Z i 1 v x = x
        · exact news m1 hmN k1 (by rw [ks', hc]) (by rw [kx]; rfl) (by rw [kx]; rfl) (by rw [kx]; rfl) (by rw [kx]; rfl)
        · generalize hv' : ab_zD Z i 1 v x = v' at *
          have hch := ax_ch h hn0 i (by omega) (nv i (by omega) (by omega)) v hv hnum
          rw [hv'] at hch
          have mono := ab_nrm (v := v') (c := x) h (show i ≤ m1 by omega) (by omega)
          have hnum' : ab_zD Z (jj + 1) 4 x 0 ≤ ab_zD Z m1 3 v' x := by
            rcases hch with z | z | z
            · exact absurd z hc
            · omega
            · omega
          have h82 := ax_pres h hn0 m1 (by omega) (nv m1 (by omega) (by omega)) v' hc hnum'
          obtain ⟨_, _, _, _, dv2, _, _, hpn2⟩ := ab_wcI h m1 (by omega) v' x (by omega)
          obtain ⟨b1, _, _⟩ := hpn2 h82
          have ho2 : ab_zO Z m1 (ab_pt (ab_zn Z m1) v' (ab_zD Z m1 1 v' x) (ab_fr 4 y x (ab_za Z x y) 0 (8 - (e + 1)))) := by
            unfold ab_zO ab_zY
            rw [k1, ab_do1, ks', kx, show 8 - (e + 1) = 8 - e - 1 by omega]
            exact ab_cyo (x := ab_pt (ab_zn Z i) v v' (ab_fr 4 y x (ab_za Z x y) 0 (8 - e))) (s := v') (show 3 ≤ 4 by omega) (fun z => hc z.symm) (show 1 < 8 - e by omega) h82 b1
          -- how far v' is from x
          have trail : ab_zD Z i 3 v x = ab_zD Z (jj + 1) 4 x 0 → ax_cn (ax_H Z N (ab_zD Z (jj + 1) 4 x 0) x (ab_zD Z i 2 v x - 1)) + 1 ≤ ax_cn (ax_H Z N (ab_zD Z (jj + 1) 4 x 0) x (ab_zD Z i 2 v x)) ∧ d x v' ≤ ax_cn (ax_H Z N (ab_zD Z (jj + 1) 4 x 0) x (ab_zD Z i 2 v x - 1)) := by
            intro en
            obtain ⟨x1, x2, x3', _⟩ := ax_Hp (i := i) (p := v) hW haN ha (by omega) c1 c2 rfl hjn (by omega) (hnr i (by omega) (by omega)) en
            have xx := x3' (by rw [hv']; exact h8) (by rw [hv']; exact hc)
            rw [hv'] at xx
            refine ⟨?_, ax_Hc hW haN ha (by omega) c1 c2 rfl hjn xx⟩
            exact ax_sma (P := ax_H Z N (ab_zD Z (jj + 1) 4 x 0) x (ab_zD Z i 2 v x - 1)) (Q := ax_H Z N (ab_zD Z (jj + 1) 4 x 0) x (ab_zD Z i 2 v x)) (E := fun _ => 1) (k := v)
              (fun k ⟨b1, b8, b, b2, b3, b4, b5, b6, b7, b9⟩ => ⟨b1, b8, b, b2, b3, b4, b5, b6, b7, by omega⟩) (x2 _ (by omega)) x1 8 x1.2.1
          have far : e + 1 + d x v' ≤ 5 := by
            by_cases en : ab_zD Z i 3 v x = ab_zD Z (jj + 1) 4 x 0
            · have := (hB en).1
              obtain ⟨tr1, tr2⟩ := trail en
              omega
            · have := (hC (by omega)).1
              omega
          refine ih (e + 1) m1 v' (by omega) hmN hc (by omega) hnum' (fun en' => ?_) (fun gt' => ?_) ho2
          · have ei : ab_zD Z i 3 v' x = ab_zD Z (jj + 1) 4 x 0 := by
              rcases hch with z | z | z
              · exact absurd z hc
              · omega
              · omega
            have en : ab_zD Z i 3 v x = ab_zD Z (jj + 1) 4 x 0 := by
              rcases hch with z | z | z
              · exact absurd z hc
              · omega
              · omega
            have lt : ab_zD Z i 2 v' x < ab_zD Z i 2 v x := by
              rcases hch with z | z | z
              · exact absurd z hc
              · omega
              · exact z.2
            have cs := ax_cst h hn0 hc (show ab_zD Z (jj + 1) 4 x 0 ≤ ab_zD Z i 3 v' x by omega) m1 (by omega) (by omega) (nv m1 (by omega) (by omega)) (by omega)
            have hBe := hB en
            obtain ⟨tr1, tr2⟩ := trail en
            have mo := ax_smm (P := ax_H Z N (ab_zD Z (jj + 1) 4 x 0) x (ab_zD Z m1 2 v' x)) (Q := ax_H Z N (ab_zD Z (jj + 1) 4 x 0) x (ab_zD Z i 2 v x - 1)) (E := fun _ => 1) (fun k ⟨b1, b8, b, b2, b3, b4, b5, b6, b7, b9⟩ => ⟨b1, b8, b, b2, b3, b4, b5, b6, b7, by omega⟩) 8
            refine ⟨?_, by omega⟩
            have hBe1 := hBe.1
            clear hBe hB hC
            simp only [ax_cn] at *
            omega
          · by_cases same : ab_zD Z m1 3 v' x = ab_zD Z i 3 v x
            · have ei : ab_zD Z i 3 v' x = ab_zD Z i 3 v x := by
                rcases hch with z | z | z
                · exact absurd z hc
                · omega
                · omega
              have lt : ab_zD Z i 2 v' x < ab_zD Z i 2 v x := by
                rcases hch with z | z | z
                · exact absurd z hc
                · omega
                · exact z.2
              have cs := ax_cst h hn0 hc (show ab_zD Z (jj + 1) 4 x 0 ≤ ab_zD Z i 3 v' x by omega) m1 (by omega) (by omega) (nv m1 (by omega) (by omega)) (by omega)
              have hCe := hC (by omega)
              refine ⟨by have := hCe.1; omega, fun hE => ?_⟩
              have := hCe.2 hE
              omega
            · obtain ⟨b', g, y1, y2, y3, y4, y5⟩ := late m1 v' (by omega) (by omega) hc gt'
              have d1' : 1 ≤ d x v' := ax_d1 hW (fun q => hc q.symm)
              have near : d x v' = 1 → ab_zD Z m1 2 v' x ≤ 1 := by
                intro dv
                obtain ⟨s, hs1, hs2⟩ := hG.2.2.2.2.1 x v' (by omega) (by omega)
                have : s = x := (hG.2.2.2.1 x s (by omega)).symm
                rw [this] at hs1
                exact ab_qx h hL y1 y2 (show m1 ≤ N by omega) y3 (show ab_gd (ab_zu Z) g x 1 v' from ⟨x, rfl, (hl8 _ _ y2.2.2.1).1, hs1⟩)
              -- with an adjacent goal asked in time v' is next to x
              have adj : (∃ b g, b < N ∧ ab_ask Z b x g ∧ d x g = 1 ∧ ab_zn Z p ≤ ab_zn Z b + 1 ∧ ab_zn Z b ≤ ab_zn Z p) → d x v' = 1 := by
                intro hE
                by_cases en : ab_zD Z i 3 v x = ab_zD Z (jj + 1) 4 x 0
                · obtain ⟨x1, x2, x3', _⟩ := ax_Hp (i := i) (p := v) hW haN ha (by omega) c1 c2 rfl hjn (by omega) (hnr i (by omega) (by omega)) en
                  have xx := x3' (by rw [hv']; exact h8) (by rw [hv']; exact hc)
                  rw [hv'] at xx
                  have le := (hB en).2
                  have up : ax_H Z N (ab_zD Z (jj + 1) 4 x 0) x (ab_zD Z p 2 y x) v' := by
                    obtain ⟨b1, b8, b, b2, b3, b4, b5, b6, b7, b9⟩ := xx
                    exact ⟨b1, b8, b, b2, b3, b4, b5, b6, b7, by omega⟩
                  exact L1 hE v' xx.2.1 hc (fun q => nw (by rw [← q]; exact up)) (fun q => nb (by rw [← q]; exact up))
                · have := (hC (by omega)).2 hE
                  omega
              refine ⟨?_, fun hE => by have := near (adj hE); omega⟩
              by_cases e2 : e + 1 ≤ 2
              · omega
              · -- near x the question's way is straight, or it is an adjacent goal asked in time
                have dle : ab_zD Z m1 2 v' x ≤ 2 := by
                  by_cases dv : d x v' = 1
                  · have := near dv
                    omega
                  · by_cases dg : d x g = 1
                    · by_cases tb' : ab_zn Z b' ≤ ab_zn Z p
                      · exact absurd (adj ⟨b', g, y1, y2, dg, y4, tb'⟩) dv
                      · omega
                    · obtain ⟨s, hs1, hs2⟩ := hG.2.2.2.2.1 x v' (by omega) (by omega)
                      have ds : d x s = 1 := by omega
                      obtain ⟨s', hs1', hs2'⟩ := hG.2.2.2.2.1 x s (by omega) (by omega)
                      have : s' = x := (hG.2.2.2.1 x s' (by omega)).symm
                      rw [this] at hs1'
                      exact ab_qx h hL y1 y2 (show m1 ≤ N by omega) y3 (show ab_gd (ab_zu Z) g x 2 v' from ⟨s, ⟨x, rfl, (hl8 _ _ y2.2.2.1).1, hs1'⟩, fun q => dg (by rw [← q]; exact ds), hs1⟩)
                by_cases dv : d x v' = 1
                · have := near dv
                  omega
                · omega
    exact ride 5 0 p y rfl p2 (fun e => hxy e.symm) (by omega) (by omega) (fun _ => ⟨by omega, Nat.le_refl _⟩) (fun g => by omega) (by rw [show 8 - 0 = 8 by omega]; exact send0 h8p)
