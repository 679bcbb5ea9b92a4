/-! ## a source with a goal next to it: done -/
theorem ax_hM {Z : ab_Z} {d : Nat → Nat → Nat} {N x w v0 a a' g lm : Nat} (hR : ax_LR lm Z d N) (hx : ∀ q, ab_zl Z q x → q = w) (hv0 : ∀ q, ab_zl Z q w → q = v0) (hdv : 2 ≤ d w v0) (hdw : 2 ≤ d w x) (haN : a < N) (ha'N : a' < N) (ha : ab_ask Z a x g) (ha' : ab_ask Z a' x g) (hd : d x g = 1) (hwg : w ≠ g) (h53 : ab_zn Z a' = ab_zn Z a + 53) (ht : ab_zn Z 0 + 80 ≤ ab_zn Z a) (hN : ab_zn Z a' + 60 ≤ ab_zn Z N) (M1 : ax_M2 Z d N a x g w) (M2 : ax_M2 Z d N a' x g w) : False := by
  have hR' := hR
  obtain ⟨h, hL, hG, hl8, h0, hU, hnp⟩ := hR'
  obtain ⟨⟨kw, hwk⟩, j1, a1, j2, a2, c1, c2, c3, c4, c5, c6, c7⟩ := M1
  obtain ⟨_, i1, b1, i2, b2, e1, e2, e3, e4, e5, e6, e7⟩ := M2
  have key : ∀ a j1 a1 j2 a2, a < N → ab_ask Z a x g → j1 < N → j2 < N → ab_tb Z d j1 a1 x w → ab_tb Z d j2 a2 x w → ab_zD Z (a + 1) 4 x 0 ≤ ab_zD Z (j1 + 1) 4 x 0 → ab_zD Z (j1 + 1) 4 x 0 < ab_zD Z (j2 + 1) 4 x 0 → ab_zn Z a ≤ ab_zn Z a1 + d w x ∧ a1 < a2 := by
    intro a j1 a1 j2 a2 aN haa j1N j2N t1 t2 n1 n2
    have d1 := t1.2.2.2.2.2.2.2.2.1
    have d2 := t2.2.2.2.2.2.2.2.2.1
    obtain ⟨_, _, q3⟩ := ab_qf h aN haa
    have ja : a < j1 := by
      rcases Nat.lt_trichotomy a j1 with e | e | e
      · exact e
      · exfalso
        have k1 := t1.2.2.1
        have k2 := haa.2.2.2.1
        rw [← e] at k1
        omega
      · exfalso
        have := ab_ownm (c := x) h (show j1 + 1 ≤ a by omega) (by omega)
        omega
    have j12 : j1 < j2 := by
      by_cases e : j1 < j2
      · exact e
      · have := ab_ownm (c := x) h (show j2 + 1 ≤ j1 + 1 by omega) (by omega)
        omega
    have m1 := ab_nowm h (show a ≤ j1 by omega) (by omega)
    have m2 := ab_nowm h (show j1 ≤ j2 by omega) (by omega)
    refine ⟨by omega, ?_⟩
    rcases Nat.lt_trichotomy a1 a2 with e | e | e
    · exact e
    · exfalso
      rw [e] at d1
      have := ab_tone h j1N j2N t1 t2 (by omega) (by omega)
      omega
    · exfalso
      have := ab_sp h e (by have := t1.1; omega) t2.2.1 t1.2.1
      omega
  obtain ⟨p1, p2⟩ := key a j1 a1 j2 a2 haN ha c1 c2 c3 c4 c5 c6
  obtain ⟨r1, r2⟩ := key a' i1 b1 i2 b2 ha'N ha' e1 e2 e3 e4 e5 e6
  have h7 := c3.2.2.2.2.2.2.2.2.2.1
  have d2 := c4.2.2.2.2.2.2.2.2.1
  have d4 := e4.2.2.2.2.2.2.2.2.1
  have a2j := c4.1
  have b2j := e4.1
  obtain ⟨k, e, k1, ke, ke2, k3, k4, hW, h0', hU', hnp'⟩ := ax_wn 31 95 hR haN (by omega) (by omega) (by omega) (by omega) (by omega)
  have ord : ∀ k b, k < N → b < N → ab_zn Z k < ab_zn Z b → k < b := by
    intro k b hk hb e
    by_cases e1 : k < b
    · exact e1
    · have := ab_nowm h (show b ≤ k by omega) (by omega)
      omega
  have sp1 := ab_sp h p2 (by omega) c3.2.1 c4.2.1
  have sp2 := ab_sp h r2 (by omega) e3.2.1 e4.2.1
  have ka1 : k < a1 := ord k a1 (by omega) (by have := c3.1; omega) (by omega)
  have kb1 : k < b1 := ord k b1 (by omega) (by have := e3.1; omega) (by omega)
  have eb2 : b2 < e := ord b2 e (by omega) ke2 (by omega)
  have ea2 : a2 < e := ord a2 e (by omega) ke2 (by omega)
  have n0 : ab_zn (ab_sh Z k) 0 = ab_zn Z k := rfl
  have na := ax_shn (Z := Z) (show k ≤ a by omega)
  have ne := ax_shn (Z := Z) (show k ≤ e by omega)
  have na1 := ax_shn (Z := Z) (show k ≤ a1 by omega)
  have na2 := ax_shn (Z := Z) (show k ≤ a2 by omega)
  have nb1 := ax_shn (Z := Z) (show k ≤ b1 by omega)
  have nb2 := ax_shn (Z := Z) (show k ≤ b2 by omega)
  exact ax_M22 (a := a - k) (a1 := a1 - k) (a2 := a2 - k) (b1 := b1 - k) (b2 := b2 - k) hW h0' hU' hd (by omega) (ab_sha (by omega) ha) hx hv0 hdv h7 hwg (by omega) (by omega) hwk (by omega) (by omega) (by omega) (by omega) (ab_sha (by omega) c3.2.1) (ab_sha (by omega) c4.2.1) (ab_sha (by omega) e3.2.1) (ab_sha (by omega) e4.2.1) (by omega) (by omega) (by omega) (by omega) (by omega) (by omega)
theorem ax_R1c {Z : ab_Z} {d : Nat → Nat → Nat} {N x y w v0 lm : Nat} (hR : ax_LR lm Z d N) (hx : ∀ q, ab_zl Z q x → q = w) (hv0 : ∀ q, ab_zl Z q w → q = v0) (hdv : 2 ≤ d w v0) (hdw : 3 ≤ d w x)
    (hg : ∀ g, ab_zl Z x g → d x g = 1 → (∀ q, ¬ ab_zl Z g q) ∧ ∃ z u, (∀ q, ab_zl Z q g → q = x ∨ q = z) ∧ z ≠ x ∧ (∀ q, ab_zl Z q z → q = u) ∧ g ≠ u ∧ 2 ≤ d z u) (hy : ab_zl Z x y) (hd : d x y = 1) (hN : ab_zn Z 0 + 800 ≤ ab_zn Z N) : False := by
  refine ax_R1 hR hx hv0 hdv hdw hg hy hd hN (fun a a' g haN ha'N ha ha' hdg h53 h80 h60 M1 M2 => ?_)
  refine ax_hM hR hx hv0 hdv (by omega) haN ha'N ha ha' hdg (fun e => ?_) h53 h80 h60 M1 M2
  have := hR.2.2.1.2.2.1 w x
  rw [e] at this hdw
  omega
/-- far away: a station that is not there -/
theorem ax_d100 {u : Nat → Nat → Prop} {d : Nat → Nat → Nat} {x v : Nat} (hG : ab_G u d) (hv : 8 ≤ v) (hxv : x ≠ v) : d x v = 100 := by
  rcases hG.2.2.2.2.2.2 x v with e | e
  · exfalso
    rcases Nat.eq_zero_or_pos (d x v) with z | z
    · exact hxv (hG.2.2.2.1 x v z)
    · obtain ⟨p, p1, p2⟩ := hG.2.2.2.2.1 x v z e
      have := (hG.2.2.2.2.2.1 p v p1).2.2.1
      omega
  · exact e
/-- x nobody's goal -/
theorem ax_R1p {Z : ab_Z} {d : Nat → Nat → Nat} {N x y lm : Nat} (hR : ax_LR lm Z d N) (hx : ∀ q, ¬ ab_zl Z q x)
    (hg : ∀ g, ab_zl Z x g → d x g = 1 → (∀ q, ¬ ab_zl Z g q) ∧ ∃ z u, (∀ q, ab_zl Z q g → q = x ∨ q = z) ∧ z ≠ x ∧ (∀ q, ab_zl Z q z → q = u) ∧ g ≠ u ∧ 2 ≤ d z u) (hy : ab_zl Z x y) (hd : d x y = 1) (hN : ab_zn Z 0 + 800 ≤ ab_zn Z N) : False := by
  have hG := hR.2.2.1
  have hl8 := hR.2.2.2.1
  have x8 := (hl8 _ _ hy).2.1
  have e1 : d 8 9 = 100 := ax_d100 hG (by omega) (by omega)
  have e2 : d 8 x = 100 := by
    rw [hG.2.2.1 8 x]
    exact ax_d100 hG (by omega) (by omega)
  exact ax_R1c (w := 8) (v0 := 9) hR (fun q hq => absurd hq (hx q)) (fun q hq => by have := (hl8 _ _ hq).2.2; omega) (by omega) (by omega) hg hy hd hN
