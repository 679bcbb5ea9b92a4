/-! ## stations that are goals of each other at most, and no goal of theirs is much nearer: their TELLs are straight -/
theorem ax_sp1 {Z : ab_Z} {d : Nat → Nat → Nat} {N j a c z i : Nat} {f : ab_F} (hW : ax_W Z d N) (hj : j < N) (ht : ab_tb Z d j a c z) (hg : ∀ g, ab_zl Z z g → d z c ≤ d z g + 1) (h20 : ab_zn Z 0 + 20 ≤ ab_zn Z a) (hf : ax_fr Z N j c z i f) (hs : f 7 + d z (f 1) = d z c) :
    d z (f 2) + 1 = d z (f 1) ∨ ∃ j2 a2 q b r2, j2 < N ∧ ab_tb Z d j2 a2 z q ∧ d z (f 1) < ab_zX Z b 7 + 1 ∧ ab_zn Z j2 + ab_zX Z b 7 + 1 ≤ ab_zn Z i ∧ ab_zn Z a ≤ ab_zn Z j2 ∧ b < N ∧ ab_zK Z b = 1 ∧ ab_zs Z b = f 1 ∧ ax_fr Z N j2 z q r2 (ab_zX Z b) := by
  have hW' := hW
  obtain ⟨h, hL, hG, hl8, hq⟩ := hW'
  have hl : ∀ a b, ab_zl Z a b → a ≠ b := fun a b z => (hl8 a b z).1
  have aN : a < N := by have := ht.1; omega
  obtain ⟨q1, q2, q3⟩ := ab_qf h aN ht.2.1
  have hbq : ab_bn Z N z (ab_zD Z (a + 1) 4 z 0) (ab_zn Z a) := ⟨a, aN, rfl, by omega, Nat.le_refl _⟩
  have jd := ht.2.2.2.2.2.2.2.2.1
  have d7 := ht.2.2.2.2.2.2.2.2.2.1
  obtain ⟨g2, gn, gz, gu, g0⟩ := ab_tnr h hl hj ht i hf.1 f hf.2.1 hf.2.2.1 hf.2.2.2.1 hf.2.2.2.2.1 hf.2.2.2.2.2.1 hf.2.2.2.2.2.2
  have iN := hf.1
  have ki : ab_zK Z i = 1 := by
    by_cases e : f 7 = 0
    · rw [g0 e]; exact ht.2.2.1
    · exact (ax_prv hW hj ht hf e).1
  have h8 : ab_zD Z (i + 1) 1 (f 1) z ≠ 8 := by
    rw [← g2]
    have := (h.2.1 _ _ gu).2.2.1
    omega
  obtain ⟨t', hb', dd, ht', d1, _, _, hpp⟩ := ab_wcI h (i + 1) (by omega) (f 1) z (by omega)
  obtain ⟨_, r2, _⟩ := hpp h8
  rw [← g2] at r2
  have hn1 : ab_zn Z (i + 1) = ab_zn Z i := by rw [ab_now1 h iN, if_neg (by omega)]
  have f0 : f 0 = ab_zn Z i := (ab_d1 hf.2.1 (by have := hf.2.2.1; omega)).1
  have fb := hf.2.2.2.2.1.2.1
  have lip := hG.2.1 z (f 2) (f 1) (h.2.1 _ _ gu).1
  have fin : ab_zD Z (i + 1) 2 (f 1) z ≤ d z (f 1) → d z (f 2) + 1 = d z (f 1) := fun e => by omega
  by_cases e7 : f 7 = 0
  · have lb := ab_bnl h hbq hb' gn
    exact Or.inl (fin (by omega))
  · by_cases one : ab_zD Z (i + 1) 2 (f 1) z ≤ d z (f 1)
    · exact Or.inl (fin one)
    · obtain ⟨b, hbi, s1, s2, s3, s4, s5, s6, s7, s8⟩ := ab_srcI h (i + 1) (by omega) (f 1) z (by omega)
      rcases s3 with ⟨y30, _⟩ | y31
      · exfalso
        have mr : ab_rc Z (ab_zX Z b) := ⟨by omega, Or.inl (by rw [s4]; omega)⟩
        obtain ⟨b', hb'm, hba, hb6, hb8, hbt'⟩ := ab_hask h (by omega) s1 y30 mr
        rw [s4] at hba hb6
        have hgg := hg _ hba.2.2.1
        have qx := ab_qx h hL (show b' < N by omega) hba (show i + 1 ≤ N by omega) (by rw [← s5, hb6]) (ab_gdb hG (ab_zX Z b 5) z (d z (f 1)) (f 1) rfl (by omega) (by omega))
        omega
      · obtain ⟨j2, a2, w2, rr, c1, c2, c3, c4, c5, c6, c7, c8, c9, c10, c11, c12⟩ := ax_hT1 hW (show b < N by omega) s1 s4 y31 q2 hbq (by omega) (by omega)
        have bb : ab_bn Z N z (ab_zD Z (i + 1) 3 (f 1) z) (ab_zn Z j2) := ⟨j2, c1, rfl, by omega, by omega⟩
        have eb := ab_bnu h hb' bb
        exact Or.inr ⟨j2, a2, w2, b, rr, c1, c2, by omega, by omega, c10, by omega, s1, s2, c4⟩
theorem ax_strt {Z : ab_Z} {d : Nat → Nat → Nat} {N j a c z : Nat} (hW : ax_W Z d N) (hc : ∀ q, ab_zl Z q c → q = z) (hz : ∀ q, ab_zl Z q z → q = c) (hgz : ∀ g, ab_zl Z z g → d z c ≤ d z g + 1) (hgc : ab_zl Z c z → ∀ g, ab_zl Z c g → d z c ≤ d c g + 1) (hj : j < N) (ht : ab_tb Z d j a c z) (h27 : ab_zn Z 0 + 27 ≤ ab_zn Z a) :
    ∀ i f, ax_fr Z N j c z i f → f 7 + d z (f 1) = d z c ∧ d z (f 2) + 1 = d z (f 1) := by
  have hW' := hW
  obtain ⟨h, hL, hG, hl8, hq⟩ := hW'
  have hl : ∀ a b, ab_zl Z a b → a ≠ b := fun a b z => (hl8 a b z).1
  have jd := ht.2.2.2.2.2.2.2.2.1
  have d7 := ht.2.2.2.2.2.2.2.2.2.1
  have sy := hG.2.2.1
  have tri : ∀ v, d z c ≤ d z v + d c v := by
    intro v
    by_cases e : d c v ≤ 7
    · have := ab_tri hG z v (d c v) c (sy v c) (by omega)
      omega
    · omega
  have tm : ∀ (j a c z i : Nat) (f : ab_F), ax_fr Z N j c z i f → ab_zn Z i = ab_zn Z j + f 7 := by
    intro j a c z i f hf
    have f0 : f 0 = ab_zn Z i := (ab_d1 hf.2.1 (by have := hf.2.2.1; omega)).1
    have := hf.2.2.2.2.1.2.1
    omega
  have first : ∀ j a c z i f, j < N → ab_tb Z d j a c z → ax_fr Z N j c z i f → f 7 = 0 → f 1 = c := by
    intro j a c z i f hj ht hf e7
    have g0 := (ab_tnr h hl hj ht i hf.1 f hf.2.1 hf.2.2.1 hf.2.2.2.1 hf.2.2.2.2.1 hf.2.2.2.2.2.1 hf.2.2.2.2.2.2).2.2.2.2 e7
    have := (ab_d1 hf.2.1 (by have := hf.2.2.1; omega)).2.1
    rw [g0, ht.2.2.2.1] at this
    exact this
  intro i
  induction i using Nat.strongRecOn with
  | ind i ih =>
    intro f hf
    have st : f 7 + d z (f 1) = d z c := by
      by_cases e7 : f 7 = 0
      · rw [first j a c z i f hj ht hf e7]
        omega
      · obtain ⟨ki, sz, x7, x3, m, hm, hfm⟩ := ax_prv hW hj ht hf e7
        obtain ⟨p1, p2⟩ := ih m hm _ hfm
        have e1 : f 1 = ab_zs Z i := (ab_d1 hf.2.1 (by have := hf.2.2.1; omega)).2.1
        have e2 : ab_zX Z i 2 = ab_zs Z i := (h.2.2.2.2.2.1 i hf.1 ki).2.2.1
        rw [e2, ← e1] at p2
        omega
    refine ⟨st, ?_⟩
    rcases ax_sp1 hW hj ht hgz (by omega) hf st with e | ⟨j2, a2, q, b, r2, c1, c2, c3, c4, c5, c6, c7, c8, c9⟩
    · exact e
    · exfalso
      have qc := hz q c2.2.1.2.2.1
      rw [qc] at c2 c9
      have hlc := c2.2.1.2.2.1
      have jd2 := c2.2.2.2.2.2.2.2.2.1
      have dcz : d c z = d z c := sy c z
      have hti := tm j a c z i f hf
      -- the other TELL is straight so far
      have J : ∀ i2 g, ax_fr Z N j2 z c i2 g → ab_zn Z i2 ≤ ab_zn Z i → g 7 + d c (g 1) = d c z ∧ d c (g 2) + 1 = d c (g 1) := by
        intro i2
        induction i2 using Nat.strongRecOn with
        | ind i2 ih2 =>
          intro g hg2 hit
          have st2 : g 7 + d c (g 1) = d c z := by
            by_cases e7 : g 7 = 0
            · rw [first j2 a2 z c i2 g c1 c2 hg2 e7]
              omega
            · obtain ⟨ki, sz, x7, x3, m, hm, hfm⟩ := ax_prv hW c1 c2 hg2 e7
              have hmt := ab_nowm h (show m ≤ i2 by omega) (by have := hg2.1; omega)
              obtain ⟨p1, p2⟩ := ih2 m hm _ hfm (by omega)
              have e1 : g 1 = ab_zs Z i2 := (ab_d1 hg2.2.1 (by have := hg2.2.2.1; omega)).2.1
              have e2 : ab_zX Z i2 2 = ab_zs Z i2 := (h.2.2.2.2.2.1 i2 hg2.1 ki).2.2.1
              rw [e2, ← e1] at p2
              omega
          refine ⟨st2, ?_⟩
          rcases ax_sp1 hW c1 c2 (fun g hgl => by rw [dcz]; exact hgc hlc g hgl) (by omega) hg2 st2 with e | ⟨j3, a3, q', b', r3, e1, e2, e3, e4, e5, e6, e7, e8, e9⟩
          · exact e
          · exfalso
            have qz := hc q' e2.2.1.2.2.1
            rw [qz] at e2 e9
            have hti2 := tm j2 a2 z c i2 g hg2
            have e33 : j3 = j := ab_tone h e1 hj e2 ht (by omega) (by omega)
            rw [e33] at e4 e9
            have ht3 := tm j a c z r3 _ e9
            have r3i : r3 < i := by
              by_cases y : r3 < i
              · exact y
              · have := ab_nowm h (show i ≤ r3 by omega) (by have := e9.1; omega)
                omega
            obtain ⟨p1, p2⟩ := ih r3 r3i _ e9
            have x2 : ab_zX Z b' 2 = ab_zs Z b' := (h.2.2.2.2.2.1 b' e6 e7).2.2.1
            rw [x2, e8] at p2
            have := tri (g 1)
            omega
      have ht2 := tm j2 a2 z c r2 _ c9
      obtain ⟨p1, p2⟩ := J r2 _ c9 (by omega)
      have x2 : ab_zX Z b 2 = ab_zs Z b := (h.2.2.2.2.2.1 b c6 c7).2.2.1
      rw [x2, c8] at p2
      have := tri (f 1)
      omega
/-- so the ways to x are exact up to its nearest goal -/
theorem ax_cE {Z : ab_Z} {d : Nat → Nat → Nat} {N x w r n t : Nat} (hW : ax_W Z d N) (hx : ∀ q, ab_zl Z q x → q = w) (hw : ∀ q, ab_zl Z q w → q = x) (hgw : ab_zl Z w x → ∀ g, ab_zl Z w g → d w x ≤ d w g + 1) (hgx : ab_zl Z w x → ab_zl Z x w → ∀ g, ab_zl Z x g → d w x ≤ d x g + 1) (hg : ∀ g, ab_zl Z x g → r ≤ d x g) (hn0 : ab_zD Z 0 4 x 0 < n) (hbn : ab_bn Z N x n t) (ht : ab_zn Z 0 + 34 ≤ t) : ax_E Z d N x r n (ab_zn Z N) := by
  have hW' := hW
  obtain ⟨h, hL, hG, hl8, hq⟩ := hW'
  refine ⟨hn0, fun i hi _ v hv hvr hvn => ?_⟩
  obtain ⟨t', hb', dd, ht', d1, _⟩ := ab_wcI h i hi v x (by omega)
  obtain ⟨b, hbi, s1, s2, s3, s4, s5, s6, s7, s8⟩ := ab_srcI h i hi v x (by omega)
  have d7 : d x v ≤ 7 := by
    rcases hG.2.2.2.2.2.2 x v with e | e
    · exact e
    · have := h.2.2.2.2.2.2.1 i hi
      obtain ⟨j0, j1, j2, _⟩ := hb'
      have := ab_nowm h (Nat.zero_le j0) (by omega)
      have hD2 : ab_zD Z i 2 v x ≤ 126 := by omega
      rcases s3 with ⟨y30, _⟩ | y31
      · have mr : ab_rc Z (ab_zX Z b) := ⟨by omega, Or.inl (by rw [s4]; omega)⟩
        have hwk := ab_hatr h (fun a b z => (hl8 a b z).1) (by omega) s1 y30 mr
        rw [s4, s2] at hwk
        exact ab_gd7 hG _ _ _ _ hwk
      · obtain ⟨hu, _⟩ := h.2.2.2.2.2.1 b (by omega) s1
        have lip := hG.2.1 x _ _ hu
        obtain ⟨j2, a2, w2, rr, c1, c2, c3, c4, c5, c6, c7, c8, c9, c10, c11, c12⟩ := ax_hT1 hW (show b < N by omega) s1 s4 y31 hn0 hbn (by omega) (by omega)
        have fc := ab_fcI h rr c4.1 _ c4.2.1 (by have := c4.2.2.1; omega) (ax_frn c4)
        have := fc.2.2.2.1
        rw [s4] at this
        have e100 : d x v = 100 := e
        rcases hG.2.2.2.2.2.2 x (ab_zp Z b) with y | y
        · rw [s2] at lip; omega
        · exfalso
          have ww := hx w2 c2.2.1.2.2.1
          rw [ww] at c2 c4
          have := (ax_strt hW hx hw (hgw c2.2.1.2.2.1) (hgx c2.2.1.2.2.1) c1 c2 (by have := c2.2.2.2.2.2.2.2.2.1; have := c2.2.2.2.2.2.2.2.2.2.1; omega) rr _ c4).1
          have dw := c2.2.2.2.2.2.2.2.2.2.1
          rw [c6] at this
          have tri := ab_tri hG x w (d w (ab_zp Z b)) (ab_zp Z b) rfl (by omega)
          have := hG.2.2.1 x w
          omega
  refine ⟨?_, d7⟩
  rcases s3 with ⟨y30, _⟩ | y31
  · have mr : ab_rc Z (ab_zX Z b) := ⟨by omega, Or.inl (by rw [s4]; omega)⟩
    obtain ⟨b', hb'm, hba, hb6, hb8, hbt'⟩ := ab_hask h (by omega) s1 y30 mr
    rw [s4] at hba hb6
    have hgg := hg _ hba.2.2.1
    have qx := ab_qx h hL (show b' < N by omega) hba hi (by rw [← s5, hb6]) (ab_gdb hG (ab_zX Z b 5) x (d x v) v rfl d7 (by omega))
    omega
  · obtain ⟨j2, a2, w2, rr, c1, c2, c3, c4, c5, c6, c7, c8, c9, c10, c11, c12⟩ := ax_hT1 hW (show b < N by omega) s1 s4 y31 hn0 hbn (by omega) (by omega)
    have ww := hx w2 c2.2.1.2.2.1
    rw [ww] at c2 c4
    have jd := c2.2.2.2.2.2.2.2.2.1
    have dw := c2.2.2.2.2.2.2.2.2.2.1
    obtain ⟨p1, p2⟩ := ax_strt hW hx hw (hgw c2.2.1.2.2.1) (hgx c2.2.1.2.2.1) c1 c2 (by omega) rr _ c4
    rw [c5, s2] at p2
    have tri := ab_tri hG w v (d x v) x (hG.2.2.1 v x) d7
    omega
