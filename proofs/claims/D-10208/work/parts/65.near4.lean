/-! ## x and w two links apart, goals of each other: their TELLs are straight -/
/-- the second link of a TELL over two links: it ends there, or is bent by a TELL of its goal -/
theorem ax_f1 {Z : ab_Z} {d : Nat → Nat → Nat} {N j a c z i : Nat} {f : ab_F} (hW : ax_W Z d N) (hj : j < N) (ht : ab_tb Z d j a c z) (h2 : d z c = 2) (h20 : ab_zn Z 0 + 20 ≤ ab_zn Z a) (hf : ax_fr Z N j c z i f) (h7 : f 7 = 1) :
    f 2 = z ∨ ∃ j2 a2 q b r2, j2 < N ∧ ab_tb Z d j2 a2 z q ∧ 2 ≤ ab_zX Z b 7 + 1 ∧ ab_zn Z j2 + ab_zX Z b 7 + 1 ≤ ab_zn Z j + 1 ∧ ab_zn Z a ≤ ab_zn Z j2 ∧ b < N ∧ ab_zK Z b = 1 ∧ ab_zs Z b = f 1 ∧ ax_fr Z N j2 z q r2 (ab_zX Z b) := by
  have hW' := hW
  obtain ⟨h, hL, hG, hl8, hq⟩ := hW'
  have hl : ∀ a b, ab_zl Z a b → a ≠ b := fun a b z => (hl8 a b z).1
  have aN : a < N := by have := ht.1; omega
  obtain ⟨q1, q2, q3⟩ := ab_qf h aN ht.2.1
  have hbq : ab_bn Z N z (ab_zD Z (a + 1) 4 z 0) (ab_zn Z a) := ⟨a, aN, rfl, by omega, Nat.le_refl _⟩
  have jd := ht.2.2.2.2.2.2.2.2.1
  obtain ⟨g2, gn, gz, gu, g0⟩ := ab_tnr h hl hj ht i hf.1 f hf.2.1 hf.2.2.1 hf.2.2.2.1 hf.2.2.2.2.1 hf.2.2.2.2.2.1 hf.2.2.2.2.2.2
  obtain ⟨ki, sz, x7, x3, m, hm, hfm⟩ := ax_prv hW hj ht hf (by omega)
  have iN := hf.1
  have h8 : ab_zD Z (i + 1) 1 (f 1) z ≠ 8 := by
    rw [← g2]
    have := (h.2.1 _ _ gu).2.2.1
    omega
  obtain ⟨t', hb', dd, ht', d1, _, _, hpp⟩ := ab_wcI h (i + 1) (by omega) (f 1) z (by omega)
  obtain ⟨_, r2, _⟩ := hpp h8
  rw [← g2] at r2
  have hn1 : ab_zn Z (i + 1) = ab_zn Z i := by rw [ab_now1 h iN, if_neg (by omega)]
  have f0 : f 0 = ab_zn Z i := (ab_d1 hf.2.1 (by have := hf.2.2.1; omega)).1
  have fb := hf.2.2.2.2.1.2.1
  -- the sender is next to z
  have adj : d z (f 1) = 1 := by
    obtain ⟨p2, pn, pz, pu, p0⟩ := ab_tnr h hl hj ht m hfm.1 _ hfm.2.1 hfm.2.2.1 hfm.2.2.2.1 hfm.2.2.2.2.1 hfm.2.2.2.2.2.1 hfm.2.2.2.2.2.2
    have mj := p0 (by omega)
    have p8 : ab_zD Z (m + 1) 1 (ab_zX Z i 1) z ≠ 8 := by
      rw [← p2]
      have := (h.2.1 _ _ pu).2.2.1
      omega
    obtain ⟨t1, hb1, _, ht1, _, _, _, hp1⟩ := ab_wcI h (m + 1) (by have := hfm.1; omega) (ab_zX Z i 1) z (by omega)
    obtain ⟨_, rr, _⟩ := hp1 p8
    have lb := ab_bnl h hbq hb1 pn
    have hm1 : ab_zn Z (m + 1) = ab_zn Z m := by rw [ab_now1 h hfm.1, if_neg (by rw [mj, ht.2.2.1]; omega)]
    have hmj : ab_zn Z m = ab_zn Z j := by rw [mj]
    rw [← p2] at rr
    have e1 : f 1 = ab_zs Z i := (ab_d1 hf.2.1 (by have := hf.2.2.1; omega)).2.1
    have e2 : ab_zX Z i 2 = ab_zs Z i := (h.2.2.2.2.2.1 i iN ki).2.2.1
    rw [e2, ← e1] at rr
    have : 1 ≤ d z (f 1) := ax_d1 hW (fun q => gz q.symm)
    omega
  by_cases one : ab_zD Z (i + 1) 2 (f 1) z = 1
  · exact Or.inl (hG.2.2.2.1 z _ (by omega)).symm
  · obtain ⟨b, hbi, s1, s2, s3, s4, s5, s6, s7, s8⟩ := ab_srcI h (i + 1) (by omega) (f 1) z (by omega)
    rcases s3 with ⟨y30, _⟩ | y31
    · exfalso
      have mr : ab_rc Z (ab_zX Z b) := ⟨by omega, Or.inl (by rw [s4]; omega)⟩
      obtain ⟨b', hb'm, hba, hb6, hb8, hbt'⟩ := ab_hask h (by omega) s1 y30 mr
      rw [s4] at hba hb6
      obtain ⟨p, hp1, hp2⟩ := hG.2.2.2.2.1 z (f 1) (by omega) (by omega)
      have pz : p = z := (hG.2.2.2.1 z p (by omega)).symm
      rw [pz] at hp1
      have qx := ab_qx h hL (show b' < N by omega) hba (show i + 1 ≤ N by omega) (by rw [← s5, hb6]) (show ab_gd (ab_zu Z) (ab_zX Z b 5) z 1 (f 1) from ⟨z, rfl, (hl8 _ _ hba.2.2.1).1, hp1⟩)
      omega
    · obtain ⟨j2, a2, w2, rr, c1, c2, c3, c4, c5, c6, c7, c8, c9, c10, c11, c12⟩ := ax_hT1 hW (show b < N by omega) s1 s4 y31 q2 hbq (by omega) (by omega)
      have bb : ab_bn Z N z (ab_zD Z (i + 1) 3 (f 1) z) (ab_zn Z j2) := ⟨j2, c1, rfl, by omega, by omega⟩
      have eb := ab_bnu h hb' bb
      exact Or.inr ⟨j2, a2, w2, b, rr, c1, c2, by omega, by omega, c10, by omega, s1, s2, c4⟩
/-- the TELL of x to w goes over two links -/
theorem ax_st2 {Z : ab_Z} {d : Nat → Nat → Nat} {N x w jj aw i : Nat} {f : ab_F} (hW : ax_W Z d N) (hU : ax_U Z N) (hx : ∀ q, ab_zl Z q x → q = w) (hv0 : ∀ q, ab_zl Z q w → q = x) (h2 : d w x = 2) (hj : jj < N) (ht : ab_tb Z d jj aw x w) (h20 : ab_zn Z 0 + 24 ≤ ab_zn Z aw) (hN : ab_zn Z jj + 4 ≤ ab_zn Z N) (hf : ax_fr Z N jj x w i f) (h7 : f 7 = 1) : f 2 = w := by
  have hW' := hW
  obtain ⟨h, hL, hG, hl8, hq⟩ := hW'
  have hl : ∀ a b, ab_zl Z a b → a ≠ b := fun a b z => (hl8 a b z).1
  have jd := ht.2.2.2.2.2.2.2.2.1
  have h2' : d x w = 2 := by rw [hG.2.2.1 x w]; exact h2
  rcases ax_f1 hW hj ht h2 (by omega) hf h7 with e | ⟨j2, a2, q, b, r2, c1, c2, c3, c4, c5, c6, c7, c8, c9⟩
  · exact e
  · exfalso
    have qx := hv0 q c2.2.1.2.2.1
    rw [qx] at c2 c9
    have jd2 := c2.2.2.2.2.2.2.2.2.1
    obtain ⟨i', g, hg, eg⟩ := ax_dn hW c1 c2 (ab_zX Z b 7 - 1) r2 _ c9 (by omega)
    have g7 : g 7 = 1 := by omega
    have gt : ab_zn Z i' = ab_zn Z j2 + 1 := by
      have h1 : g 0 = ab_zn Z i' := (ab_d1 hg.2.1 (by have := hg.2.2.1; omega)).1
      have := hg.2.2.2.2.1.2.1
      omega
    have toX : g 2 = x → False := by
      intro e
      obtain ⟨m1, hm1, hmN, k1, kx, kn, ks, kp⟩ := hL.1 i' g hg.1 hg.2.1 (by
        have h1 : g 0 = ab_zn Z i' := (ab_d1 hg.2.1 (by have := hg.2.2.1; omega)).1
        omega)
      have en := ax_end hW hU c1 c2 hmN k1 (by rw [ks, e]) (by rw [kx]; exact hg) r2 _ c9
      rw [kx] at en
      obtain ⟨_, ee⟩ := ax_uq hW hU c1 c2 1 r2 i' _ _ c9 hg (by omega) g7
      have e2 : ab_zX Z b 2 = ab_zs Z b := (h.2.2.2.2.2.1 b c6 c7).2.2.1
      rw [ee, e, c8] at e2
      -- the sender of f is x: but it has heard it
      obtain ⟨ki, sz, x7, x3, m, hm, hfm⟩ := ax_prv hW hj ht hf (by omega)
      have e1 : f 1 = ab_zs Z i := (ab_d1 hf.2.1 (by have := hf.2.2.1; omega)).2.1
      have hu := (h.2.2.2.2.2.1 i hf.1 ki).1
      obtain ⟨p2, pn, pz, pu, p0⟩ := ab_tnr h hl hj ht m hfm.1 _ hfm.2.1 hfm.2.2.1 hfm.2.2.2.1 hfm.2.2.2.2.1 hfm.2.2.2.2.2.1 hfm.2.2.2.2.2.2
      have mj := p0 (by omega)
      have s1 : ab_zX Z i 1 = x := by
        have := (ab_d1 hfm.2.1 (by have := hfm.2.2.1; omega)).2.1
        rw [mj, ht.2.2.2.1] at this
        exact this
      have s2 : ab_zX Z i 1 = ab_zp Z i := (h.2.2.2.2.2.1 i hf.1 ki).2.1
      rw [← s2, s1, ← e1, ← e2] at hu
      exact (h.2.1 _ _ hu).2.2.2 rfl
    rcases ax_f1 hW c1 c2 h2' (by omega) hg g7 with e | ⟨j3, a3, q', b', r3, e1, e2, e3, e4, e5, e6, e7, e8, e9⟩
    · exact toX e
    · have qw := hx q' e2.2.1.2.2.1
      rw [qw] at e2
      have := ab_tone h e1 hj e2 ht (by omega) (by omega)
      rw [this] at e4
      omega
theorem ax_AL2 {Z : ab_Z} {d : Nat → Nat → Nat} {N a x y w p jT : Nat} (hW : ax_W Z d N) (h0 : ab_t0 Z N) (hU : ax_U Z N) (hnp : ab_np Z N) (hd : d x y = 1) (haN : a < N) (ha : ab_ask Z a x y) (ht : ab_zn Z 0 + 31 ≤ ab_zn Z a) (hN : ab_zn Z a + 46 ≤ ab_zn Z N)
    (hx : ∀ q, ab_zl Z q x → q = w) (hy : ∀ q, ¬ ab_zl Z y q) (hv0 : ∀ q, ab_zl Z q w → q = x) (hdw : d w x ≤ 2)
    (pa : a < p) (p2 : p < N) (p3 : ab_zK Z p = 1) (p4 : ab_zs Z p = y) (p5 : ab_zX Z p 3 = 3) (p6 : ab_zX Z p 4 = x) (p7 : ab_zX Z p 5 = y) (p8 : ab_zX Z p 6 = ab_zc Z x y) (p10 : ab_zn Z p ≤ ab_zn Z a + 35) (hjT : jT < p) (o5 : ab_zD Z (a + 1) 4 x 0 ≤ ab_zD Z (jT + 1) 3 y x) : False := by
  have hW' := hW
  obtain ⟨h, hL, hG, hl8, hq⟩ := hW'
  have hl : ∀ a b, ab_zl Z a b → a ≠ b := fun a b z => (hl8 a b z).1
  obtain ⟨hxy, x8, y8⟩ := hl8 _ _ ha.2.2.1
  obtain ⟨q1, q2, q3⟩ := ab_qf h haN ha
  have hbq : ab_bn Z N x (ab_zD Z (a + 1) 4 x 0) (ab_zn Z a) := ⟨a, haN, rfl, by omega, Nat.le_refl _⟩
  have hlink : ab_zu Z x y := by
    obtain ⟨p, hp1, hp2⟩ := hG.2.2.2.2.1 x y (by omega) (by omega)
    have : p = x := (hG.2.2.2.1 x p (by omega)).symm
    rw [this] at hp1
    exact hp1
  have hac := hnp.1 p p2 p3 p5 (by rw [p7, p4])
  rw [p6, p8, p4] at hac
  have hac2 : ab_za Z x y = ab_zc Z x y + 1 := by
    rcases hnp.2.2 x y ha.2.2.1 with z | z
    · exact absurd z.symm hac
    · exact z
  have hny : ab_zD Z (a + 1) 4 x 0 ≤ ab_zD Z p 3 y x := Nat.le_trans o5 (ab_nrm h (by omega) (by omega))
  -- a direct way brings the answer
  have direct : ab_zD Z p 2 y x = 1 → False := by
    intro one
    have hc := ax_dl hW (fun e => hxy e.symm) q2 (hy x) p (by omega) hny one
    have so : ab_zO Z p (ab_pt (ab_zn Z p) y (ab_zD Z p 1 y x) (ab_fr 4 y x (ab_za Z x y) 0 8)) := by
      unfold ab_zO ab_zY
      rw [p3, ab_do1, p4]
      have := ab_ano (u := ab_zu Z) (ac := ab_za Z) (s := y) (p := ab_zp Z p) (x := ab_zX Z p) (D := ab_zD Z p) p5 p7 (by rw [p6, hc]; omega) (by rw [p6, hc]; exact (h.2.1 _ _ hlink).1)
      rw [p6] at this
      exact this
    rw [hc] at so
    obtain ⟨f, fk, fN, f1, fx, fn, fs, fp⟩ := hL.1 p _ p2 so (by show ab_zn Z p + 2 ≤ _; omega)
    have f4 : ab_zs Z f = x := fs
    have f5 : ab_zX Z f 3 = 4 := by rw [fx]; rfl
    have f6 : ab_zX Z f 4 = y := by rw [fx]; rfl
    have f7 : ab_zX Z f 5 = x := by rw [fx]; rfl
    have f8 : ab_zX Z f 6 = ab_za Z x y := by rw [fx]; rfl
    have := hnp.2.1 f fN f1 f5 (by rw [f7, f4])
    rw [f4, f6, f8] at this
    exact this hac2
  obtain ⟨b, hbp, s1, s2, s3, s4, s5, s6, s7, s8⟩ := ab_srcI h p (by omega) y x (by omega)
  have mrb : ab_rc Z (ab_zX Z b) := ⟨by rcases s3 with ⟨y, _⟩ | y <;> omega, Or.inl (by rw [s4]; omega)⟩
  rcases s3 with ⟨x30, _⟩ | x31
  · obtain ⟨b', hb'm, hba, hb6, hb8, hbt'⟩ := ab_hask h (by omega) s1 x30 mrb
    rw [s4] at hba hb6
    have g1 : ab_gd (ab_zu Z) (ab_zX Z b 5) x 1 y := ⟨x, rfl, (hl8 _ _ hba.2.2.1).1, hlink⟩
    have qx := ab_qx h hL (show b' < N by omega) hba (show p ≤ N by omega) (by rw [← s5, hb6]) g1
    exact direct (by omega)
  · obtain ⟨jj, aw, w', r', c1, c2, c3, c4, c5, c6, c7, c8, c9, c10, c11, c12⟩ := ax_hT1 hW (show b < N by omega) s1 s4 x31 q2 hbq (by omega) (by omega)
    have ww := hx w' c2.2.1.2.2.1
    rw [ww] at c2 c4
    have jd := c2.2.2.2.2.2.2.2.2.1
    obtain ⟨hwx, w8, _⟩ := hl8 _ _ c2.2.1.2.2.1
    have d1 : 1 ≤ d w x := ax_d1 hW hwx
    have hbt := ab_nowm h (show b ≤ p by omega) (by omega)
    have hwy : w ≠ y := fun e => hy x (by rw [← e]; exact c2.2.1.2.2.1)
    by_cases e1 : d w x = 1
    · have := (ax_dirT hW c1 c2 e1 r' c4.1 _ c4.2.1 c4.2.2.1 c4.2.2.2.1 c4.2.2.2.2.1 c4.2.2.2.2.2.1 c4.2.2.2.2.2.2).1
      exact direct (by omega)
    · by_cases e7 : ab_zX Z b 7 = 0
      · exact direct (by omega)
      · obtain ⟨i', f', hf', e'⟩ := ax_dn hW c1 c2 (ab_zX Z b 7 - 1) r' _ c4 (by omega)
        have f7 : f' 7 = 1 := by omega
        have fw := ax_st2 hW hU hx hv0 (by omega) c1 c2 (by omega) (by omega) hf' f7
        have f0 : f' 0 = ab_zn Z i' := (ab_d1 hf'.2.1 (by have := hf'.2.2.1; omega)).1
        have fb := hf'.2.2.2.2.1.2.1
        obtain ⟨m1, hm1, hmN, k1, kx, kn, ks, kp⟩ := hL.1 i' f' hf'.1 hf'.2.1 (by omega)
        have en := ax_end hW hU c1 c2 hmN k1 (by rw [ks, fw]) (by rw [kx]; exact hf') r' _ c4
        rw [kx] at en
        obtain ⟨_, ee⟩ := ax_uq hW hU c1 c2 1 r' i' _ _ c4 hf' (by omega) f7
        rw [ee, fw, s2] at c5
        exact hwy c5
/-- x next to its goal y, x and w goals of each other at most, near one another -/
theorem ax_R1d {Z : ab_Z} {d : Nat → Nat → Nat} {N x y z w u lm : Nat} (hR : ax_LR lm Z d N) (hx : ∀ q, ab_zl Z q x → q = w) (hv0 : ∀ q, ab_zl Z q w → q = x) (hdw : d w x ≤ 2)
    (hys : ∀ q, ¬ ab_zl Z y q) (hz : ∀ q, ab_zl Z q y → q = x ∨ q = z) (hzx : z ≠ x) (hu : ∀ q, ab_zl Z q z → q = u) (hyu : y ≠ u) (hdu : 2 ≤ d z u) (hy : ab_zl Z x y) (hd : d x y = 1) (hN : ab_zn Z 0 + 300 ≤ ab_zn Z N) : False := by
  have hR' := hR
  obtain ⟨h, hL, hG, hl8, h0, hU, hnp⟩ := hR'
  obtain ⟨a, s1, s2, s3, s4⟩ := ab_askx h hL h0 hy (show ab_zn Z 0 ≤ ab_zn Z 0 + 30 by omega) (by omega)
  obtain ⟨a', c1, c2, c3, c4, c5, nT, i0, j0, c6, c7, c8, c9, c10, c11⟩ := ax_LN hR hd s1 s2 (by omega) (by omega) hx hys hz
  obtain ⟨k, e, k1, e1, e2, k3, e3, hW, h0', hU', hnp'⟩ := ax_wn 80 46 hR c2 (by omega) (by omega) (by omega) (by omega) (by omega)
  have na := ax_shn (Z := Z) (show k ≤ a' by omega)
  have ne := ax_shn (Z := Z) (show k ≤ e by omega)
  have n0 : ab_zn (ab_sh Z k) 0 = ab_zn Z k := rfl
  have kj : k < j0 := by
    by_cases q : k < j0
    · exact q
    · have := ab_nowm h (show j0 ≤ k by omega) (by omega)
      omega
  have je : j0 < e := by
    by_cases q : j0 < e
    · exact q
    · have := ab_nowm h (show e ≤ j0 by omega) (by omega)
      omega
  have own := ab_ownm (c := y) h (show k ≤ j0 by omega) (by omega)
  have hb0 : ab_zD (ab_sh Z k) 0 4 y 0 < nT := by
    show ab_zD Z k 4 y 0 < nT
    omega
  have hbn : ab_bn (ab_sh Z k) (e - k) y nT (ab_zn Z a + 1) := by
    refine ⟨j0 - k, by omega, by rw [ax_shn (by omega)]; exact c9, by rw [ab_shD (by omega)]; exact c10, ?_⟩
    rw [ab_shD1 (by omega)]
    exact c11
  have hrx : nT ≤ ab_zD (ab_sh Z k) (a' - k) 3 x y := by
    rw [ab_shD (by omega)]
    exact Nat.le_trans c7 (ab_nrm h (by omega) (by omega))
  have hask := ab_sha (x := x) (y := y) (show k ≤ a' by omega) c3
  obtain ⟨p, p1, p2, p3, p4, p5, p6, p7, p8, p9, p10, jT, p11, p12⟩ := ax_P21 (a := a' - k) (w := w) hW h0' hU' hnp' hd (by omega) hask (by omega) (by omega) hx hys hz hu hyu hdu hzx hb0 hbn (by omega) hrx
  exact ax_AL2 (a := a' - k) hW h0' hU' hnp' hd (by omega) hask (by omega) (by omega) hx hys hv0 hdw p1 p2 p3 p4 p5 p6 p7 p8 p10 p11 p12
