/-! ## thin surroundings of x: one station at each small distance -/
/-- x has one neighbour l: the way of l to w never leads over x -/
theorem ax_lpt {Z : ab_Z} {d : Nat → Nat → Nat} {N x l w nb t0 : Nat} (hW : ax_W Z d N) (hleaf : ∀ v, ab_zu Z v x → v = l) (x8 : x < 8) (hw : ∀ q, ab_zl Z q w → q = x) (hwl : w ≠ l) (hwx : w ≠ x)
    (hb0 : ab_zD Z 0 4 w 0 < nb) (hbn : ab_bn Z N w nb t0) (ht0 : ab_zn Z 0 + 17 ≤ t0) : ∀ i, i ≤ N → nb ≤ ab_zD Z i 3 l w → ab_zD Z i 1 l w ≠ x := by
  have hW' := hW
  obtain ⟨h, hL, hG, hl8, hq⟩ := hW'
  have hl : ∀ a b, ab_zl Z a b → a ≠ b := fun a b z => (hl8 a b z).1
  intro i hi hn e
  obtain ⟨j, hji, s1, s2, s3, s4, s5, s6, s7, s8⟩ := ab_srcI h i hi l w (by omega)
  have hjN : j < N := by omega
  have zp : ab_zp Z j = x := by
    rcases s7 with z | z
    · omega
    · omega
  rcases s3 with ⟨x30, hs⟩ | x31
  · -- a question that comes from x was at l before
    obtain ⟨b, hb1, hb2, hb3, hb4, hb5, hb6⟩ := ab_hrd h hjN s1 (by omega) (by rw [s4]; omega)
    obtain ⟨f0, f1, fu, y⟩ := ab_d1 hb2 (by omega)
    have f1' : ab_zX Z j 1 = ab_zs Z b := f1
    have f0' : ab_zX Z j 0 = ab_zn Z b := f0
    have zb : ab_zs Z b = x := by omega
    rcases y with ⟨hk', e3, e4, e5, e6, e7, eg, y0, y1⟩ | ⟨e4, e7, e6, es, y⟩
    · have b3 : ab_zX Z b 3 = 0 := by omega
      have b8 := (y0 b3).1
      obtain ⟨c, hc1, hc2, hc3, hc4, hc5, hc6⟩ := ab_hrd h (show b < N by omega) hk' (by omega) (by rw [← e4, ← e6, s4]; omega)
      obtain ⟨k0, k1, ku, y'⟩ := ab_d1 hc2 (by omega)
      have k1' : ab_zX Z b 1 = ab_zs Z c := k1
      have k0' : ab_zX Z b 0 = ab_zn Z c := k0
      rw [zb] at hc6
      have zc : ab_zs Z c = l := by
        have := hleaf _ hc6
        omega
      rcases y' with ⟨gk', g3, g4, g5, g6, g7, gg, z0, z1⟩ | ⟨g4, g7, g6, gs, y'⟩
      · have c3 : ab_zX Z c 3 = 0 := by omega
        have c8 := (z0 c3).1
        have := h.2.2.2.2.2.2.2.1 c j (by omega) hjN s1 x30 gk' (by rw [zc, s2]) c3 (by omega) (by omega) (by omega)
        rw [s2, s4] at this
        exact hs this
      · exact hwl (by rw [← zc, ← g4, ← e4, s4])
    · exact hwx (by rw [← s4, e4, zb])
  · obtain ⟨jT, aT, u', r', c1, c2, c3, c4, c5, c6, c7, c8, c9, c10, c11, c12⟩ := ax_hT1 hW hjN s1 s4 x31 hb0 hbn ht0 (by omega)
    have ux := hw u' c2.2.1.2.2.1
    rw [ux] at c2 c4
    obtain ⟨_, _, gz, _, _⟩ := ab_tnr h hl c1 c2 r' c4.1 _ c4.2.1 c4.2.2.1 c4.2.2.2.1 c4.2.2.2.2.1 c4.2.2.2.2.2.1 c4.2.2.2.2.2.2
    exact gz (by rw [c6, zp])
/-- so no TELL to w comes to x -/
theorem ax_neL {Z : ab_Z} {d : Nat → Nat → Nat} {N x l w j az y i : Nat} {f : ab_F} (hW : ax_W Z d N) (hleaf : ∀ v, ab_zu Z v x → v = l) (x8 : x < 8) (hw : ∀ q, ab_zl Z q w → q = x) (hwl : w ≠ l) (hwx : w ≠ x)
    (hj : j < N) (ht : ab_tb Z d j az y w) (h17 : ab_zn Z 0 + 17 ≤ ab_zn Z az) (hf : ax_fr Z N j y w i f) : f 2 ≠ x := by
  have hW' := hW
  obtain ⟨h, hL, hG, hl8, hq⟩ := hW'
  have hl : ∀ a b, ab_zl Z a b → a ≠ b := fun a b z => (hl8 a b z).1
  obtain ⟨g2, gn, gz, gu, g0⟩ := ab_tnr h hl hj ht i hf.1 f hf.2.1 hf.2.2.1 hf.2.2.2.1 hf.2.2.2.2.1 hf.2.2.2.2.2.1 hf.2.2.2.2.2.2
  intro e
  rw [e] at gu
  have fl := hleaf _ gu
  have azN : az < N := by have := ht.1; omega
  obtain ⟨q1, q2, q3⟩ := ab_qf h azN ht.2.1
  rw [fl] at g2 gn
  exact ax_lpt hW hleaf x8 hw hwl hwx q2 ⟨az, azN, rfl, by omega, Nat.le_refl _⟩ h17 (i + 1) (by have := hf.1; omega) gn (by rw [← g2, e])
/-- a way that leads straight into a ball of straight ways is not lost -/
theorem ax_dl2 {Z : ab_Z} {d : Nat → Nat → Nat} {N c v n t E : Nat} (hW : ax_W Z d N) (hE : ax_E Z d N c t n E) (hs : ∀ z, ab_zl Z z c → t < d c z) (hvc : v ≠ c) (hl : ¬ ab_zl Z v c) : ∀ i, i ≤ N → ab_zn Z i ≤ E → n ≤ ab_zD Z i 3 v c → ab_zD Z i 2 v c ≤ t + 1 → ab_zD Z i 1 v c ≠ 8 := by
  have h := hW.1
  have hG := hW.2.2.1
  have hn0 := hE.1
  intro i
  induction i with
  | zero =>
    intro _ _ hn _
    have := h.2.2.2.2.1 v c
    omega
  | succ i ih =>
    intro hi hti hn h2
    have hi' : i < N := by omega
    have hD := h.1 i hi'
    have hmo := ab_nowm h (show i ≤ i + 1 by omega) hi
    rcases ab_Ry h hi' v c with ⟨s1, s2, s3⟩ | ⟨hk, ev, ec, hs', hl', l1, l2, l3⟩ | ⟨ev, ⟨y0, y1, y2, y3, _⟩, y⟩
    · rw [← hD] at s1 s2 s3
      rw [s1]
      exact ih (by omega) (by omega) (by omega) (by omega)
    · rw [← hD] at l1
      rw [l1]
      have := (h.2.1 _ _ (h.2.2.2.2.2.1 i hi' hk).1).2.1
      omega
    · exfalso
      rw [← hD] at y2 y3
      obtain ⟨_, _, _, _, _, _, _, hp⟩ := ab_wcI h i (by omega) v c (by omega)
      obtain ⟨p1, p2, _⟩ := hp y0
      rcases y with y | ⟨k1, x3, x5, xv, xb, xn⟩ | ⟨k2, kc, kV, kl⟩
      · exact absurd p1 y
      · obtain ⟨hu, e1, e2, ho⟩ := h.2.2.2.2.2.1 i hi' k1
        rcases ho with ⟨⟨j, hj, ho⟩, e0⟩ | ho
        · obtain ⟨f1, f0, f8, f6⟩ := ab_d2 ho x3
          have hDj := h.1 j (by omega)
          have f6' : ab_zX Z i 6 = ab_zD Z (j + 1) 3 (ab_zs Z j) c := by rw [hDj, x5]; exact f6
          have f8' : ab_zD Z (j + 1) 1 (ab_zs Z j) c = 8 := by rw [hDj, x5]; exact f8
          have ep : ab_zs Z j = ab_zD Z i 1 v c := by rw [xb, ← e1, f1]
          have hji := ab_nowm h (show j + 1 ≤ i by omega) (by omega)
          by_cases ec : ab_zD Z i 1 v c = c
          · rw [ep, ec] at f6'
            have := ab_self h c (j + 1) (by omega)
            omega
          · rw [ep] at f6' f8'
            rcases ax_nl hW hE (fun z hz => Nat.le_of_lt (hs z hz)) (j + 1) (by omega) (by omega) _ ec (by omega) (by omega) with z | ⟨z1, b, z2, z3, _⟩
            · exact z f8'
            · have := hs _ z3.2.2.2.2
              omega
        · have := ho.1.2.1 x3
          rw [← x5] at this
          omega
      · exact hl kl
theorem ax_om2 {n r : Nat} (h1 : n ≠ 1) (h2 : 1 ≤ n) (h3 : n ≤ r - 1) (h4 : r ≤ 3) : n = 2 ∧ 2 < r := by omega
/-- thin surroundings: the ways to x near x are straight -/
theorem ax_thE {Z : ab_Z} {d : Nat → Nat → Nat} {N a x y w r : Nat} (hW : ax_W Z d N) (h0 : ab_t0 Z N) (r2 : 2 ≤ r) (r3 : r ≤ 3) (hx : ∀ q, ab_zl Z q x → q = w) (hw : ∀ q, ab_zl Z q w → q = x) (hg : ∀ g, ab_zl Z x g → r ≤ d x g) (hth : ∀ v v', d x v = d x v' → d x v < r → v = v') (hwd : r ≤ d x w)
    (haN : a < N) (ha : ab_ask Z a x y) (h20 : ab_zn Z 0 + 24 ≤ ab_zn Z a) : ax_E Z d N x (r - 1) (ab_zD Z (a + 1) 4 x 0) (ab_zn Z a + 40) := by
  have hW' := hW
  obtain ⟨h, hL, hG, hl8, hq⟩ := hW'
  have hl : ∀ a b, ab_zl Z a b → a ≠ b := fun a b z => (hl8 a b z).1
  obtain ⟨hxy, x8, y8⟩ := hl8 _ _ ha.2.2.1
  obtain ⟨q1, q2, q3⟩ := ab_qf h haN ha
  have hbq : ab_bn Z N x (ab_zD Z (a + 1) 4 x 0) (ab_zn Z a) := ⟨a, haN, rfl, by omega, Nat.le_refl _⟩
  refine ⟨q2, fun i hi hti v hv hdv hn => ?_⟩
  obtain ⟨t', hb', w1, w2, w3, _, _, _⟩ := ab_wcI h i hi v x (by omega)
  have dv7 : d x v ≤ 7 := by omega
  have d1v : 1 ≤ d x v := ax_d1 hW (fun e => hv e.symm)
  refine ⟨?_, dv7⟩
  by_cases le : ab_zD Z i 2 v x ≤ d x v
  · omega
  exfalso
  obtain ⟨b, hbi, s1, s2, s3, s4, s5, s6, s7, s8⟩ := ab_srcI h i hi v x (by omega)
  have mrb : ab_rc Z (ab_zX Z b) := ⟨by rcases s3 with ⟨y, _⟩ | y <;> omega, Or.inl (by rw [s4]; omega)⟩
  rcases s3 with ⟨x30, _⟩ | x31
  · obtain ⟨b', hb'm, hba, hb6, hb8, hbt'⟩ := ab_hask h (by omega) s1 x30 mrb
    rw [s4] at hba hb6
    exact le (ab_qx h hL (show b' < N by omega) hba hi (by rw [← s5, hb6]) (ab_gdb hG _ x (d x v) v rfl dv7 (by have := hg _ hba.2.2.1; omega)))
  · obtain ⟨jj, aw, w', r', c1, c2, c3, c4, c5, c6, c7, c8, c9, c10, c11, c12⟩ := ax_hT1 hW (show b < N by omega) s1 s4 x31 q2 hbq (by omega) (by omega)
    have ww := hx w' c2.2.1.2.2.1
    rw [ww] at c2 c4
    have hjn : ab_zD Z (a + 1) 4 x 0 ≤ ab_zD Z (jj + 1) 4 x 0 := by omega
    have hwx : w ≠ x := (hl8 _ _ c2.2.1.2.2.1).1
    have jd := c2.2.2.2.2.2.2.2.2.1
    have d7 := c2.2.2.2.2.2.2.2.2.2.1
    have awN : aw < N := by have := c2.1; omega
    obtain ⟨t1, t2, t3, tb, tr, u1, u2, u3, u4, u5⟩ := ax_Hp (i := i) (p := v) hW haN ha (by omega) c1 c2 rfl hjn (by omega) (ax_nrI hW h0 hx haN ha (by omega) i hi hti) (by omega)
    have tbt := ab_nowm h (show tb ≤ i by omega) hi
    have tbN : tb < N := by omega
    have iN : ab_zn Z i ≤ ab_zn Z N := ab_nowm h hi (Nat.le_refl _)
    have h6 : ab_zX Z tb 6 = ab_zD Z (jj + 1) 4 x 0 := by
      have := u4.2.2.2.2.1.2.2.2.1
      rw [u4.2.2.2.2.2.1] at this
      exact this.symm
    obtain ⟨_, _, _, _, _, gtb, _⟩ := ax_Hf hW haN ha (by omega) c1 c2 hjn tbN u2 u4.2.2.1 u4.2.2.2.2.2.1 h6
    have far : ∀ s, ab_zu Z s x → d x s = 1 := by
      intro s hs
      have h1 := hG.2.1 x x s (h.2.1 _ _ hs).1
      rw [hG.1] at h1
      have := ax_d1 hW (x := x) (z := s) (fun e => (h.2.1 _ _ hs).2.2.2 e.symm)
      omega
    -- the first frame goes to the one neighbour
    obtain ⟨i0, f0, hf0, e0⟩ := ax_dn hW c1 c2 (ab_zX Z tb 7) tr _ u4 (Nat.le_refl _)
    have f70 : f0 7 = 0 := by omega
    obtain ⟨g2, gn, gz, gu, g0⟩ := ab_tnr h hl c1 c2 i0 hf0.1 f0 hf0.2.1 hf0.2.2.1 hf0.2.2.2.1 hf0.2.2.2.2.1 hf0.2.2.2.2.2.1 hf0.2.2.2.2.2.2
    have ij := g0 f70
    have f1x : f0 1 = x := by
      have := (ab_d1 hf0.2.1 (by have := hf0.2.2.1; omega)).2.1
      rw [ij, c2.2.2.2.1] at this
      exact this
    have f00 : f0 0 = ab_zn Z i0 := (ab_d1 hf0.2.1 (by have := hf0.2.2.1; omega)).1
    rw [f1x] at gu
    have df0 := far _ (h.2.1 _ _ gu).1
    obtain ⟨m1, hm1, hmN, k1, kx, kn, ks, kp⟩ := hL.1 i0 f0 hf0.1 hf0.2.1 (by rw [f00, ij]; omega)
    have n6 : f0 6 = ab_zD Z (jj + 1) 4 x 0 := by
      have := hf0.2.2.2.2.1.2.2.2.1
      rw [hf0.2.2.2.2.2.1] at this
      exact this.symm
    by_cases dv : d x v = 1
    · have ev : f0 2 = v := hth _ _ (by omega) (by omega)
      exact t2 1 (by omega) ⟨hv, by rw [← ev]; exact (h.2.1 _ _ gu).2.2.1, m1, hmN, k1, by rw [ks, ev], by rw [kx]; exact hf0.2.2.1, by rw [kx]; exact hf0.2.2.2.2.2.1, by rw [kx]; exact n6, by rw [kx]; omega⟩
    · obtain ⟨dv2, r3'⟩ := ax_om2 dv d1v hdv r3
      obtain ⟨i1, f1, hf1, e1⟩ := ax_dn hW c1 c2 (ab_zX Z tb 7 - 1) tr _ u4 (by omega)
      have f71 : f1 7 = 1 := by omega
      obtain ⟨v1, v2, v3, v4, mm, v5, v6⟩ := ax_prv hW c1 c2 hf1 (by omega)
      obtain ⟨g2', gn', gz', gu', g0'⟩ := ab_tnr h hl c1 c2 i1 hf1.1 f1 hf1.2.1 hf1.2.2.1 hf1.2.2.2.1 hf1.2.2.2.2.1 hf1.2.2.2.2.2.1 hf1.2.2.2.2.2.2
      have f11 : f1 1 = ab_zs Z i1 := (ab_d1 hf1.2.1 (by have := hf1.2.2.1; omega)).2.1
      have f10 : f1 0 = ab_zn Z i1 := (ab_d1 hf1.2.1 (by have := hf1.2.2.1; omega)).1
      -- the sender of it is the neighbour
      obtain ⟨b2, bn, bz, bu, b0⟩ := ab_tnr h hl c1 c2 mm v6.1 _ v6.2.1 v6.2.2.1 v6.2.2.2.1 v6.2.2.2.2.1 v6.2.2.2.2.2.1 v6.2.2.2.2.2.2
      have imm := b0 (by omega)
      have z1x : ab_zX Z i1 1 = x := by
        have := (ab_d1 v6.2.1 (by have := v6.2.2.1; omega)).2.1
        rw [imm, c2.2.2.2.1] at this
        exact this
      have z2 : ab_zX Z i1 2 = ab_zs Z i1 := (h.2.2.2.2.2.1 i1 hf1.1 v1).2.2.1
      rw [z1x, z2] at bu
      have dz1 := far _ (h.2.1 _ _ bu).1
      have hleaf : ∀ s, ab_zu Z s x → s = f1 1 := fun s hs => hth _ _ (by rw [f11, dz1, far s hs]) (by rw [far s hs]; omega)
      have ne : f1 2 ≠ x := by
        refine ax_neL hW hleaf x8 hw ?_ hwx c1 c2 (by omega) hf1
        intro e
        rw [e, f11, dz1] at hwd
        omega
      have d12 := hG.2.1 x _ _ gu'
      have d11 : 1 ≤ d x (f1 2) := ax_d1 hW (fun e => ne e.symm)
      have df1 : d x (f1 2) = 2 := by
        by_cases e : d x (f1 2) = 1
        · exfalso
          have := hth (f1 2) (f1 1) (by rw [e, f11, dz1]) (by omega)
          exact (h.2.1 _ _ gu').2.2.2 this.symm
        · rw [f11, dz1] at d12
          omega
      have ev : f1 2 = v := hth _ _ (df1.trans dv2.symm) (by rw [df1]; exact r3')
      obtain ⟨b3, b4⟩ := hf1.2.2.2.2.1.2
      obtain ⟨m2, hm2, hm2N, l1, lx, ln, ls, lp⟩ := hL.1 i1 f1 hf1.1 hf1.2.1 (by omega)
      have n6' : f1 6 = ab_zD Z (jj + 1) 4 x 0 := by
        have := hf1.2.2.2.2.1.2.2.2.1
        rw [hf1.2.2.2.2.2.1] at this
        exact this.symm
      exact t2 2 (by omega) ⟨hv, by rw [← ev]; exact (h.2.1 _ _ gu').2.2.1, m2, hm2N, l1, by rw [ls, ev], by rw [lx]; exact hf1.2.2.1, by rw [lx]; exact hf1.2.2.2.2.2.1, by rw [lx]; exact n6', by rw [lx]; omega⟩
/-- the TELL to x goes straight -/
theorem ax_thT {Z : ab_Z} {d : Nat → Nat → Nat} {N j a x y r : Nat} (hW : ax_W Z d N) (r2 : 2 ≤ r) (r3 : r ≤ 3) (hE : ax_E Z d N x (r - 1) (ab_zD Z (a + 1) 4 x 0) (ab_zn Z a + 40)) (hd : d x y = r) (hj : j < N) (ht : ab_tb Z d j a y x) :
    ∀ k i f, ax_fr Z N j y x i f → f 7 = k → d x (f 2) + f 7 + 1 = r := by
  have hW' := hW
  obtain ⟨h, hL, hG, hl8, hq⟩ := hW'
  have hl : ∀ a b, ab_zl Z a b → a ≠ b := fun a b z => (hl8 a b z).1
  have haN : a < N := by have := ht.1; omega
  have ha := ht.2.1
  obtain ⟨hxy, x8, y8⟩ := hl8 _ _ ha.2.2.1
  obtain ⟨q1, q2, q3⟩ := ab_qf h haN ha
  have hbq : ab_bn Z N x (ab_zD Z (a + 1) 4 x 0) (ab_zn Z a) := ⟨a, haN, rfl, by omega, Nat.le_refl _⟩
  have jd := ht.2.2.2.2.2.2.2.2.1
  intro k
  induction k with
  | zero =>
    intro i f hf e7
    obtain ⟨g2, gn, gz, gu, g0⟩ := ab_tnr h hl hj ht i hf.1 f hf.2.1 hf.2.2.1 hf.2.2.2.1 hf.2.2.2.2.1 hf.2.2.2.2.2.1 hf.2.2.2.2.2.2
    have ij := g0 e7
    have f1 : f 1 = y := by
      have := (ab_d1 hf.2.1 (by have := hf.2.2.1; omega)).2.1
      rw [ij, ht.2.2.2.1] at this
      exact this
    have kK : ab_zK Z i = 1 := by rw [ij]; exact ht.2.2.1
    have hn1 : ab_zn Z (i + 1) = ab_zn Z i := by rw [ab_now1 h hf.1, if_neg (by omega)]
    have h8 : ab_zD Z (i + 1) 1 (f 1) x ≠ 8 := by
      rw [← g2]
      have := (h.2.1 _ _ gu).2.2.1
      omega
    obtain ⟨t', hb', w1, w2, w3, _, _, hp⟩ := ab_wcI h (i + 1) (by have := hf.1; omega) (f 1) x (by omega)
    obtain ⟨_, p2, _⟩ := hp h8
    have lb := ab_bnl h hbq hb' gn
    rw [← g2] at p2
    have li := hG.2.1 x (f 2) (f 1) (h.2.1 _ _ gu).1
    rw [f1] at li w1
    have : ab_zn Z i = ab_zn Z j := by rw [ij]
    omega
  | succ k ih =>
    intro i f hf e7
    obtain ⟨g2, gn, gz, gu, g0⟩ := ab_tnr h hl hj ht i hf.1 f hf.2.1 hf.2.2.1 hf.2.2.2.1 hf.2.2.2.2.1 hf.2.2.2.2.2.1 hf.2.2.2.2.2.2
    obtain ⟨v1, v2, v3, v4, mm, v5, v6⟩ := ax_prv hW hj ht hf (by omega)
    have dd := ih mm _ v6 (by omega)
    have z2 : ab_zX Z i 2 = ab_zs Z i := (h.2.2.2.2.2.1 i hf.1 v1).2.2.1
    have f1 : f 1 = ab_zs Z i := (ab_d1 hf.2.1 (by have := hf.2.2.1; omega)).2.1
    have f0 : f 0 = ab_zn Z i := (ab_d1 hf.2.1 (by have := hf.2.2.1; omega)).1
    have fb := hf.2.2.2.2.1.2.1
    have hn1 : ab_zn Z (i + 1) = ab_zn Z i := by rw [ab_now1 h hf.1, if_neg (by omega)]
    have h8 : ab_zD Z (i + 1) 1 (f 1) x ≠ 8 := by
      rw [← g2]
      have := (h.2.1 _ _ gu).2.2.1
      omega
    rw [z2, ← f1] at dd
    obtain ⟨_, p2, _, _⟩ := ax_gws hW hE (show i + 1 ≤ N by have := hf.1; omega) (by omega) gz (by omega) gn h8
    rw [← g2] at p2
    omega
