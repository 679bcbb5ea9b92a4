/-! ## neighbours: the attempt, once more -/
/-- the piece is there: its answer comes back, but for V(y,x) -/
theorem ax_ans {Z : ab_Z} {d : Nat → Nat → Nat} {N a x y r Ex j p : Nat} (hW : ax_W Z d N) (hnp : ab_np Z N) (hEx : ax_E Z d N x r (ab_zD Z (a + 1) 4 x 0) Ex) (hsx : ∀ z, ab_zl Z z x → r ≤ d x z) (hd : d x y = r) (haN : a < N) (ha : ab_ask Z a x y)
    (o5 : ab_zD Z (a + 1) 4 x 0 ≤ ab_zD Z (j + 1) 3 y x) (hjp : j < p) (p2 : p < N) (p3 : ab_zK Z p = 1) (p4 : ab_zs Z p = y) (p5 : ab_zX Z p 3 = 3) (p6 : ab_zX Z p 4 = x) (p7 : ab_zX Z p 5 = y) (p8 : ab_zX Z p 6 = ab_zc Z x y)
    (pn : ab_zn Z p + r + 1 ≤ ab_zn Z N) (pE : ab_zn Z p + r ≤ Ex + 1) (hap : a < p) :
    ∃ b, a < b ∧ b < p ∧ ab_vv Z b y x ∧ ab_zn Z a + r ≤ ab_zn Z b ∧ ab_zD Z (a + 1) 4 x 0 ≤ ab_zD Z b 3 y x := by
  have hW' := hW
  obtain ⟨h, hL, hG, hl8, hq⟩ := hW'
  have hxy : x ≠ y := (hl8 _ _ ha.2.2.1).1
  have r1 : 1 ≤ r := by
    rcases Nat.eq_zero_or_pos r with e | e
    · exact absurd (hG.2.2.2.1 x y (by omega)) hxy
    · exact e
  obtain ⟨q1, q2, q3⟩ := ab_qf h haN ha
  have hbq : ab_bn Z N x (ab_zD Z (a + 1) 4 x 0) (ab_zn Z a) := ⟨a, haN, rfl, by omega, Nat.le_refl _⟩
  have hac := hnp.1 p p2 p3 p5 (by rw [p7, p4])
  rw [p6, p8, p4] at hac
  have hac2 : ab_za Z x y = ab_zc Z x y + 1 := by
    rcases hnp.2.2 x y ha.2.2.1 with z | z
    · exact absurd z.symm hac
    · exact z
  have hnr : ab_zD Z (a + 1) 4 x 0 ≤ ab_zD Z p 3 y x := Nat.le_trans o5 (ab_nrm h (by omega) (by omega))
  rcases ax_nl hW hEx hsx p (by omega) (by omega) y (fun e => hxy e.symm) (by omega) hnr with z | ⟨_, b, hb1, hb2, hb4, t, w2, hb3⟩
  · exfalso
    obtain ⟨v1, _⟩ := ax_gws hW hEx (show p ≤ N by omega) (by omega) (fun e => hxy e.symm) (by omega) hnr z
    have ho : ab_zO Z p (ab_pt (ab_zn Z p) y (ab_zD Z p 1 y x) (ab_fr 4 y x (ab_za Z x y) 0 8)) := by
      unfold ab_zO ab_zY
      rw [p3, ab_do1, p4]
      have := ab_ano (u := ab_zu Z) (ac := ab_za Z) (s := y) (p := ab_zp Z p) (x := ab_zX Z p) (D := ab_zD Z p) p5 p7 (by rw [p6]; exact z) (by rw [p6]; exact v1)
      rw [p6] at this
      exact this
    have h7 : r ≤ 8 := by
      rcases hG.2.2.2.2.2.2 x y with q | q
      · omega
      · have := hEx.2 p (by omega) (by omega) y (fun e => hxy e.symm) (by omega) hnr
        omega
    obtain ⟨f, f1, f2, f3, f4, f5, f6, f7, f8, f9⟩ := ax_ride hW hEx hsx (by omega) r p y 8 p2 hd r1 (Nat.le_refl _) h7 hnr z ho (by omega) (by omega)
    have := hnp.2.1 f f2 f3 f5 (by rw [f7, f4])
    rw [f4, f6, f8] at this
    exact this hac2
  · have hta := ab_bnl h hbq w2 hnr
    refine ⟨b, ?_, hb1, hb2, by omega, ?_⟩
    · by_cases e : a < b
      · exact e
      · have := ab_nowm h (show b ≤ a by omega) (by omega)
        omega
    · rw [hb4]; exact hnr
/-- a bad piece: it goes off by a way that is not direct -/
def ax_bad (Z : ab_Z) (N a x y : Nat) : Prop := ∃ k, a < k ∧ k < N ∧ ab_zn Z a < ab_zn Z k ∧ ab_zn Z k ≤ ab_zn Z a + 2 ∧ ab_go Z k x y ∧ ab_zD Z k 1 x y ≠ y
/-- NEIGHBOURS, y nobody's source, x nobody's goal: an attempt fails only by a bad piece -/
theorem ax_near2 {Z : ab_Z} {d : Nat → Nat → Nat} {N a x y : Nat} (hW : ax_W Z d N) (h0 : ab_t0 Z N) (hnp : ab_np Z N) (hd : d x y = 1) (haN : a < N) (ha : ab_ask Z a x y) (ht : ab_zn Z 0 + 10 ≤ ab_zn Z a)
    (hN : ab_zn Z a + 6 ≤ ab_zn Z N) (hx : ∀ z, ¬ ab_zl Z z x) : ax_bad Z N a x y := by
  have hW' := hW
  obtain ⟨h, hL, hG, hl8, hq⟩ := hW'
  have hxy : x ≠ y := (hl8 _ _ ha.2.2.1).1
  obtain ⟨q1, q2, q3⟩ := ab_qf h haN ha
  by_cases e1 : ax_bad Z N a x y
  · exact e1
  exfalso
  have later : ∀ j, j < N → a < j → ab_zK Z j = 1 → ab_zn Z j < ab_zn Z N → ab_zn Z a < ab_zn Z j := by
    intro j hj haj k1 hjN
    exact ab_urg h hL h0 hj haj k1 ha.2.2.2.1 (by rw [ha.1, ha.2.1]; exact ha.2.2.1) hjN
  have hEx : ax_E Z d N x 1 (ab_zD Z (a + 1) 4 x 0) (ab_zn Z a + 3) := by
    refine ax_q hW q2 (fun g hg => ax_d1 hW (hl8 _ _ hg).1) (fun j z a' hj hjn hje htb => hx z htb.2.1.2.2.1) (fun m t hm hb => ?_)
    have := ax_bge h (show a ≤ N by omega) (show ab_zD Z a 4 x 0 < m by omega) hb
    omega
  have hsx : ∀ z, ab_zl Z z x → 1 ≤ d x z := fun z hz => absurd hz (hx z)
  have hsy : ∀ z, ab_zl Z z y → 1 ≤ d y z := fun z hz => ax_d1 hW (fun e => (hl8 _ _ hz).1 e.symm)
  obtain ⟨jT, m, o1, o2, o3, o4, o5, o6, o7, o8, o9, o10, o11, o12⟩ := ax_qt hW h0 hEx hsx hd (by omega) haN ha (by omega) (by omega)
  have hbt : ab_bn Z N y (ab_zX Z m 6) (ab_zn Z a + 1) := ⟨jT, by omega, o4, by omega, by omega⟩
  have hy0 : ab_zD Z 0 4 y 0 < ab_zD Z (a + 1) 4 y 0 + 1 := by
    have := ab_ownm (c := y) h (Nat.zero_le (a + 1)) (by omega)
    omega
  have hEy : ax_E Z d N y 1 (ab_zD Z (a + 1) 4 y 0 + 1) (ab_zn Z a + 2) := by
    have hna : ab_zn Z (a + 1) = ab_zn Z a := by
      rw [ab_now1 h haN, if_neg (by rw [ha.2.2.2.1]; omega)]
    refine ax_q hW hy0 (fun g hg => ax_d1 hW (hl8 _ _ hg).1) (fun j z a' hj hjn hje htb => ?_) (fun m t hm hb => ?_)
    · have haj : a < j := by
        by_cases e : a < j
        · exact e
        · exfalso
          have := ab_ownm (c := y) h (show j + 1 ≤ a + 1 by omega) (by omega)
          omega
      have := later j hj haj htb.2.2.1 (by omega)
      omega
    · have := ax_bge h (show a + 1 ≤ N by omega) (show ab_zD Z (a + 1) 4 y 0 < m by omega) hb
      omega
  have hTn : ab_zD Z (a + 1) 4 y 0 + 1 ≤ ab_zX Z m 6 := by
    have := ab_ownm (c := y) h (show a + 1 ≤ jT by omega) (by omega)
    omega
  obtain ⟨k, k1, k2, hgo, k4, k5⟩ := ax_go hW h0 hEy hsy hd (by omega) haN ha (by omega) o3 o6 o7 o8 o9 o10 hbt hTn (by omega)
  have hdir : ab_zD Z k 1 x y = y := by
    by_cases e : ab_zD Z k 1 x y = y
    · exact e
    · exact absurd ⟨k, k1, k2, k4, by omega, hgo, e⟩ e1
  obtain ⟨g1, g2, g3, g4, g5, g6, g7⟩ := hgo
  rw [hdir] at g6
  obtain ⟨p, pk, pN, p1, px, pn, ps, pp⟩ := hL.1 k _ k2 g6 (by show ab_zn Z k + 2 ≤ _; omega)
  have pn' : ab_zn Z p = ab_zn Z k + 1 := pn
  have hjp : jT < p := by
    by_cases e : jT < p
    · exact e
    · have := ab_nowm h (show p ≤ jT by omega) (by omega)
      omega
  obtain ⟨b, _, _, hv, _⟩ := ax_ans hW hnp hEx hsx hd haN ha o5 hjp pN p1 (by rw [ps]; rfl) (by rw [px]; rfl) (by rw [px]; rfl) (by rw [px]; rfl) (by rw [px]; rfl) (by omega) (by omega) (by omega)
  exact hx y hv.2.2.2.2
