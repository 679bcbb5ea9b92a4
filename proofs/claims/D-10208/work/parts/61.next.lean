/-! ## TELLs arrive; the asker of a goal with one source -/
theorem ax_birth2 {Z : ab_Z} {d : Nat → Nat → Nat} {N a x y : Nat} (hW : ax_W Z d N) (hnv : ∀ jj q, jj < N → ab_zn Z jj ≤ ab_zn Z a + 7 → ab_vv Z jj q x → ab_zD Z jj 3 q x < ab_zD Z (a + 1) 4 x 0) (h7 : d x y ≤ 7) (haN : a < N) (ha : ab_ask Z a x y) (hN : ab_zn Z a + d x y + 2 ≤ ab_zn Z N) :
    ∃ j w, j < N ∧ ab_tb Z d j a y x ∧ ax_fr Z N j y x j w := by
  have hW' := hW
  obtain ⟨h, hL, hG, hl8, hq⟩ := hW'
  have hxy : x ≠ y := (hl8 _ _ ha.2.2.1).1
  obtain ⟨q1, q2, q3⟩ := ab_qf h haN ha
  have hgd : ab_gd (ab_zu Z) y x (d x y) y := ab_gdb hG y x (d x y) y rfl h7 (Nat.le_refl _)
  obtain ⟨j, haj, hjN, hf, hjn, x5, x6⟩ := ab_flood h hL haN ha.1 ha.2.1 ha.2.2.2 (d x y) y hgd (fun e => hxy e.symm) (by omega)
  obtain ⟨f1, f2, f3, f4, f5, f6⟩ := hf
  have hbq : ab_bn Z N x (ab_zD Z (a + 1) 4 x 0) (ab_zn Z a) := ⟨a, haN, rfl, by omega, Nat.le_refl _⟩
  have hjn2 : ab_zn Z j = ab_zn Z a + d x y := by
    obtain ⟨b, hb1, hb2, hb3, hb4, hb5, hb6⟩ := ab_hrd h hjN f1 (by omega) (by rw [f4, x6]; exact q2)
    obtain ⟨c1, c2, c3, c4, c5, c6⟩ := ab_fcI h b (by omega) _ hb2 (by omega) (by rw [f4, x6]; exact q2)
    rw [f4, x6] at c1
    rw [f4] at c4
    have e := ab_bnu h c1 hbq
    have hlip := hG.2.1 x _ _ hb6
    rw [← hb4, f2] at hlip
    omega
  have hDj := h.1 j hjN
  have hnr : ab_zD Z (a + 1) 4 x 0 ≤ ab_zD Z (j + 1) 3 y x := by
    have := ab_hnr (u := ab_zu Z) (ac := ab_za Z) (s := y) (p := ab_zp Z j) (x := ab_zX Z j) (D := ab_zD Z j) (Or.inl ⟨f3, by rw [f4, f5]; exact f6⟩) (by rw [f4]; exact fun e => hxy e.symm)
    rw [hDj, ← x6]
    unfold ab_zY
    rw [f1, ab_do1, f2]
    rw [f4] at this
    exact this
  have h8 : ab_zD Z (j + 1) 1 y x ≠ 8 := ax_pres h q2 (j + 1) (by omega) (fun jj q hjj hv => hnv jj q (by omega) (by have := ab_nowm h (show jj ≤ j by omega) (by omega); omega) hv) y (fun e => hxy e.symm) hnr
  have ho : ab_zO Z j (ab_pt (ab_zn Z j) y (ab_zD Z (j + 1) 1 y x) (ab_fr 1 y x (ab_zD Z (j + 1) 4 y 0) 0 0)) := by
    rw [hDj] at h8 ⊢
    unfold ab_zO
    unfold ab_zY at h8 ⊢
    rw [f1, ab_do1, f2] at h8 ⊢
    have := ab_tlo (u := ab_zu Z) (ac := ab_za Z) (s := y) (p := ab_zp Z j) (x := ab_zX Z j) (D := ab_zD Z j) f3 (by rw [f4, f5]; exact f6) x5 (by rw [f4]; exact h8)
    rw [f4] at this
    exact this
  have htb : ab_tb Z d j a y x := ⟨haj, ha, f1, f2, f3, f4, x5, x6, hjn2, h7, by rw [f5]; exact f6⟩
  have gr := ax_tgrow h htb hjN
  have y0 := ab_ownm (c := y) h (Nat.zero_le j) (by omega)
  refine ⟨j, _, hjN, htb, hjN, ho, rfl, ⟨by show (1 : Nat) ≤ 1; omega, Or.inl ?_⟩, ?_, rfl, rfl⟩
  · show ab_zD Z 0 4 y 0 < ab_zD Z (j + 1) 4 y 0
    omega
  · refine ⟨f2, by show ab_zn Z j + 0 = ab_zn Z j; omega, gr.symm, rfl, Or.inr ⟨rfl, f1, f3, x5, f4, ?_⟩⟩
    show ¬ ab_sn y x (ab_zX Z j 8) (ab_zD Z j)
    rw [f5]
    exact f6
/-- a TELL to z arrives, if nobody gives up a way to z meanwhile -/
theorem ax_arr {Z : ab_Z} {d : Nat → Nat → Nat} {N a c z u : Nat} (hW : ax_W Z d N) (h0 : ab_t0 Z N) (hU : ax_U Z N) (hu : ∀ q, ab_zl Z q z → q = u) (hdu : 2 ≤ d z u) (haN : a < N) (ha : ab_ask Z a z c) (h7 : d z c ≤ 7) (h20 : ab_zn Z 0 + 20 ≤ ab_zn Z a) (hN : ab_zn Z a + 27 ≤ ab_zn Z N)
    (hnv : ∀ jj q, jj < N → ab_zn Z jj ≤ ab_zn Z a + 25 → ab_vv Z jj q z → ab_zD Z jj 3 q z < ab_zD Z (a + 1) 4 z 0) :
    ∃ j q r, j < N ∧ ab_tb Z d j a c z ∧ q < N ∧ ab_zK Z q = 1 ∧ ab_zs Z q = z ∧ ax_fr Z N j c z r (ab_zX Z q) ∧ ab_zn Z q ≤ ab_zn Z a + 25 := by
  have hW' := hW
  obtain ⟨h, hL, hG, hl8, hq⟩ := hW'
  have hl : ∀ a b, ab_zl Z a b → a ≠ b := fun a b z => (hl8 a b z).1
  obtain ⟨q1, q2, q3⟩ := ab_qf h haN ha
  obtain ⟨j, w0, hj, ht, hf0⟩ := ax_birth2 hW (fun jj q hjj ht hv => hnv jj q hjj (by omega) hv) h7 haN ha (by omega)
  by_cases E : ∃ q r, q < N ∧ ab_zK Z q = 1 ∧ ab_zs Z q = z ∧ ax_fr Z N j c z r (ab_zX Z q) ∧ ab_zn Z q ≤ ab_zn Z a + 25
  · obtain ⟨q, r, e1, e2, e3, e4, e5⟩ := E
    exact ⟨j, q, r, hj, ht, e1, e2, e3, e4, e5⟩
  exfalso
  have w07 : w0 7 = 0 := by
    have e0 : w0 0 = ab_zn Z j := (ab_d1 hf0.2.1 (by have := hf0.2.2.1; omega)).1
    have := hf0.2.2.2.2.1.2.1
    omega
  have step : ∀ l, ∃ i w, ax_fr Z N j c z i w ∧ w 7 = l := by
    intro l
    induction l with
    | zero => exact ⟨j, w0, hf0, w07⟩
    | succ l ih =>
      obtain ⟨i, w, hf, e7⟩ := ih
      obtain ⟨l1, l2, l3, l4⟩ := ax_life2 hW h0 hU hu hdu hj ht h20 _ i w hf rfl
      have hf' := hf
      obtain ⟨hi, ho, h3, hr, hb, e4, e5⟩ := hf'
      obtain ⟨g2, gn, gz, gu, g0⟩ := ab_tnr h hl hj ht i hi w ho h3 hr hb e4 e5
      have e0 : w 0 = ab_zn Z i := (ab_d1 ho (by omega)).1
      obtain ⟨m1, hm1, hmN, k1, kx, kn, ks, kp⟩ := hL.1 i w hi ho (by omega)
      by_cases hz : w 2 = z
      · exact absurd ⟨m1, i, hmN, k1, by rw [ks, hz], by rw [kx]; exact hf, by omega⟩ E
      · have hDm := h.1 m1 hmN
        have hnm1 : ab_zn Z (m1 + 1) = ab_zn Z m1 := by rw [ab_now1 h hmN, if_neg (by omega)]
        have num : ab_zD Z (a + 1) 4 z 0 ≤ ab_zD Z (m1 + 1) 3 (w 2) z := by
          obtain ⟨_, _, _, _, _, _, _, hpp⟩ := ab_wcI h (i + 1) (by omega) (w 1) z (by omega)
          have p28 : ab_zD Z (i + 1) 1 (w 1) z ≠ 8 := by
            rw [← g2]
            have := (h.2.1 _ _ gu).2.2.1
            omega
          obtain ⟨_, _, r3⟩ := hpp p28
          rw [← g2] at r3
          rcases r3 with r3 | r3
          · exact absurd r3 hz
          · exact Nat.le_trans gn (Nat.le_trans r3 (ab_nrm h (by omega) (by omega)))
        have h82 := ax_pres h q2 (m1 + 1) (by omega) (fun jj q hjj hv => hnv jj q (by omega) (by
          have := ab_nowm h (show jj ≤ m1 + 1 by omega) (by omega)
          omega) hv) (w 2) hz num
        have ho2 : ab_zO Z m1 (ab_pt (ab_zn Z m1) (w 2) (ab_zD Z (m1 + 1) 1 (w 2) z) (ab_fr 1 c z (w 6) (w 7 + 1) 0)) := by
          rw [hDm] at h82 ⊢
          unfold ab_zO
          unfold ab_zY at h82 ⊢
          rw [k1, ab_do1, ks, kx] at h82 ⊢
          have := ab_tfo (u := ab_zu Z) (ac := ab_za Z) (x := w) (s := w 2) (p := ab_zp Z m1) (D := ab_zD Z m1) h3 (by rw [e5]; exact fun q => hz q.symm) (by rw [e5]; exact h82)
          rw [e4, e5] at this
          exact this
        refine ⟨m1, _, ⟨hmN, ho2, rfl, ?_, ?_, rfl, rfl⟩, by show w 7 + 1 = l + 1; omega⟩
        · refine ⟨by show (1 : Nat) ≤ 1; omega, Or.inl ?_⟩
          show ab_zD Z 0 4 c 0 < w 6
          rcases hr.2 with y | y
          · rw [← e4]; exact y
          · omega
        · obtain ⟨b1, b2, b3, b4, b5⟩ := hb
          rw [e4] at b1 b3 b4
          refine ⟨b1, ?_, b3, b4, Or.inr ?_⟩
          · show ab_zn Z j + (w 7 + 1) = ab_zn Z m1
            omega
          · rcases b5 with ⟨z3, _⟩ | ⟨_, z4⟩
            · omega
            · rw [e4, e5] at z4
              exact ⟨rfl, z4⟩
  obtain ⟨i, w, hf, e7⟩ := step 25
  obtain ⟨l1, l2, l3, l4⟩ := ax_life2 hW h0 hU hu hdu hj ht h20 _ i w hf rfl
  omega
/-! ## the next attempt comes exactly 53 moments later -/
theorem ax_nx {Z : ab_Z} {d : Nat → Nat → Nat} {N a x y z w : Nat} (hW : ax_W Z d N) (h0 : ab_t0 Z N) (hnp : ab_np Z N) (hd : d x y = 1) (haN : a < N) (ha : ab_ask Z a x y) (ht : ab_zn Z 0 + 20 ≤ ab_zn Z a) (hN : ab_zn Z a + 56 ≤ ab_zn Z N)
    (hx : ∀ q, ab_zl Z q x → q = w) (hy : ∀ q, ¬ ab_zl Z y q) (hz : ∀ q, ab_zl Z q y → q = x ∨ q = z) :
    ∃ a', a < a' ∧ a' < N ∧ ab_ask Z a' x y ∧ ab_zn Z a' = ab_zn Z a + 53 ∧ (∀ b, a < b → b < a' → ¬ ab_ask Z b x y) ∧ ∃ nT i0, i0 < a' ∧ ab_zn Z i0 ≤ ab_zn Z a + 2 ∧ nT ≤ ab_zD Z (i0 + 1) 3 x y ∧ ab_bn Z N y nT (ab_zn Z a + 1) := by
  have hW' := hW
  obtain ⟨h, hL, hG, hl8, hq⟩ := hW'
  have hl : ∀ a b, ab_zl Z a b → a ≠ b := fun a b z => (hl8 a b z).1
  obtain ⟨hxy, x8, y8⟩ := hl8 _ _ ha.2.2.1
  obtain ⟨q1, q2, q3⟩ := ab_qf h haN ha
  obtain ⟨k, k1, k2, k3, k4, hgo, hbd⟩ := ax_near3 hW h0 hnp hd haN ha ht (by omega) hx hy
  have later : ∀ j, j < N → a < j → ab_zK Z j = 1 → ab_zn Z j < ab_zn Z N → ab_zn Z a < ab_zn Z j := by
    intro j hj haj k1 hjN
    exact ab_urg h hL h0 hj haj k1 ha.2.2.2.1 (by rw [ha.1, ha.2.1]; exact ha.2.2.1) hjN
  have hEx2 : ax_E Z d N x 1 (ab_zD Z (a + 1) 4 x 0) (ab_zn Z a + 2) := by
    refine ax_q hW q2 (fun g hg => ax_d1 hW (hl8 _ _ hg).1) (fun j z a' hj hjn hje htb => ?_) (fun m t hm hb => ?_)
    · have haj : a < j := by
        by_cases e : a < j
        · exact e
        · exfalso
          have : j ≠ a := by
            intro z
            have h1 := htb.2.2.1
            have h2 := ha.2.2.2.1
            rw [z] at h1
            omega
          have := ab_ownm (c := x) h (show j + 1 ≤ a by omega) (by omega)
          omega
      have := later j hj haj htb.2.2.1 (by omega)
      omega
    · have := ax_bge h (show a ≤ N by omega) (show ab_zD Z a 4 x 0 < m by omega) hb
      omega
  have hsx : ∀ z, ab_zl Z z x → 1 ≤ d x z := fun z hz => ax_d1 hW (fun e => (hl8 _ _ hz).1 e.symm)
  obtain ⟨jT, m, o1, o2, o3, o4, o5, o6, o7, o8, o9, o10, o13, o14, o11, o12⟩ := ax_qt5 hW h0 hEx2 hsx hd (by omega) haN ha (by omega) (by omega)
  have hbt : ab_bn Z N y (ab_zX Z m 6) (ab_zn Z a + 1) := ⟨jT, by omega, o4, by omega, by omega⟩
  generalize hT : ab_zX Z m 6 = nT at *
  have hy0 := ab_ownm (c := y) h (Nat.zero_le jT) (by omega)
  have hT0 : ab_zD Z 0 4 y 0 < nT := by omega
  have xn : ∀ i, m < i → i ≤ N → nT ≤ ab_zD Z i 3 x y := by
    intro i hmi hi
    have := ab_hnr (u := ab_zu Z) (ac := ab_za Z) (s := x) (p := ab_zp Z m) (x := ab_zX Z m) (D := ab_zD Z m) (Or.inr o8) (by rw [o9]; exact hxy)
    refine Nat.le_trans ?_ (ab_nrm h (show m + 1 ≤ i by omega) (by omega))
    rw [h.1 m o3, ← hT]
    unfold ab_zY
    rw [o6, ab_do1, o7]
    rw [o9] at this
    exact this
  have hn0 := ab_nowm h (Nat.zero_le a) (by omega)
  -- the bad piece goes off a moment behind the asking
  have kt : ab_zn Z k = ab_zn Z a + 1 := by
    by_cases e : ab_zn Z k = ab_zn Z a + 1
    · exact e
    · exfalso
      have hk2 : ab_zn Z k = ab_zn Z a + 2 := by omega
      have hmk : m < k := by
        obtain ⟨u', hu', un, uk, us, up, uall⟩ := hL.2.1 (ab_zn Z k) x y (by omega) (by omega) ha.2.2.1
        have e1 := hL.2.2 u' k hu' k2 uk hgo.1 un (by rw [us, hgo.2.1]) (by rw [up, hgo.2.2.1])
        by_cases e2 : ab_zn Z m = ab_zn Z k
        · have := uall m o3 e2 o6
          omega
        · by_cases e3 : m < k
          · exact e3
          · have := ab_nowm h (show k ≤ m by omega) (by omega)
            omega
      have hnk := xn k hmk (by omega)
      obtain ⟨t', hb', _, ht', _, _, _, hpp⟩ := ab_wcI h k (by omega) x y (by omega)
      have l1 := ab_bnl h hbt hb' hnk
      obtain ⟨_, r2, _⟩ := hpp hgo.2.2.2.1
      exact hbd (hG.2.2.2.1 y _ (by omega)).symm
  -- numbers of y from the TELL on
  have cls : ∀ i v, i ≤ N → nT ≤ ab_zD Z i 3 v y → _ := fun i v hi hn => ax_cls hW hy hi hT0 hn hbt (by omega)
  have nvY : ∀ jj q, jj < N → ab_zn Z jj ≤ ab_zn Z a + 44 → ab_vv Z jj q y → ab_zD Z jj 3 q y < nT := by
    intro jj q hjj hjt hv
    by_cases e : ab_zD Z jj 3 q y < nT
    · exact e
    · exfalso
      obtain ⟨b, r, j1, a1, z1, c1, c2, c3, c4, c5, c6, c7, c8, c9, c10, c11, c12, c13, c14, c15, c16, c17, c18⟩ := cls jj q (by omega) (by omega)
      by_cases hjn : jj ≤ a
      · have s1 := (ab_san h jj (by omega)).1 q y
        have s2 := ab_ownm (c := y) h (show jj ≤ jT by omega) (by omega)
        omega
      · rcases hz q hv.2.2.2.2 with f1 | f1
        · rw [f1] at hv
          have := ab_vsp h hL h0 (show a < jj by omega) hjj hv ha
          omega
        · rcases hz z1 c12.2.1.2.2.1 with f2 | f2
          · rw [f2] at c12
            have := (ax_dirT hW c3 c12 (by rw [hd]) r (by omega) _ c6 c7 c8 c9 c10 (by rw [c11, f2])).2
            rw [c15] at this
            rw [this] at hv
            have := ab_vsp h hL h0 (show a < jj by omega) hjj hv ha
            omega
          · rw [f2] at c12
            rw [f1] at hv
            have a1j := c12.1
            have jd := c12.2.2.2.2.2.2.2.2.1
            have d7 := c12.2.2.2.2.2.2.2.2.2.1
            have jb : j1 ≤ r := by
              by_cases e : j1 ≤ r
              · exact e
              · exfalso
                obtain ⟨_, _, _, _, _, cc⟩ := ab_fcI h r (by omega) _ c6 (by omega) (by rw [c10]; omega)
                rw [c10] at cc
                have := ab_ownm (c := y) h (show r + 1 ≤ j1 by omega) (by omega)
                have := c9.2.2.1
                rw [c10] at this
                omega
            have := ab_vsp h hL h0 (show a1 < jj by omega) hjj hv c12.2.1
            omega
  have nvx : ∀ i, i ≤ N → ab_zn Z i ≤ ab_zn Z a + 44 → ax_nv Z y nT i := by
    intro i hi hin jj q hjj hv
    have := ab_nowm h (show jj ≤ i by omega) hi
    exact nvY jj q (by omega) (by omega) hv
  have pres : ∀ i v, i ≤ N → ab_zn Z i ≤ ab_zn Z a + 44 → v ≠ y → nT ≤ ab_zD Z i 3 v y → ab_hw (ab_zu Z) v y (ab_zD Z i) := by
    intro i v hi hin hv hn
    have h8 := ax_pres h hT0 i hi (nvx i hi hin) v hv hn
    obtain ⟨_, _, _, _, _, _, _, hpp⟩ := ab_wcI h i hi v y (by omega)
    exact ⟨h8, (hpp h8).1⟩
  have after : ∀ i, i ≤ N → ab_zn Z k + 26 ≤ ab_zn Z i → m < i := by
    intro i hi hin
    by_cases e : m < i
    · exact e
    · have := ab_nowm h (show i ≤ m by omega) (by omega)
      omega
  have n52 : ∀ b, k < b → b < N → ab_ask Z b x y → ab_zn Z k + 52 ≤ ab_zn Z b := fun b kb bN hb => ax_n52 h hL ha.2.2.1 k2 hgo kb bN hb (by omega) (fun i hi hin => pres i x (by omega) (by omega) hxy (xn i (after i (by omega) (by omega)) (by omega)))
  have h61 : ab_zD Z (k + 1) 6 x y ≤ ab_zn Z k + 26 := by
    have hk1 : ab_zn Z (k + 1) = ab_zn Z k := by rw [ab_now1 h k2, if_neg (by rw [hgo.1]; omega)]
    rcases ab_la (a := x) (b := y) h (k + 1) (by omega) with e | ⟨b, b1, b2, b3⟩
    · have := (h0.1 x y).1
      omega
    · have := ab_nowm h (show b ≤ k by omega) (by omega)
      omega
  rcases ax_n52x h hL ha.2.2.1 k2 hgo (by omega) h61 with ⟨s, s1, s2, s3, s4⟩ | ⟨s, s1, s2, s3, s4⟩
  · have := n52 s s1 s2 s4
    omega
  · refine ⟨s, by omega, s2, s4, by omega, fun b b1 b2 hb => ?_, nT, m, ?_, by omega, xn (m + 1) (by omega) (by omega), hbt⟩
    · by_cases e : k < b
      · have h1 := n52 b e (by omega) hb
        have h2 := ab_nowm h (show b ≤ s by omega) (by omega)
        have := hL.2.2 b s (by omega) s2 hb.2.2.2.1 s4.2.2.2.1 (by omega) (by rw [hb.1, s4.1]) (by rw [hb.2.1, s4.2.1])
        omega
      · have h1 := ab_sp h b1 (by omega) ha hb
        have h2 := ab_nowm h (show b ≤ k by omega) (by omega)
        omega
    · by_cases e : m < s
      · exact e
      · have := ab_nowm h (show s ≤ m by omega) (by omega)
        omega
