/-! ## bad attempts one behind the other: the TELL is older and older -/
/-- an asking behind the first piece comes 26 moments later, or 50 or more -/
theorem ax_n26e {Z : ab_Z} {d : Nat → Nat → Nat} {N k z y a : Nat} {lm : Nat} (h : ab_RL lm Z d N) (hL : ab_L Z N) (hl : ab_zl Z z y) (hk : k < N) (hg : ab_go Z k z y) (hka : k < a) (haN : a < N) (ha : ab_ask Z a z y) (hE : ab_zn Z k + 26 < ab_zn Z N)
    (h6 : ∀ i, k < i → i < N → ab_zn Z i = ab_zn Z k + 26 → ab_zK Z i = 2 → ab_zs Z i = z → ab_zp Z i = y → ab_zD Z i 6 z y ≤ ab_zn Z k + 26) : ab_zn Z a = ab_zn Z k + 26 ∨ ab_zn Z k + 50 ≤ ab_zn Z a := by
  have h26 := ax_n26 h hk hg hka haN ha
  have w0 : ax_wt Z (k + 1) z y (ab_zn Z k) 0 := ax_t0 h hk hg
  have hk0 := ab_nowm h (Nat.zero_le k) (by omega)
  obtain ⟨m, hm, mn, mk, ms, mp, _⟩ := hL.2.1 (ab_zn Z k + 26) z y (by omega) hE hl
  have hkm : k < m := by
    by_cases e : k < m
    · exact e
    · have := ab_nowm h (show m ≤ k by omega) (by omega)
      omega
  have wm : ax_wt Z m z y (ab_zn Z k) 0 := ax_wt1 h w0 m (by omega) (by omega) (fun j j1 j2 j3 j4 j5 => by
    have h1 := ab_nowm h (show j ≤ m by omega) (by omega)
    by_cases e : ab_zn Z j = ab_zn Z k + 26
    · have := hL.2.2 j m (by omega) hm j3 mk (by omega) (by rw [j4, ms]) (by rw [j5, mp])
      omega
    · omega)
  by_cases hw : ab_hw (ab_zu Z) z y (ab_zD Z m)
  · have n52 := ax_n52 h hL hl hk hg hka haN ha hE
    by_cases e : ab_zn Z k + 50 ≤ ab_zn Z a
    · exact Or.inr e
    · refine Or.inr ?_
      exfalso
      -- with a way: a piece, and 26 more moments
      have hD := h.1 m hm
      have wm1 : ax_wt Z (m + 1) z y (ab_zn Z k + 26) 1 := by
        unfold ax_wt
        rw [hD]
        unfold ab_zY
        rw [mk, ab_do2, ms, mp]
        rcases ab_uc (u := ab_zu Z) (lv := ab_zl Z) (cf := ab_zc Z) (a := z) (b := y) (D := ab_zD Z m) with ⟨_, e⟩ | ⟨_, _, ⟨q, _, _, q1, yy⟩ | ⟨e, yy⟩⟩
        · refine absurd ⟨hl, Or.inr ?_⟩ e
          rw [wm.2.1]
          show ab_zn Z k + 26 ≤ ab_zn Z m
          omega
        · rw [yy.2]
          have hq := q1 (by rw [wm.1]; decide)
          rw [wm.2.2] at hq
          refine ⟨?_, ?_, ?_⟩
          · show ab_w (ab_w (ab_w (ab_zD Z m) 9 z y q) 7 z y 1) 8 z y (ab_zD Z m 0 0 0) 7 z y = 1
            rw [ab_wf (by decide), ab_we]
          · show ab_w (ab_w (ab_w (ab_zD Z m) 9 z y q) 7 z y 1) 8 z y (ab_zD Z m 0 0 0) 8 z y = ab_zn Z k + 26
            rw [ab_we]
            exact mn
          · show ab_w (ab_w (ab_w (ab_zD Z m) 9 z y q) 7 z y 1) 8 z y (ab_zD Z m 0 0 0) 9 z y = 1
            rw [ab_wf (by decide), ab_wf (by decide), ab_we, hq]
        · exfalso
          rcases e with e | ⟨_, e⟩
          · exact e hw
          · rw [wm.2.2] at e
            omega
      have hma : m < a := by
        by_cases q : m < a
        · exact q
        · have q1 := ab_nowm h (show a ≤ m by omega) (by omega)
          by_cases q2 : a = m
          · have h7 := ha.2.2.2.2.2.1
            rw [q2, wm1.1] at h7
            omega
          · have := hL.2.2 a m haN hm ha.2.2.2.1 mk (by omega) (by rw [ha.1, ms]) (by rw [ha.2.1, mp])
            exact absurd this q2
      have := ax_wt1 h wm1 (a + 1) (by omega) (by omega) (fun j j1 j2 _ _ _ => by
        have := ab_nowm h (show j ≤ a by omega) (by omega)
        omega)
      have h7 := ha.2.2.2.2.2.1
      rw [this.1] at h7
      omega
  · -- without one it asks
    have hask : ab_ask Z m z y := by
      refine ⟨ms, mp, hl, ?_⟩
      have hD := h.1 m hm
      have h6m := h6 m hkm hm mn mk ms mp
      rcases ab_dt (u := ab_zu Z) (lv := ab_zl Z) (cf := ab_zc Z) (ac := ab_za Z) (k := ab_zK Z m) (a := ab_zs Z m) (b := ab_zp Z m) (i := z) (j := y) (x := ab_zX Z m) (D := ab_zD Z m) with q | ⟨_, _, _, _, _, q | ⟨_, _, _, q | ⟨q, _⟩⟩⟩
      · exfalso
        -- the urge does something
        rcases ab_uc (u := ab_zu Z) (lv := ab_zl Z) (cf := ab_zc Z) (a := z) (b := y) (D := ab_zD Z m) with ⟨_, e⟩ | ⟨_, _, ⟨_, _, _, _, yy⟩ | ⟨_, yy⟩⟩
        · refine e ⟨hl, Or.inr ?_⟩
          rw [wm.2.1]
          show ab_zn Z k + 26 ≤ ab_zn Z m
          omega
        · exact hw yy.1
        · have h7 := (ab_nwc yy).2.1
          have q7 := q.2.1
          rw [mk, ab_do2, ms, mp, h7, wm.1] at q7
          omega
      · exfalso
        obtain ⟨_, _, _, _, q, _⟩ := q
        rw [ms, mp] at q
        exact hw q
      · rw [hD]
        rw [ms, mp] at q
        unfold ab_zY
        rw [ms, mp]
        exact q
      · exfalso
        rw [ms, mp] at q
        have q' : ab_zn Z m < ab_zD Z m 6 z y := q
        omega
    rcases Nat.lt_trichotomy a m with q | q | q
    · have := ab_sp h q hm ha hask
      omega
    · exact Or.inl (by rw [q]; exact mn)
    · have := ab_sp h q haN hask ha
      exact Or.inr (by omega)
/-- a TELL to a pure z that is heard elsewhere behind its first link comes from afar -/
theorem ax_d3 {Z : ab_Z} {d : Nat → Nat → Nat} {N j az y z r m : Nat} (hW : ax_W Z d N) (hzp : ∀ q, ¬ ab_zl Z q z) (hj : j < N) (ht : ab_tb Z d j az y z) (h10 : ab_zn Z 0 + 10 ≤ ab_zn Z az) (hf : ax_fr Z N j y z r (ab_zX Z m)) (hk2 : ab_zX Z m 2 = ab_zs Z m) (hs : ab_zs Z m ≠ z) (h7 : 1 ≤ ab_zX Z m 7) : 3 ≤ d z y := by
  have hW' := hW
  obtain ⟨h, hL, hG, hl8, hq⟩ := hW'
  have hl : ∀ a b, ab_zl Z a b → a ≠ b := fun a b z => (hl8 a b z).1
  have hzy := (hl8 _ _ ht.2.1.2.2.1).1
  have d1 : 1 ≤ d z y := ax_d1 hW hzy
  have haN : az < N := by have := ht.1; omega
  obtain ⟨q1, q2, q3⟩ := ab_qf h haN ht.2.1
  have hbq : ab_bn Z N z (ab_zD Z (az + 1) 4 z 0) (ab_zn Z az) := ⟨az, haN, rfl, by omega, Nat.le_refl _⟩
  by_cases e3 : 3 ≤ d z y
  · exact e3
  exfalso
  by_cases e1 : d z y = 1
  · have := (ax_dirT hW hj ht e1 r hf.1 _ hf.2.1 hf.2.2.1 hf.2.2.2.1 hf.2.2.2.2.1 hf.2.2.2.2.2.1 hf.2.2.2.2.2.2).1
    omega
  · have e2 : d z y = 2 := by omega
    have hE : ax_E Z d N z 1 (ab_zD Z (az + 1) 4 z 0) (ab_zn Z N) := by
      refine ax_q hW q2 (fun g hg => ax_d1 hW (hl8 _ _ hg).1) (fun j z a' hj hjn hje htb => hzp _ htb.2.1.2.2.1) (fun mm t hm hb => ?_)
      have := ax_bge h (show az ≤ N by omega) (show ab_zD Z az 4 z 0 < mm by omega) hb
      omega
    have K : ∀ i w, ax_fr Z N j y z i w → w 7 = 0 ∨ (w 7 = 1 ∧ w 2 = z) := by
      intro i
      induction i using Nat.strongRecOn with
      | ind i ih =>
        intro w hfw
        by_cases e7 : w 7 = 0
        · exact Or.inl e7
        · refine Or.inr ?_
          obtain ⟨k1, s1, x1, y1, m0, hm0, h1⟩ := ax_prv hW hj ht hfw e7
          have hr0 := ab_hrc h hfw.1 k1 h1.2.2.2.1
          obtain ⟨_, _, _, _, _, t2, _⟩ := hr0
          rcases ih m0 hm0 _ h1 with q | ⟨_, q⟩
          · obtain ⟨g2, gn, gz, gu, g0⟩ := ab_tnr h hl hj ht i hfw.1 w hfw.2.1 hfw.2.2.1 hfw.2.2.2.1 hfw.2.2.2.2.1 hfw.2.2.2.2.2.1 hfw.2.2.2.2.2.2
            obtain ⟨p2, pn, pz, pu, p0⟩ := ab_tnr h hl hj ht m0 h1.1 _ h1.2.1 h1.2.2.1 h1.2.2.2.1 h1.2.2.2.2.1 h1.2.2.2.2.2.1 h1.2.2.2.2.2.2
            have m0j := p0 q
            have e1' := (ab_d1 h1.2.1 (by have := h1.2.2.1; omega)).2.1
            have w1 : w 1 = ab_zs Z i := (ab_d1 hfw.2.1 (by have := hfw.2.2.1; omega)).2.1
            have k1j := ht.2.2.1
            have hni : ab_zn Z (m0 + 1) = ab_zn Z m0 := by rw [ab_now1 h h1.1, if_neg (by rw [m0j]; omega)]
            obtain ⟨t', hb', _, ht', _, _, _, hp⟩ := ab_wcI h (m0 + 1) (by have := h1.1; omega) (ab_zX Z i 1) z (by omega)
            have p28 : ab_zD Z (m0 + 1) 1 (ab_zX Z i 1) z ≠ 8 := by
              rw [← p2]
              have := (h.2.1 _ _ pu).2.2.1
              omega
            obtain ⟨_, r2, _⟩ := hp p28
            have bl := ab_bnl h hbq hb' pn
            have jd := ht.2.2.2.2.2.2.2.2.1
            rw [← p2, t2, ← w1] at r2
            have mj : ab_zn Z m0 = ab_zn Z j := by rw [m0j]
            have dv : d z (w 1) = 1 := by
              have : 1 ≤ d z (w 1) := ax_d1 hW (fun q => gz q.symm)
              omega
            have w28 : ab_zD Z (i + 1) 1 (w 1) z ≠ 8 := by
              rw [← g2]
              have := (h.2.1 _ _ gu).2.2.1
              omega
            obtain ⟨_, a2, _, _⟩ := ax_gws hW hE (show i + 1 ≤ N by have := hfw.1; omega) (ab_nowm h (by have := hfw.1; omega) (Nat.le_refl _)) gz (by omega) gn w28
            rw [← g2] at a2
            exact ⟨by omega, (hG.2.2.2.1 _ _ (show d z (w 2) = 0 by omega)).symm⟩
          · exact absurd (by rw [← t2]; exact q) s1
    rcases K r _ hf with q | ⟨_, q⟩
    · omega
    · exact hs (by rw [← hk2]; exact q)
