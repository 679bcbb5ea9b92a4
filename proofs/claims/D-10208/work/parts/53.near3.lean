/-- a TELL's birth gives out a number -/
theorem ax_tgrow {Z : ab_Z} {d : Nat → Nat → Nat} {N j a c z : Nat} {lm : Nat} (h : ab_RL lm Z d N) (ht : ab_tb Z d j a c z) (hj : j < N) : ab_zD Z (j + 1) 4 c 0 = ab_zD Z j 4 c 0 + 1 := by
  obtain ⟨t1, t2, t3, t4, t5, t6, t7, t8, t9, t10, t11⟩ := ht
  rw [h.1 j hj]
  unfold ab_zY
  rw [t3, ab_do1, t4]
  have hs : ¬ ab_sn c (ab_zX Z j 4) (ab_zX Z j 8) (ab_zD Z j) := by rw [t6]; exact t11
  unfold ab_h
  rw [ab_ip t5]
  unfold ab_hA
  rw [ab_in hs, ab_ip t7, ab_psf (by decide), ab_we]
  rw [ab_hA1n (by decide)]
/-! ## neighbours, x the goal of one source w: an attempt fails only by a bad piece -/
theorem ax_near3 {Z : ab_Z} {d : Nat → Nat → Nat} {N a x y w : Nat} (hW : ax_W Z d N) (h0 : ab_t0 Z N) (hnp : ab_np Z N) (hd : d x y = 1) (haN : a < N) (ha : ab_ask Z a x y) (ht : ab_zn Z 0 + 20 ≤ ab_zn Z a)
    (hN : ab_zn Z a + 12 ≤ ab_zn Z N) (hx : ∀ q, ab_zl Z q x → q = w) (hy : ∀ q, ¬ ab_zl Z y q) : ax_bad Z N a x y := by
  have hW' := hW
  obtain ⟨h, hL, hG, hl8, hq⟩ := hW'
  have hl : ∀ a b, ab_zl Z a b → a ≠ b := fun a b z => (hl8 a b z).1
  obtain ⟨hxy, x8, y8⟩ := hl8 _ _ ha.2.2.1
  obtain ⟨q1, q2, q3⟩ := ab_qf h haN ha
  by_cases e1 : ax_bad Z N a x y
  · exact e1
  exfalso
  have later : ∀ j, j < N → a < j → ab_zK Z j = 1 → ab_zn Z j < ab_zn Z N → ab_zn Z a < ab_zn Z j := by
    intro j hj haj k1 hjN
    exact ab_urg h hL h0 hj haj k1 ha.2.2.2.1 (by rw [ha.1, ha.2.1]; exact ha.2.2.1) hjN
  have hbq : ab_bn Z N x (ab_zD Z (a + 1) 4 x 0) (ab_zn Z a) := ⟨a, haN, rfl, by omega, Nat.le_refl _⟩
  have ht10 : ∀ m t, ab_zD Z (a + 1) 4 x 0 ≤ m → ab_bn Z N x m t → ab_zn Z 0 + 10 ≤ t := by
    intro m t hm hb
    have := ax_bge h (show a ≤ N by omega) (show ab_zD Z a 4 x 0 < m by omega) hb
    omega
  -- a TELL of x with such a number is born behind a
  have jla : ∀ j z a', j < N → ab_zD Z (a + 1) 4 x 0 ≤ ab_zD Z (j + 1) 4 x 0 → ab_tb Z d j a' x z → a < j := by
    intro j z a' hj hjn htb
    by_cases e : a < j
    · exact e
    · exfalso
      have : j ≠ a := by
        intro z
        have h1 := htb.2.2.1
        have h2 := ha.2.2.2.1
        rw [z] at h1
        omega
      have := ab_ownm (c := x) h (show j + 1 ≤ a by omega) (by omega)
      omega
  -- the ways to x are exact at first
  have hEx2 : ax_E Z d N x 1 (ab_zD Z (a + 1) 4 x 0) (ab_zn Z a + 2) := by
    refine ax_q hW q2 (fun g hg => ax_d1 hW (hl8 _ _ hg).1) (fun j z a' hj hjn hje htb => ?_) ht10
    have := later j hj (jla j z a' hj hjn htb) htb.2.2.1 (by omega)
    omega
  have hsx : ∀ z, ab_zl Z z x → 1 ≤ d x z := fun z hz => ax_d1 hW (fun e => (hl8 _ _ hz).1 e.symm)
  have hsy : ∀ z, ab_zl Z z y → 1 ≤ d y z := fun z hz => ax_d1 hW (fun e => (hl8 _ _ hz).1 e.symm)
  obtain ⟨jT, m, o1, o2, o3, o4, o5, o6, o7, o8, o9, o10, o11, o12⟩ := ax_qt hW h0 hEx2 hsx hd (by omega) haN ha (by omega) (by omega)
  have hbt : ab_bn Z N y (ab_zX Z m 6) (ab_zn Z a + 1) := ⟨jT, by omega, o4, by omega, by omega⟩
  have hy0 : ab_zD Z 0 4 y 0 < ab_zD Z (a + 1) 4 y 0 + 1 := by
    have := ab_ownm (c := y) h (Nat.zero_le (a + 1)) (by omega)
    omega
  have hEy : ax_E Z d N y 1 (ab_zD Z (a + 1) 4 y 0 + 1) (ab_zn Z a + 2) := by
    have hna : ab_zn Z (a + 1) = ab_zn Z a := by
      rw [ab_now1 h haN, if_neg (by rw [ha.2.2.2.1]; omega)]
    refine ax_q hW hy0 (fun g hg => ax_d1 hW (hl8 _ _ hg).1) (fun j z a' hj hjn hje htb => ?_) (fun m t hm hb => ?_)
    · have haj : a < j := by
        by_cases e : a < j
        · exact e
        · exfalso
          have := ab_ownm (c := y) h (show j + 1 ≤ a + 1 by omega) (by omega)
          omega
      have := later j hj haj htb.2.2.1 (by omega)
      omega
    · have := ax_bge h (show a + 1 ≤ N by omega) (show ab_zD Z (a + 1) 4 y 0 < m by omega) hb
      omega
  have hTn : ab_zD Z (a + 1) 4 y 0 + 1 ≤ ab_zX Z m 6 := by
    have := ab_ownm (c := y) h (show a + 1 ≤ jT by omega) (by omega)
    omega
  obtain ⟨k, k1, k2, hgo, k4, k5⟩ := ax_go hW h0 hEy hsy hd (by omega) haN ha (by omega) o3 o6 o7 o8 o9 o10 hbt hTn (by omega)
  have hdir : ab_zD Z k 1 x y = y := by
    by_cases e : ab_zD Z k 1 x y = y
    · exact e
    · exact absurd ⟨k, k1, k2, k4, by omega, hgo, e⟩ e1
  obtain ⟨g1, g2, g3, g4, g5, g6, g7⟩ := hgo
  rw [hdir] at g6
  obtain ⟨p, pk, pN, p1, px, pn, ps, pp⟩ := hL.1 k _ k2 g6 (by show ab_zn Z k + 2 ≤ _; omega)
  have pn' : ab_zn Z p = ab_zn Z k + 1 := pn
  have ps' : ab_zs Z p = y := ps
  have p3 : ab_zX Z p 3 = 3 := by rw [px]; rfl
  have p4 : ab_zX Z p 4 = x := by rw [px]; rfl
  have p5 : ab_zX Z p 5 = y := by rw [px]; rfl
  have p6 : ab_zX Z p 6 = ab_zc Z x y := by rw [px]; rfl
  have hjp : jT < p := by
    by_cases e : jT < p
    · exact e
    · have := ab_nowm h (show p ≤ jT by omega) (by omega)
      omega
  by_cases hqt : ∃ j z a', j < N ∧ ab_zD Z (a + 1) 4 x 0 ≤ ab_zD Z (j + 1) 4 x 0 ∧ ab_zn Z j + 2 ≤ ab_zn Z a + 3 ∧ ab_tb Z d j a' x z
  · -- x sends a TELL to w a moment later
    obtain ⟨j, z, aw, hj, hjn, hje, htb⟩ := hqt
    have hzw := hx z htb.2.1.2.2.1
    rw [hzw] at htb
    have hjl := later j hj (jla j w aw hj hjn htb) htb.2.2.1 (by omega)
    have jd := htb.2.2.2.2.2.2.2.2.1
    have d7 := htb.2.2.2.2.2.2.2.2.2.1
    have awj := htb.1
    -- no V on x with a recent number
    have nv : ∀ i, i ≤ N → ab_zn Z i ≤ ab_zn Z a + 10 → ax_nv Z x (ab_zD Z (a + 1) 4 x 0) i := by
      intro i hi hin jj q hjj hv
      have hjt := ab_nowm h (show jj ≤ i by omega) hi
      have hqw := hx q hv.2.2.2.2
      rw [hqw] at hv ⊢
      by_cases e : jj ≤ a
      · have s1 := (ab_san h jj (by omega)).1 w x
        have s2 := ab_ownm (c := x) h e (by omega)
        omega
      · by_cases e2 : aw < jj
        · have := ab_vsp h hL h0 e2 (by omega) hv htb.2.1
          omega
        · -- V behind a and ahead of w's asking: too near together
          have hva := ab_vask h hL h0 (by omega) hv
          by_cases e3 : jj = aw
          · -- the V is that asking: its number is not known there yet
            have hlt : ab_zn Z jj + d w x = ab_zn Z a + 1 := by rw [e3]; omega
            by_cases e4 : ab_zD Z jj 3 w x < ab_zD Z (a + 1) 4 x 0
            · exact e4
            · exfalso
              obtain ⟨t', hb', hd', ht', _⟩ := ab_wcI h jj (by omega) w x (by omega)
              have := ab_bnl h hbq hb' (by omega)
              have sy := hG.2.2.1 w x
              have := ab_nowm h (show a ≤ jj by omega) (by omega)
              have : 1 ≤ d w x := ax_d1 hW (hl8 _ _ htb.2.1.2.2.1).1
              omega
          · have := ab_sp h (show jj < aw by omega) (by omega) hva htb.2.1
            have := ab_nowm h (show a ≤ jj by omega) (by omega)
            omega
    have uniq : ∀ j1 a1 z1, j1 < N → ab_zD Z (a + 1) 4 x 0 ≤ ab_zD Z (j1 + 1) 4 x 0 → ab_tb Z d j1 a1 x z1 → ab_zn Z j1 ≤ ab_zn Z a + 10 → j1 = j := by
      intro j1 a1 z1 h1 h2 h3 h4
      rw [hx z1 h3.2.1.2.2.1] at h3
      have := later j1 h1 (jla j1 w a1 h1 h2 h3) h3.2.2.1 (by omega)
      exact ab_tone h h1 hj h3 htb (by omega) (by omega)
    -- a way to x at a neighbour: direct, or that of the TELL
    have way : ∀ i v, i ≤ N → ab_zn Z i ≤ ab_zn Z a + 10 → v ≠ x → d x v = 1 → ab_zD Z (a + 1) 4 x 0 ≤ ab_zD Z i 3 v x → ab_zD Z i 1 v x = x ∨ ab_zD Z i 3 v x = ab_zD Z (j + 1) 4 x 0 := by
      intro i v hi hin hv hdv hn
      have h8 := ax_pres h q2 i hi (nv i hi hin) v hv hn
      obtain ⟨t', hb', hd', ht1, _, _, _, hpp⟩ := ab_wcI h i hi v x (by omega)
      obtain ⟨_, r2, _⟩ := hpp h8
      obtain ⟨b, hbm, s1, s2, s3, s4, s5, s6, s7, s8⟩ := ab_srcI h i hi v x (by omega)
      have m3 : ab_zX Z b 3 ≤ 1 := by rcases s3 with ⟨y, _⟩ | y <;> omega
      have mr : ab_rc Z (ab_zX Z b) := ⟨m3, Or.inl (by rw [s4]; omega)⟩
      rcases s3 with ⟨x30, xs⟩ | x31
      · obtain ⟨b', hb'm, hba, hb6, hb8, hbt'⟩ := ab_hask h (by omega) s1 x30 mr
        rw [s4] at hba hb6
        have hg := ax_d1 hW (hl8 _ _ hba.2.2.1).1
        have := ab_qx h hL (show b' < N by omega) hba hi (by rw [← s5, hb6]) (ab_gdb hG _ _ _ _ rfl (by omega) (by omega))
        exact Or.inl (hG.2.2.2.1 _ _ (show d x (ab_zD Z i 1 v x) = 0 by omega)).symm
      · obtain ⟨r', hrm, hor, r0, r1, r2', ru⟩ := ab_hrc h (show b < N by omega) s1 mr
        obtain ⟨j', hj', hbj⟩ := ab_fbI h r' (by omega) _ hor mr
        have hbj' := hbj
        obtain ⟨b1, b2, b3, b4, b5⟩ := hbj
        rw [s4] at b1 b3 b4
        have hbn2 : ab_bn Z N x (ab_zD Z i 3 v x) (ab_zn Z j') := ⟨j', by omega, rfl, by omega, by omega⟩
        obtain ⟨a', ha'⟩ := ab_tbI h hL hG hl hq (show j' < N by omega) hbj' x31 (ht10 _ _ hn hbn2)
        rw [s4] at ha'
        have hj'n := ab_nowm h (show j' ≤ i by omega) hi
        have := uniq j' a' _ (by omega) (by omega) ha' (by omega)
        rw [this] at b4
        exact Or.inr (by omega)
    -- the answer
    have hac := hnp.1 p pN p1 p3 (by rw [p5, ps'])
    rw [p4, p6, ps'] at hac
    have hac2 : ab_za Z x y = ab_zc Z x y + 1 := by
      rcases hnp.2.2 x y ha.2.2.1 with z | z
      · exact absurd z.symm hac
      · exact z
    have hnr : ab_zD Z (a + 1) 4 x 0 ≤ ab_zD Z p 3 y x := Nat.le_trans o5 (ab_nrm h (by omega) (by omega))
    have h8 := ax_pres h q2 p (by omega) (nv p (by omega) (by omega)) y (fun e => hxy e.symm) hnr
    obtain ⟨t', hb', hd', ht1, _, _, _, hpp⟩ := ab_wcI h p (by omega) y x (by omega)
    obtain ⟨v1, v2, v3⟩ := hpp h8
    have ho : ab_zO Z p (ab_pt (ab_zn Z p) y (ab_zD Z p 1 y x) (ab_fr 4 y x (ab_za Z x y) 0 8)) := by
      unfold ab_zO ab_zY
      rw [p1, ab_do1, ps']
      have := ab_ano (u := ab_zu Z) (ac := ab_za Z) (s := y) (p := ab_zp Z p) (x := ab_zX Z p) (D := ab_zD Z p) p3 p5 (by rw [p4]; exact h8) (by rw [p4]; exact v1)
      rw [p4] at this
      exact this
    have fin : ∀ f, f < N → ab_zK Z f = 1 → ab_zs Z f = x → ab_zX Z f 3 = 4 → ab_zX Z f 4 = y → ab_zX Z f 5 = x → ab_zX Z f 6 = ab_za Z x y → False := by
      intro f f1 f2 f3 f4 f5 f6 f7
      have := hnp.2.1 f f1 f2 f4 (by rw [f6, f3])
      rw [f3, f5, f7] at this
      exact this hac2
    obtain ⟨f, fk, fN, f1, fx, fn, fs, fp⟩ := hL.1 p _ pN ho (by show ab_zn Z p + 2 ≤ _; omega)
    have fn' : ab_zn Z f = ab_zn Z p + 1 := fn
    have fs' : ab_zs Z f = ab_zD Z p 1 y x := fs
    by_cases hdx : ab_zD Z p 1 y x = x
    · exact fin f fN f1 (by rw [fs', hdx]) (by rw [fx]; rfl) (by rw [fx]; rfl) (by rw [fx]; rfl) (by rw [fx]; rfl)
    · -- by the TELL's trail: two links
      have hnum : ab_zD Z p 3 y x = ab_zD Z (j + 1) 4 x 0 := by
        rcases way p y (by omega) (by omega) (fun e => hxy e.symm) hd hnr with q | q
        · exact absurd q hdx
        · exact q
      have hbj : ab_bn Z N x (ab_zD Z (j + 1) 4 x 0) (ab_zn Z j) := by
        have hD := h.1 j hj
        refine ⟨j, hj, rfl, ?_, Nat.le_refl _⟩
        obtain ⟨_, _, _, _, g0⟩ := (⟨trivial, trivial, trivial, trivial, trivial⟩ : True ∧ True ∧ True ∧ True ∧ True)
        have := ab_own1 (c := x) h hj
        by_cases e : ab_zD Z j 4 x 0 < ab_zD Z (j + 1) 4 x 0
        · exact e
        · exfalso
          obtain ⟨jj, j1', j2', j3', j4'⟩ := hb'
          rw [hnum] at j3' j4'
          have hjj : jj < j := by
            by_cases e5 : jj < j
            · exact e5
            · have := ab_ownm (c := x) h (show j + 1 ≤ jj + 1 by omega) (by omega)
              by_cases e6 : jj = j
              · rw [e6] at j3'; omega
              · have := ab_ownm (c := x) h (show j + 1 ≤ jj by omega) (by omega)
                omega
          have := ax_tgrow h htb hj
          omega
      have tj := hb'
      rw [hnum] at tj
      have := ab_bnu h tj hbj
      have hu1 : d x (ab_zD Z p 1 y x) = 1 := by
        have : 1 ≤ d x (ab_zD Z p 1 y x) := ax_d1 hW (fun q => hdx q.symm)
        omega
      have ch := ax_ch h q2 p (by omega) (nv p (by omega) (by omega)) y (fun e => hxy e.symm) hnr
      have hn1 : ab_zD Z (a + 1) 4 x 0 ≤ ab_zD Z f 3 (ab_zD Z p 1 y x) x := by
        rcases v3 with q | q
        · exact absurd q hdx
        · exact Nat.le_trans hnr (Nat.le_trans q (ab_nrm h (by omega) (by omega)))
      have h82 := ax_pres h q2 f (by omega) (nv f (by omega) (by omega)) _ hdx hn1
      obtain ⟨t2, hb2, hd2, ht2, _, _, _, hpp2⟩ := ab_wcI h f (by omega) (ab_zD Z p 1 y x) x (by omega)
      obtain ⟨w1, w2, _⟩ := hpp2 h82
      have dir2 : ab_zD Z f 1 (ab_zD Z p 1 y x) x = x := by
        rcases way f _ (by omega) (by omega) hdx hu1 hn1 with q | q
        · exact q
        · rcases ch with c | c | ⟨c1, c2⟩
          · exact absurd c hdx
          · have := ab_nrm (v := ab_zD Z p 1 y x) (c := x) h (show p ≤ f by omega) (by omega)
            omega
          · have cs := ax_cst h q2 hdx (show ab_zD Z (a + 1) 4 x 0 ≤ ab_zD Z p 3 (ab_zD Z p 1 y x) x by omega) f (by omega) (by omega) (nv f (by omega) (by omega)) (by omega)
            exact (hG.2.2.2.1 _ _ (show d x (ab_zD Z f 1 (ab_zD Z p 1 y x) x) = 0 by omega)).symm
      have ho2 : ab_zO Z f (ab_pt (ab_zn Z f) (ab_zD Z p 1 y x) (ab_zD Z f 1 (ab_zD Z p 1 y x) x) (ab_fr 4 y x (ab_za Z x y) 0 (8 - 1))) := by
        unfold ab_zO ab_zY
        rw [f1, ab_do1, fs', fx]
        exact ab_cyo (x := ab_pt (ab_zn Z p) y (ab_zD Z p 1 y x) (ab_fr 4 y x (ab_za Z x y) 0 8)) (s := ab_zD Z p 1 y x) (show 3 ≤ 4 by omega) (fun z => hdx z.symm) (show 1 < 8 by omega) h82 w1
      rw [dir2] at ho2
      obtain ⟨f', fk', fN', f1', fx', fn'', fs'', fp'⟩ := hL.1 f _ fN ho2 (by show ab_zn Z f + 2 ≤ _; omega)
      exact fin f' fN' f1' (by rw [fs'']; rfl) (by rw [fx']; rfl) (by rw [fx']; rfl) (by rw [fx']; rfl) (by rw [fx']; rfl)
  · -- quiet
    have hEx : ax_E Z d N x 1 (ab_zD Z (a + 1) 4 x 0) (ab_zn Z a + 3) := by
      refine ax_q hW q2 (fun g hg => ax_d1 hW (hl8 _ _ hg).1) (fun j z a' hj hjn hje htb => hqt ⟨j, z, a', hj, hjn, hje, htb⟩) ht10
    obtain ⟨b, _, _, hv, _⟩ := ax_ans hW hnp hEx hsx hd haN ha o5 hjp pN p1 ps' p3 p4 p5 p6 (by omega) (by omega) (by omega)
    exact hy x hv.2.2.2.2
