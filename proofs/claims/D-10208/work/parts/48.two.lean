/-! ## the same at distance 2 -/
/-- the TELL of y to x, x nobody's goal, y its nearest goal: straight -/
theorem ax_Tx {Z : ab_Z} {d : Nat → Nat → Nat} {N j a x y r Ex : Nat} (hW : ax_W Z d N) (hj : j < N) (ht : ab_tb Z d j a y x) (hE : ax_E Z d N x r (ab_zD Z (a + 1) 4 x 0) Ex) (hd : d x y = r) (hEj : ab_zn Z j + r ≤ Ex + 1) :
    ∀ i, i < N → ∀ w, ab_zO Z i w → w 3 = 1 → ab_rc Z w → ab_bth Z j w → w 4 = y → w 5 = x → w 7 + d x (w 1) = r ∧ d x (w 2) + 1 = d x (w 1) := by
  have hW' := hW
  obtain ⟨h, hL, hG, hl8, hq⟩ := hW'
  have hl : ∀ a b, ab_zl Z a b → a ≠ b := fun a b z => (hl8 a b z).1
  intro i
  induction i using Nat.strongRecOn with
  | ind i ih =>
    intro hi w ho h3 hr hb e4c e5z
    obtain ⟨g2, gn, gz, gu, g0⟩ := ab_tnr h hl hj ht i hi w ho h3 hr hb e4c e5z
    have hni : ab_zn Z i = ab_zn Z j + w 7 := by
      have h1 : w 0 = ab_zn Z i := (ab_d1 ho hr.1).1
      have := hb.2.1
      omega
    obtain ⟨e0, e1, hu, y'⟩ := ab_d1 ho hr.1
    have p28 : ab_zD Z (i + 1) 1 (w 1) x ≠ 8 := by
      rw [← g2]
      have := (h.2.1 _ _ gu).2.2.1
      omega
    have key : w 7 + d x (w 1) = r → w 7 + d x (w 1) = r ∧ d x (w 2) + 1 = d x (w 1) := by
      intro he
      have d1 : 1 ≤ d x (w 1) := ax_d1 hW (fun q => gz q.symm)
      have hk1 : ab_zn Z (i + 1) = ab_zn Z i := by
        rw [ab_now1 h hi, if_neg ?_]
        rcases y' with ⟨hk, _⟩ | ⟨_, _, _, _, ⟨hk, _⟩ | ⟨_, hk, _⟩⟩
        · omega
        · omega
        · rw [hk.1]; omega
      obtain ⟨_, a2, _, _⟩ := ax_gws hW hE (show i + 1 ≤ N by omega) (by omega) gz (by omega) gn p28
      rw [← g2] at a2
      exact ⟨he, a2⟩
    rcases y' with ⟨hk, e3, e4, e5, e6, e7, eg, y0, y1⟩ | ⟨e4, e7, e6, es, yy⟩
    · have hx3 : ab_zX Z i 3 = 1 := by omega
      have hx : ab_rc Z (ab_zX Z i) := by
        unfold ab_rc at hr ⊢
        rw [e3, ← e4, ← e6]
        refine ⟨hr.1, ?_⟩
        rcases hr.2 with z | z
        · exact Or.inl z
        · omega
      obtain ⟨m, hm, hom, t0, t1, t2, tu⟩ := ab_hrc h hi hk hx
      have hbx : ab_bth Z j (ab_zX Z i) := by
        obtain ⟨b, hbm, hbb⟩ := ab_fbI h m (by omega) _ hom hx
        have : b = j := by
          refine ab_bone (n := w 6) (c := w 4) h (by omega) hj ?_ ?_ hb.2.2.1 hb.2.2.2.1
          · rw [e4, e6]; exact hbb.2.2.1
          · rw [e4, e6]; exact hbb.2.2.2.1
        rw [← this]; exact hbb
      have I := ih m hm (by omega) _ hom hx3 hx hbx (by rw [← e4]; exact e4c) (by rw [← e5]; exact e5z)
      have e12 : w 1 = ab_zX Z i 2 := by rw [e1, t2]
      refine key ?_
      rw [e12]
      omega
    · refine key ?_
      have e1y : w 1 = y := by rw [e1, ← e4, e4c]
      rw [e1y, hd]
      omega
/-- x nobody's goal, y its nearest goal, at distance 1 or 2, nobody's source and the goal of x and of z alone, z nobody's goal and not nearer to y: the second try gets through -/
theorem ax_In2 {Z : ab_Z} {d : Nat → Nat → Nat} {N a x y z r : Nat} (hW : ax_W Z d N) (h0 : ab_t0 Z N) (hnp : ab_np Z N) (hd : d x y = r) (hr2 : r ≤ 2) (hg : ∀ g, ab_zl Z x g → r ≤ d x g) (hzy : ab_zl Z z y → r ≤ d z y) (haN : a < N) (ha : ab_ask Z a x y) (ht : ab_zn Z 0 + 20 ≤ ab_zn Z a)
    (hN : ab_zn Z a + 70 ≤ ab_zn Z N) (hx : ∀ q, ¬ ab_zl Z q x) (hy : ∀ q, ¬ ab_zl Z y q) (hz : ∀ q, ab_zl Z q y → q = x ∨ q = z) (hzp : ∀ q, ¬ ab_zl Z q z) : False := by
  have hW' := hW
  obtain ⟨h, hL, hG, hl8, hq⟩ := hW'
  have hl : ∀ a b, ab_zl Z a b → a ≠ b := fun a b z => (hl8 a b z).1
  obtain ⟨hxy, x8, y8⟩ := hl8 _ _ ha.2.2.1
  obtain ⟨q1, q2, q3⟩ := ab_qf h haN ha
  have r1 : 1 ≤ r := by rw [← hd]; exact ax_d1 hW hxy
  have hEx : ax_E Z d N x r (ab_zD Z (a + 1) 4 x 0) (ab_zn Z a + 55) := by
    refine ax_q hW q2 hg (fun j z a' hj hjn hje htb => hx z htb.2.1.2.2.1) (fun m t hm hb => ?_)
    have := ax_bge h (show a ≤ N by omega) (show ab_zD Z a 4 x 0 < m by omega) hb
    omega
  have hsx : ∀ z, ab_zl Z z x → r ≤ d x z := fun z hz => absurd hz (hx z)
  obtain ⟨jT, m, o1, o2, o3, o4, o5, o6, o7, o8, o9, o10, o13, o14, o11, o12⟩ := ax_qt5 hW h0 hEx hsx hd (by omega) haN ha (by omega) (by omega)
  have hbt : ab_bn Z N y (ab_zX Z m 6) (ab_zn Z a + r) := ⟨jT, by omega, o4, by omega, by omega⟩
  generalize hT : ab_zX Z m 6 = nT at *
  have hy0 := ab_ownm (c := y) h (Nat.zero_le jT) (by omega)
  have hT0 : ab_zD Z 0 4 y 0 < nT := by omega
  have cls : ∀ i v, i ≤ N → nT ≤ ab_zD Z i 3 v y → _ := fun i v hi hn => ax_cls hW hy hi hT0 hn hbt (by omega)
  -- a TELL to x among them is straight
  have tx : ∀ j1 a1 rr w, j1 < N → rr < N → ab_tb Z d j1 a1 y x → ab_zn Z a + r ≤ ab_zn Z j1 → ab_zn Z j1 ≤ ab_zn Z a + 50 → ab_zO Z rr w → w 3 = 1 → ab_rc Z w → ab_bth Z j1 w → w 4 = y → w 5 = x → w 7 + d x (w 1) = r ∧ d x (w 2) + 1 = d x (w 1) := by
    intro j1 a1 rr w h1 h2 h3 h4 h5 h6 h7 h8 h9 h10 h11
    have jd := h3.2.2.2.2.2.2.2.2.1
    rw [hd] at jd
    have a1N : a1 < N := by have := h3.1; omega
    have ha1 : a ≤ a1 := by
      by_cases e : a ≤ a1
      · exact e
      · have := ab_sp h (show a1 < a by omega) haN h3.2.1 ha
        omega
    have hE1 : ax_E Z d N x r (ab_zD Z (a1 + 1) 4 x 0) (ab_zn Z a + 55) := by
      have mo := ab_ownm (c := x) h (show a + 1 ≤ a1 + 1 by omega) (by omega)
      exact ⟨by omega, fun i hi hie v hv hvr hvn => hEx.2 i hi hie v hv hvr (by omega)⟩
    exact ax_Tx hW h1 h3 hE1 hd (by omega) rr h2 w h6 h7 h8 h9 h10 h11
  have born : ∀ i b rr j1, i ≤ N → b < i → rr < b → j1 < N → ab_zO Z rr (ab_zX Z b) → ab_zX Z b 3 = 1 → ab_bth Z j1 (ab_zX Z b) → ab_zX Z b 4 = y → nT ≤ ab_zX Z b 6 → j1 ≤ rr ∧ ab_zn Z j1 ≤ ab_zn Z i := by
    intro i b rr j1 hi hb hrr hj1 ho h3 hb4 h4 h6
    have : j1 ≤ rr := by
      by_cases e : j1 ≤ rr
      · exact e
      · exfalso
        obtain ⟨_, _, _, _, _, cc⟩ := ab_fcI h rr (by omega) _ ho (by omega) (by rw [h4]; omega)
        rw [h4] at cc
        have := ab_ownm (c := y) h (show rr + 1 ≤ j1 by omega) (by omega)
        have := hb4.2.2.1
        rw [h4] at this
        omega
    exact ⟨this, ab_nowm h (by omega) (by omega)⟩
  have nvY : ∀ jj q, jj < N → ab_zn Z jj ≤ ab_zn Z a + 44 → ab_vv Z jj q y → ab_zD Z jj 3 q y < nT := by
    intro jj q hjj hjt hv
    by_cases e : ab_zD Z jj 3 q y < nT
    · exact e
    · exfalso
      by_cases hjn : jj ≤ a
      · have s1 := (ab_san h jj (by omega)).1 q y
        have s2 := ab_ownm (c := y) h (show jj ≤ jT by omega) (by omega)
        omega
      · by_cases hqx : q = x
        · rw [hqx] at hv
          have := ab_vsp h hL h0 (show a < jj by omega) hjj hv ha
          omega
        · have e1 : q = z := by
            rcases hz q hv.2.2.2.2 with y' | y'
            · exact absurd y' hqx
            · exact y'
          obtain ⟨b, rr, j1, a1, z1, c1, c2, c3, c4, c5, c6, c7, c8, c9, c10, c11, c12, c13, c14, c15, c16, c17, c18⟩ := cls jj q (by omega) (by omega)
          obtain ⟨jb, jn⟩ := born jj b rr j1 (by omega) c1 c2 c3 c6 c7 c9 c10 (by omega)
          have jd := c12.2.2.2.2.2.2.2.2.1
          have d7 := c12.2.2.2.2.2.2.2.2.2.1
          rcases hz z1 c12.2.1.2.2.1 with e2 | e2
          · rw [e2] at c12
            obtain ⟨X1, X2⟩ := tx j1 a1 rr _ c3 (by omega) c12 c14 (by omega) c6 c7 c8 c9 c10 (by rw [c11, e2])
            rw [c15] at X2
            have dzx : 1 ≤ d x q := ax_d1 hW (fun y' => hqx y'.symm)
            obtain ⟨_, _, _, dd, _, _⟩ := ab_fcI h rr (by omega) _ c6 (by omega) (by rw [c10]; omega)
            rw [c10] at dd
            have hu2 := (ab_d1 c6 (by omega)).2.2.1
            have e1' := (ab_d1 c6 (by omega)).2.1
            rw [← e1', c15] at hu2
            have lip := hG.2.1 y _ _ hu2
            have sy := hG.2.2.1 q y
            have hzy' := hzy (by rw [← e1]; exact hv.2.2.2.2)
            rw [← e1] at hzy'
            omega
          · rw [e2] at c12 jd d7
            rw [e1] at hv
            have a1j := c12.1
            have := ab_vsp h hL h0 (show a1 < jj by omega) hjj hv c12.2.1
            omega
  have nvx : ∀ i, i ≤ N → ab_zn Z i ≤ ab_zn Z a + 44 → ax_nv Z y nT i := by
    intro i hi hin jj q hjj hv
    have := ab_nowm h (show jj ≤ i by omega) hi
    exact nvY jj q (by omega) (by omega) hv
  have xn : ∀ i, m < i → i ≤ N → nT ≤ ab_zD Z i 3 x y := by
    intro i hmi hi
    have := ab_hnr (u := ab_zu Z) (ac := ab_za Z) (s := x) (p := ab_zp Z m) (x := ab_zX Z m) (D := ab_zD Z m) (Or.inr o8) (by rw [o9]; exact hxy)
    refine Nat.le_trans ?_ (ab_nrm h (show m + 1 ≤ i by omega) (by omega))
    rw [h.1 m o3, ← hT]
    unfold ab_zY
    rw [o6, ab_do1, o7]
    rw [o9] at this
    exact this
  have pres : ∀ i v, i ≤ N → ab_zn Z i ≤ ab_zn Z a + 44 → v ≠ y → nT ≤ ab_zD Z i 3 v y → ab_hw (ab_zu Z) v y (ab_zD Z i) := by
    intro i v hi hin hv hn
    have h8 := ax_pres h hT0 i hi (nvx i hi hin) v hv hn
    obtain ⟨_, _, _, _, _, _, _, hpp⟩ := ab_wcI h i hi v y (by omega)
    exact ⟨h8, (hpp h8).1⟩
  have hn0 := ab_nowm h (Nat.zero_le a) (by omega)
  -- the first piece
  have first : ∃ k, a < k ∧ k < N ∧ ab_go Z k x y ∧ ab_zn Z a < ab_zn Z k ∧ ab_zn Z k ≤ ab_zn Z a + 2 * r := by
    obtain ⟨u, hu, un, uk, us, up, uall⟩ := hL.2.1 (ab_zn Z m) x y (by omega) (by omega) ha.2.2.1
    have hmu := uall m o3 rfl o6
    have hau : a < u := by omega
    obtain ⟨h8, g1⟩ := pres u x (by omega) (by omega) hxy (xn u hmu (by omega))
    rcases ab_att h hL haN ha u (by omega) (by omega) (by omega) with ⟨k', b1, b2, b3, b4⟩ | ⟨z7, z6⟩
    · have := ab_nowm h (show k' ≤ u by omega) (by omega)
      exact ⟨k', b1, by omega, b3, b4, by omega⟩
    · refine ⟨u, hau, hu, ?_, by omega, by omega⟩
      rcases ab_uc (u := ab_zu Z) (lv := ab_zl Z) (cf := ab_zc Z) (a := x) (b := y) (D := ab_zD Z u) with ⟨_, q⟩ | ⟨_, _, ⟨q, q2, q0, q1, yy⟩ | ⟨q, yy⟩⟩
      · exact absurd ⟨ha.2.2.1, Or.inl z7⟩ q
      · refine ⟨uk, us, up, h8, g1, ?_, z7⟩
        unfold ab_zO ab_zY
        rw [uk, ab_do2, us, up, yy.2]
        show ab_pt (ab_zn Z u) x (ab_zD Z u 1 x y) (ab_fr 3 x y (ab_zc Z x y) 0 8) = ab_pt (ab_w (ab_w (ab_w (ab_zD Z u) 9 x y q) 7 x y 1) 8 x y (ab_zD Z u 0 0 0) 0 0 0) x (ab_zD Z u 1 x y) (ab_fr 3 x y (ab_zc Z x y) 0 8)
        rw [ab_wf (by decide), ab_wf (by decide), ab_wf (by decide)]
      · rcases q with q | q
        · exact absurd ⟨h8, g1⟩ q
        · exact absurd z7 q.1
  obtain ⟨k, k1, k2, hgo, k3, k4⟩ := first
  have w0 : ax_wt Z (k + 1) x y (ab_zn Z k) 0 := ax_t0 h k2 hgo
  obtain ⟨u, hu, un, uk, us, up, _⟩ := hL.2.1 (ab_zn Z k + 26) x y (by omega) (by omega) ha.2.2.1
  have hku : k < u := by
    by_cases e : k < u
    · exact e
    · have := ab_nowm h (show u ≤ k by omega) (by omega)
      omega
  have after : ∀ i, i ≤ N → ab_zn Z k + 26 ≤ ab_zn Z i → m < i := by
    intro i hi hin
    by_cases e : m < i
    · exact e
    · have := ab_nowm h (show i ≤ m by omega) (by omega)
      omega
  have wu : ax_wt Z u x y (ab_zn Z k) 0 := ax_wt1 h w0 u (by omega) (by omega) (fun j j1 j2 j3 j4 j5 => by
    have h1 := ab_nowm h (show j ≤ u by omega) (by omega)
    by_cases e : ab_zn Z j = ab_zn Z k + 26
    · have := hL.2.2 j u (by omega) hu j3 uk (by omega) (by rw [j4, us]) (by rw [j5, up])
      omega
    · omega)
  have hnu := xn u (after u (by omega) (by omega)) (by omega)
  obtain ⟨h8, g1⟩ := pres u x (by omega) (by omega) hxy hnu
  have ho : ab_zO Z u (ab_pt (ab_zn Z u) x (ab_zD Z u 1 x y) (ab_fr 3 x y (ab_zc Z x y) 0 8)) := by
    rcases ab_uc (u := ab_zu Z) (lv := ab_zl Z) (cf := ab_zc Z) (a := x) (b := y) (D := ab_zD Z u) with ⟨_, q⟩ | ⟨_, _, ⟨q, q2, q0, q1, yy⟩ | ⟨q, yy⟩⟩
    · exfalso
      refine q ⟨ha.2.2.1, Or.inr ?_⟩
      rw [wu.2.1]
      show ab_zn Z k + 26 ≤ ab_zn Z u
      omega
    · unfold ab_zO ab_zY
      rw [uk, ab_do2, us, up, yy.2]
      show ab_pt (ab_zn Z u) x (ab_zD Z u 1 x y) (ab_fr 3 x y (ab_zc Z x y) 0 8) = ab_pt (ab_w (ab_w (ab_w (ab_zD Z u) 9 x y q) 7 x y 1) 8 x y (ab_zD Z u 0 0 0) 0 0 0) x (ab_zD Z u 1 x y) (ab_fr 3 x y (ab_zc Z x y) 0 8)
      rw [ab_wf (by decide), ab_wf (by decide), ab_wf (by decide)]
    · exfalso
      rcases q with q | ⟨_, q⟩
      · exact q ⟨h8, g1⟩
      · rw [wu.2.2] at q
        omega
  -- a TELL to z among the numbers is the newest one
  have top : ∀ i v b rr j1 a1, i ≤ N → ab_zn Z i ≤ ab_zn Z a + 42 → b < i → rr < b → j1 < N → ab_zO Z rr (ab_zX Z b) → ab_zX Z b 3 = 1 → ab_rc Z (ab_zX Z b) → ab_bth Z j1 (ab_zX Z b) → ab_zX Z b 4 = y → ab_zX Z b 5 = z → ab_tb Z d j1 a1 y z → ab_zX Z b 6 = ab_zD Z i 3 v y → ab_zn Z a + r ≤ ab_zn Z j1 → nT ≤ ab_zD Z i 3 v y →
      ∀ jj v', jj ≤ N → ab_zn Z jj ≤ ab_zn Z a + 42 → v' ≠ y → ab_zD Z jj 3 v' y ≤ ab_zD Z i 3 v y := by
    intro i v b rr j1 a1 hi hin c1 c2 c3 c6 c7 c8 c9 c10 c11 c12 c13 c14 hnv jj v' hjj hje hv'
    by_cases e : ab_zD Z jj 3 v' y ≤ ab_zD Z i 3 v y
    · exact e
    · exfalso
      have jd := c12.2.2.2.2.2.2.2.2.1
      have d7 := c12.2.2.2.2.2.2.2.2.2.1
      obtain ⟨b', r', j3, a3, z3, e1, e2, e3, e4, e5, e6, e7, e8, e9, e10, e11, e12, e13, e14, e15, e16, e17, e18⟩ := cls jj v' hjj (by omega)
      obtain ⟨_, j3n⟩ := born jj b' r' j3 hjj e1 e2 e3 e6 e7 e9 e10 (by omega)
      have jd3 := e12.2.2.2.2.2.2.2.2.1
      have num1 : ab_zD Z (j1 + 1) 4 y 0 = ab_zD Z i 3 v y := by
        have := c9.2.2.2.1
        rw [c10] at this
        rw [this, c13]
      have num3 : ab_zD Z (j3 + 1) 4 y 0 = ab_zD Z jj 3 v' y := by
        have := e9.2.2.2.1
        rw [e10] at this
        rw [this, e13]
      have j13 : j1 < j3 := by
        by_cases q : j1 < j3
        · exact q
        · exfalso
          have := ab_ownm (c := y) h (show j3 + 1 ≤ j1 + 1 by omega) (by omega)
          omega
      have jTn : ab_zD Z (jT + 1) 4 y 0 = nT := o12
      rcases hz z3 e12.2.1.2.2.1 with f2 | f2
      · rw [f2, hd] at jd3
        rw [f2] at e12
        have a3N : a3 < N := by have := e12.1; omega
        rcases Nat.lt_trichotomy a3 a with q | q | q
        · have := ab_sp h q haN e12.2.1 ha
          omega
        · have : j3 = jT := ab_tone h e3 (by omega) e12 o14 (by rw [q] at jd3; omega) (by rw [q] at jd3; omega)
          rw [this] at num3
          omega
        · have k3' : k < a3 := by
            by_cases y' : k < a3
            · exact y'
            · exfalso
              have := ab_sp h q a3N ha e12.2.1
              have := ab_nowm h (show a3 ≤ k by omega) (by omega)
              omega
          have := ax_n52 h hL ha.2.2.1 k2 hgo k3' a3N e12.2.1 (by omega) (fun i hi hin => pres i x (by omega) (by omega) hxy (xn i (after i (by omega) (by omega)) (by omega)))
          omega
      · rw [f2] at e12 jd3
        have a3N : a3 < N := by have := e12.1; omega
        have hzne := (hl8 _ _ e12.2.1.2.2.1).1
        have d1 : 1 ≤ d z y := ax_d1 hW hzne
        have a13 : a1 < a3 := by
          rcases Nat.lt_trichotomy a1 a3 with q | q | q
          · exact q
          · exfalso
            have : j1 = j3 := ab_tone h c3 e3 c12 e12 (by rw [q] at jd; omega) (by rw [q] at jd; omega)
            omega
          · exfalso
            have := ab_sp h q (by have := c12.1; omega) e12.2.1 c12.2.1
            have := ab_nowm h (show j1 ≤ j3 by omega) (by omega)
            omega
        have sp := ab_sp h a13 a3N c12.2.1 e12.2.1
        obtain ⟨kz, mz, z1', z2', z3', z4', z5', z6', z7', z8'⟩ := ax_gz (w := ab_zX Z b) hW h0 hzp c3 c12 (by omega) (show rr < N by omega) c6 c7 c8 c9 c10 c11 (by
          have := ax_lifeT hW hzp c3 c12 (by omega) rr (by omega) _ c6 c7 c8 c9 c10 c11
          omega) (by omega) (fun jj' q hjj' hjt hv => by
          have := nvY jj' q hjj' (by omega) hv
          omega)
        have ka3 : kz < a3 := by
          by_cases y' : kz < a3
          · exact y'
          · have := ab_nowm h (show a3 ≤ kz by omega) (by omega)
            omega
        have n26 := ax_n26 h z2' z3' ka3 a3N e12.2.1
        have n52 := ax_n52 h hL c12.2.1.2.2.1 z2' z3' ka3 a3N e12.2.1 (by omega) (fun i' hi' hin' => by
          have hmi : mz < i' := by
            by_cases e : mz < i'
            · exact e
            · have := ab_nowm h (show i' ≤ mz by omega) (by omega)
              omega
          have hni : ab_zD Z i 3 v y ≤ ab_zD Z i' 3 z y := by
            rw [c13] at z8'
            exact Nat.le_trans z8' (ab_nrm h (by omega) (by omega))
          exact pres i' z (by omega) (by omega) hzne (by omega))
        omega
  have nvE : ∀ jj q, jj < N → ab_zn Z jj ≤ ab_zn Z a + 42 → ab_vv Z jj q y → ab_zD Z jj 3 q y < nT := fun jj q hjj hje hv => nvY jj q hjj (by omega) hv
  -- it arrives
  have arr : ∃ p, u < p ∧ p < N ∧ ab_zK Z p = 1 ∧ ab_zs Z p = y ∧ ab_zX Z p 3 = 3 ∧ ab_zX Z p 4 = x ∧ ab_zX Z p 5 = y ∧ ab_zX Z p 6 = ab_zc Z x y ∧ ab_zn Z p ≤ ab_zn Z u + 9 := by
    by_cases hdir : ab_zD Z u 1 x y = y
    · rw [hdir] at ho
      obtain ⟨p, pk, pN, p1, px, pn, ps, pp⟩ := hL.1 u _ hu ho (by show ab_zn Z u + 2 ≤ _; omega)
      have pn' : ab_zn Z p = ab_zn Z u + 1 := pn
      exact ⟨p, pk, pN, p1, by rw [ps]; rfl, by rw [px]; rfl, by rw [px]; rfl, by rw [px]; rfl, by rw [px]; rfl, by omega⟩
    · obtain ⟨b, rr, j1, a1, z1, c1, c2, c3, c4, c5, c6, c7, c8, c9, c10, c11, c12, c13, c14, c15, c16, c17, c18⟩ := cls u x (by omega) hnu
      obtain ⟨jb, jn⟩ := born u b rr j1 (by omega) c1 c2 c3 c6 c7 c9 c10 (by omega)
      rcases hz z1 c12.2.1.2.2.1 with e2 | e2
      · -- the way is that of a TELL to x: straight
        rw [e2] at c12
        obtain ⟨X1, X2⟩ := tx j1 a1 rr _ c3 (by omega) c12 c14 (by omega) c6 c7 c8 c9 c10 (by rw [c11, e2])
        rw [c15] at X2
        have dxx := hG.1 x
        obtain ⟨_, _, _, dd, _, _⟩ := ab_fcI h rr (by omega) _ c6 (by omega) (by rw [c10]; omega)
        rw [c10] at dd
        have hp1 : ab_zD Z u 1 x y = ab_zX Z b 1 := by
          rcases c17 with q | q
          · exact absurd q h8
          · rw [q, c16]
        -- the piece is heard at the next station, a neighbour of y
        obtain ⟨m1, hm1, hmN, km1, kx, kn, ks, kp⟩ := hL.1 u _ hu ho (by show ab_zn Z u + 2 ≤ _; omega)
        have kn' : ab_zn Z m1 = ab_zn Z u + 1 := kn
        have ks' : ab_zs Z m1 = ab_zD Z u 1 x y := ks
        obtain ⟨_, _, _, _, _, _, _, hpp⟩ := ab_wcI h u (by omega) x y (by omega)
        obtain ⟨_, _, q3'⟩ := hpp h8
        have hn1 : nT ≤ ab_zD Z m1 3 (ab_zD Z u 1 x y) y := by
          rcases q3' with q | q
          · exact absurd q hdir
          · exact Nat.le_trans hnu (Nat.le_trans q (ab_nrm h (by omega) (by omega)))
        obtain ⟨h82, g2⟩ := pres m1 _ (by omega) (by omega) hdir hn1
        have ho2 : ab_zO Z m1 (ab_pt (ab_zn Z m1) (ab_zD Z u 1 x y) (ab_zD Z m1 1 (ab_zD Z u 1 x y) y) (ab_fr 3 x y (ab_zc Z x y) 0 (8 - 1))) := by
          unfold ab_zO ab_zY
          rw [km1, ab_do1, ks', kx]
          exact ab_cyo (x := ab_pt (ab_zn Z u) x (ab_zD Z u 1 x y) (ab_fr 3 x y (ab_zc Z x y) 0 8)) (s := ab_zD Z u 1 x y) (show 3 ≤ 3 by omega) (fun z => hdir z.symm) (show 1 < 8 by omega) h82 g2
        by_cases hdir2 : ab_zD Z m1 1 (ab_zD Z u 1 x y) y = y
        · rw [hdir2] at ho2
          obtain ⟨p, pk, pN, p1, px, pn, ps, pp⟩ := hL.1 m1 _ hmN ho2 (by show ab_zn Z m1 + 2 ≤ _; omega)
          have pn' : ab_zn Z p = ab_zn Z m1 + 1 := pn
          exact ⟨p, by omega, pN, p1, by rw [ps]; rfl, by rw [px]; rfl, by rw [px]; rfl, by rw [px]; rfl, by rw [px]; rfl, by omega⟩
        · obtain ⟨b3, r3, j3, a3, z3, e1, e2', e3, e4, e5, e6, e7, e8, e9, e10, e11, e12, e13, e14, e15, e16, e17, e18⟩ := cls m1 _ (by omega) hn1
          obtain ⟨_, jn3⟩ := born m1 b3 r3 j3 (by omega) e1 e2' e3 e6 e7 e9 e10 (by omega)
          rcases hz z3 e12.2.1.2.2.1 with f2 | f2
          · exfalso
            rw [f2] at e12
            obtain ⟨Y1, Y2⟩ := tx j3 a3 r3 _ e3 (by omega) e12 e14 (by omega) e6 e7 e8 e9 e10 (by rw [e11, f2])
            rw [e15] at Y2
            have hpx : ab_zD Z u 1 x y ≠ x := (h.2.1 _ _ g1).2.2.2.symm
            have d1 : 1 ≤ d x (ab_zD Z u 1 x y) := ax_d1 hW (fun q => hpx q.symm)
            obtain ⟨_, _, _, _, g0⟩ := ab_tnr h hl e3 e12 r3 (by omega) _ e6 e7 e8 e9 e10 (by rw [e11, f2])
            have rj := g0 (by omega)
            have e1'' := (ab_d1 e6 (by omega)).2.1
            rw [rj, e12.2.2.2.1] at e1''
            rcases e17 with q | q
            · exact h82 q
            · exact hdir2 (by rw [q, ← e16, e1''])
          · rw [f2] at e12 e11
            have T := top m1 _ b3 r3 j3 a3 (by omega) (by omega) e1 e2' e3 e6 e7 e8 e9 e10 e11 e12 e13 e14 hn1
            have hp8 : ab_zD Z u 1 x y < 8 := (h.2.1 _ _ g1).2.2.1
            obtain ⟨p, p1, p2, p3, p4, p5, p6, p7, p8, p9⟩ := ax_r1 (m := ab_zD Z m1 3 (ab_zD Z u 1 x y) y) (E := ab_zn Z a + 42) (f := x) (nn := ab_zc Z x y) (l := 0) hW y8 hT0 hn1 (show 3 ≤ 3 by omega) nvE (fun jj v hjj hje hv => T jj v hjj hje hv) 7 0 m1 (ab_zD Z u 1 x y) (fun _ => 0) hmN hdir hp8 rfl (fun a ha => absurd ha (by omega)) (fun a b _ hb => absurd hb (by omega)) (by omega) ho2 (by omega) (by omega)
            exact ⟨p, by omega, p2, p3, p4, p5, p6, p7, p8, by omega⟩
      · rw [e2] at c12 c11
        have T := top u x b rr j1 a1 (by omega) (by omega) c1 c2 c3 c6 c7 c8 c9 c10 c11 c12 c13 c14 hnu
        obtain ⟨p, p1, p2, p3, p4, p5, p6, p7, p8, p9⟩ := ax_r1 (m := ab_zD Z u 3 x y) (E := ab_zn Z a + 42) (f := x) (nn := ab_zc Z x y) (l := 0) hW y8 hT0 hnu (show 3 ≤ 3 by omega) nvE (fun jj v hjj hje hv => T jj v hjj hje hv) 8 0 u x (fun _ => 0) hu hxy x8 rfl (fun a ha => absurd ha (by omega)) (fun a b _ hb => absurd hb (by omega)) (by omega) ho (by omega) (by omega)
        exact ⟨p, p1, p2, p3, p4, p5, p6, p7, p8, by omega⟩
  obtain ⟨p, p1, p2, p3, p4, p5, p6, p7, p8, p9⟩ := arr
  have jTp : jT < p := by
    by_cases e : jT < p
    · exact e
    · have := ab_nowm h (show p ≤ jT by omega) (by omega)
      have := ab_nowm h (show u ≤ p by omega) (by omega)
      omega
  obtain ⟨b, _, _, hv, _⟩ := ax_ans hW hnp hEx hsx hd haN ha o5 jTp p2 p3 p4 p5 p6 p7 p8 (by omega) (by omega) (by omega)
  exact hx y hv.2.2.2.2
