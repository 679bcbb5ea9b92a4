/-! ## couples: y the nearest goal of x, no goal of y is nearer than x, goals of each other at most -/
theorem ax_cpl {Z : ab_Z} {d : Nat → Nat → Nat} {N a x y r ny t0 : Nat} (hW : ax_W Z d N) (h0 : ab_t0 Z N) (hnp : ab_np Z N) (hd : d x y = r) (h7 : r ≤ 7) (haN : a < N) (ha : ab_ask Z a x y) (ht : ab_zn Z 0 + 34 ≤ ab_zn Z a) (hN : ab_zn Z a + 7 * r + 3 ≤ ab_zn Z N)
    (hx : ∀ q, ab_zl Z q x → q = y) (hy : ∀ q, ab_zl Z q y → q = x) (hgx : ∀ g, ab_zl Z x g → r ≤ d x g) (hgy : ∀ g, ab_zl Z y g → r ≤ d y g) (hn0 : ab_zD Z 0 4 y 0 < ny) (hbn : ab_bn Z N y ny t0) (ht0 : ab_zn Z 0 + 34 ≤ t0) (hta : t0 < ab_zn Z a + r) (hrec : ny ≤ ab_zD Z a 3 x y) : False := by
  have hW' := hW
  obtain ⟨h, hL, hG, hl8, hq⟩ := hW'
  have sy := hG.2.2.1
  obtain ⟨hxy, x8, y8⟩ := hl8 _ _ ha.2.2.1
  obtain ⟨q1, q2, q3⟩ := ab_qf h haN ha
  have hdy : d y x = r := by rw [sy]; exact hd
  have hbq : ab_bn Z N x (ab_zD Z (a + 1) 4 x 0) (ab_zn Z a) := ⟨a, haN, rfl, by omega, Nat.le_refl _⟩
  have hEx : ax_E Z d N x r (ab_zD Z (a + 1) 4 x 0) (ab_zn Z N) := ax_cE hW hx hy (fun _ g hg => by have := hgy g hg; omega) (fun _ _ g hg => by have := hgx g hg; omega) hgx q2 hbq (by omega)
  have hEy : ax_E Z d N y r ny (ab_zn Z N) := ax_cE hW hy hx (fun _ g hg => by have := hgx g hg; omega) (fun _ _ g hg => by have := hgy g hg; omega) hgy hn0 hbn (by omega)
  have hsx : ∀ z, ab_zl Z z x → r ≤ d x z := fun z hz => by rw [hx z hz, hd]; exact Nat.le_refl _
  have hsy : ∀ z, ab_zl Z z y → r ≤ d y z := fun z hz => by rw [hy z hz, hdy]; exact Nat.le_refl _
  obtain ⟨j, j1, j2, j3, j4, j5, j6⟩ := ax_try hW h0 hnp hEx hEy hsx hsy hd h7 haN ha (by omega) (by omega) (by omega) (fun n hb => by
    by_cases e : ny ≤ n
    · exact e
    · have := ab_bnl h hb hbn (by omega)
      omega) (fun k k1 k2 k3 hg => Nat.le_trans hrec (ab_nrm h (by omega) (by omega)))
  have hask := ax_vask h hL h0 j2 j3 (by omega)
  obtain ⟨p1, p2, p3⟩ := ab_qf h j2 hask
  have hbj : ab_bn Z N y (ab_zD Z (j + 1) 4 y 0) (ab_zn Z j) := ⟨j, j2, rfl, by omega, Nat.le_refl _⟩
  have hEy2 : ax_E Z d N y r (ab_zD Z (j + 1) 4 y 0) (ab_zn Z N) := ax_cE hW hy hx (fun _ g hg => by have := hgx g hg; omega) (fun _ _ g hg => by have := hgy g hg; omega) hgy p2 hbj (by omega)
  have r1 : 1 ≤ r := by rw [← hd]; exact ax_d1 hW hxy
  obtain ⟨j', e1, e2, e3, e4, e5, e6⟩ := ax_try hW h0 hnp hEy2 hEx hsy hsx hdy h7 j2 hask (by omega) (by omega) (by omega) (fun n hb => by
    by_cases e : ab_zD Z (a + 1) 4 x 0 ≤ n
    · exact e
    · have := ab_bnl h hb hbq (by omega)
      omega) (fun k k1 k2 k3 hg => Nat.le_trans j6 (ab_nrm h (by omega) (by omega)))
  have := ab_vsp h hL h0 (show a < j' by omega) e2 e3 ha
  omega
/-- the same in a long run -/
theorem ax_R0 {Z : ab_Z} {d : Nat → Nat → Nat} {N x y r lm : Nat} (hR : ax_LR lm Z d N) (hd : d x y = r) (hr : r ≤ 3) (hl : ab_zl Z x y) (hx : ∀ q, ab_zl Z q x → q = y) (hy : ∀ q, ab_zl Z q y → q = x) (hgx : ∀ g, ab_zl Z x g → r ≤ d x g) (hgy : ∀ g, ab_zl Z y g → r ≤ d y g) (hN : ab_zn Z 0 + 250 ≤ ab_zn Z N) : False := by
  have hR' := hR
  obtain ⟨h, hL, hG, hl8, h0, hU, hnp⟩ := hR'
  obtain ⟨a0, s1, s2, s3, s4⟩ := ab_askx h hL h0 hl (show ab_zn Z 0 ≤ ab_zn Z 0 + 40 by omega) (by omega)
  obtain ⟨k, e, k1, e1, e2, k3, e3, hW, h0', hU', hnp'⟩ := ax_wn 36 90 hR s1 (by omega) (by omega) (by omega) (by omega) (by omega)
  have na := ax_shn (Z := Z) (show k ≤ a0 by omega)
  have ne := ax_shn (Z := Z) (show k ≤ e by omega)
  have n0 : ab_zn (ab_sh Z k) 0 = ab_zn Z k := rfl
  have ha := ab_sha (x := x) (y := y) (show k ≤ a0 by omega) s2
  generalize hZ : ab_sh Z k = Y at *
  generalize hM : e - k = M at *
  generalize hA : a0 - k = a at *
  have haM : a < M := by omega
  have lY : ∀ p q, ab_zl Y p q → ab_zl Z p q := by
    intro p q hp
    rw [← hZ] at hp
    exact hp
  have xY : ∀ q, ab_zl Y q x → q = y := fun q hq => hx q (lY _ _ hq)
  have yY : ∀ q, ab_zl Y q y → q = x := fun q hq => hy q (lY _ _ hq)
  have gxY : ∀ g, ab_zl Y x g → r ≤ d x g := fun g hg => hgx g (lY _ _ hg)
  have gyY : ∀ g, ab_zl Y y g → r ≤ d y g := fun g hg => hgy g (lY _ _ hg)
  have hW' := hW
  obtain ⟨h', hL', hG', hl8', hq'⟩ := hW'
  obtain ⟨hxy, x8, y8⟩ := hl8' _ _ ha.2.2.1
  obtain ⟨q1, q2, q3⟩ := ab_qf h' haM ha
  have hdy : d y x = r := by rw [hG'.2.2.1]; exact hd
  have r1 : 1 ≤ r := by rw [← hd]; exact ax_d1 hW hxy
  have hbq : ab_bn Y M x (ab_zD Y (a + 1) 4 x 0) (ab_zn Y a) := ⟨a, haM, rfl, by omega, Nat.le_refl _⟩
  have hEx : ax_E Y d M x r (ab_zD Y (a + 1) 4 x 0) (ab_zn Y M) := ax_cE hW xY yY (fun _ g hg => by have := gyY g hg; omega) (fun _ _ g hg => by have := gxY g hg; omega) gxY q2 hbq (by omega)
  have hsx : ∀ z, ab_zl Y z x → r ≤ d x z := fun z hz => by rw [xY z hz, hd]; exact Nat.le_refl _
  obtain ⟨jT, m, o1, o2, o3, o4, o5, o6, o7, o8, o9, o10, o13, o14, o11, o12⟩ := ax_qt5 hW h0' hEx hsx hd (by omega) haM ha (by omega) (by omega)
  have hbt : ab_bn Y M y (ab_zX Y m 6) (ab_zn Y a + r) := ⟨jT, by omega, o4, by omega, by omega⟩
  generalize hT : ab_zX Y m 6 = nT at *
  have hy0 := ab_ownm (c := y) h' (Nat.zero_le jT) (by omega)
  have hT0 : ab_zD Y 0 4 y 0 < nT := by omega
  have xn : ∀ i, m < i → i ≤ M → nT ≤ ab_zD Y i 3 x y := by
    intro i hmi hi
    have := ab_hnr (u := ab_zu Y) (ac := ab_za Y) (s := x) (p := ab_zp Y m) (x := ab_zX Y m) (D := ab_zD Y m) (Or.inr o8) (by rw [o9]; exact hxy)
    refine Nat.le_trans ?_ (ab_nrm h' (show m + 1 ≤ i by omega) (by omega))
    rw [h'.1 m o3, ← hT]
    unfold ab_zY
    rw [o6, ab_do1, o7]
    rw [o9] at this
    exact this
  -- ways of x to y stay
  have pres : ∀ i, m < i → i ≤ M → ab_zn Y i ≤ ab_zn Y a + 50 → ab_hw (ab_zu Y) x y (ab_zD Y i) := by
    intro i hmi hi hit
    have hn := xn i hmi hi
    have h8 := ax_pres h' hT0 i hi (fun jj q hjj hv => by
      have qx := yY q hv.2.2.2.2
      rw [qx] at hv ⊢
      by_cases e : jj ≤ a
      · have s1 := (ab_san h' jj (by omega)).1 x y
        have s2 := ab_ownm (c := y) h' (show jj ≤ jT by omega) (by omega)
        omega
      · have := ab_vsp h' hL' h0' (show a < jj by omega) (by omega) hv ha
        have := ab_nowm h' (show jj ≤ i by omega) hi
        omega) x hxy hn
    obtain ⟨_, _, _, _, _, _, _, hpp⟩ := ab_wcI h' i hi x y (by omega)
    exact ⟨h8, (hpp h8).1⟩
  have hn0' := ab_nowm h' (Nat.zero_le a) (by omega)
  have am : a < m := by omega
  have hma := ab_nowm h' (show a ≤ m by omega) (by omega)
  -- the first piece
  have first : ∃ k, a < k ∧ k < M ∧ ab_go Y k x y ∧ ab_zn Y a < ab_zn Y k ∧ ab_zn Y k ≤ ab_zn Y a + 2 * r := by
    have hmt : ab_zn Y a < ab_zn Y m := ab_urg h' hL' h0' o3 am o6 ha.2.2.2.1 (by rw [ha.1, ha.2.1]; exact ha.2.2.1) (by omega)
    obtain ⟨u, hu, un, uk, us, up, uall⟩ := hL'.2.1 (ab_zn Y m) x y (by omega) (by omega) ha.2.2.1
    have hmu := uall m o3 rfl o6
    have hau : a < u := by omega
    obtain ⟨h8, g1⟩ := pres u hmu (by omega) (by omega)
    rcases ab_att h' hL' haM ha u (by omega) (by omega) (by omega) with ⟨k', b1, b2, b3, b4⟩ | ⟨z7, z6⟩
    · have := ab_nowm h' (show k' ≤ u by omega) (by omega)
      exact ⟨k', b1, by omega, b3, b4, by omega⟩
    · refine ⟨u, hau, hu, ?_, by omega, by omega⟩
      rcases ab_uc (u := ab_zu Y) (lv := ab_zl Y) (cf := ab_zc Y) (a := x) (b := y) (D := ab_zD Y u) with ⟨_, q⟩ | ⟨_, _, ⟨q, q2, q0, q1, yy⟩ | ⟨q, yy⟩⟩
      · exact absurd ⟨ha.2.2.1, Or.inl z7⟩ q
      · refine ⟨uk, us, up, h8, g1, ?_, z7⟩
        unfold ab_zO ab_zY
        rw [uk, ab_do2, us, up, yy.2]
        show ab_pt (ab_zn Y u) x (ab_zD Y u 1 x y) (ab_fr 3 x y (ab_zc Y x y) 0 8) = ab_pt (ab_w (ab_w (ab_w (ab_zD Y u) 9 x y q) 7 x y 1) 8 x y (ab_zD Y u 0 0 0) 0 0 0) x (ab_zD Y u 1 x y) (ab_fr 3 x y (ab_zc Y x y) 0 8)
        rw [ab_wf (by decide), ab_wf (by decide), ab_wf (by decide)]
      · rcases q with q | q
        · exact absurd ⟨h8, g1⟩ q
        · exact absurd z7 q.1
  obtain ⟨k', g1, g2, hgo, g3, g4⟩ := first
  have h61 : ab_zD Y (k' + 1) 6 x y ≤ ab_zn Y k' + 26 := by
    have hk1 : ab_zn Y (k' + 1) = ab_zn Y k' := by rw [ab_now1 h' g2, if_neg (by rw [hgo.1]; omega)]
    rcases ab_la (a := x) (b := y) h' (k' + 1) (by omega) with e | ⟨b, b1, b2, b3⟩
    · have := (h0'.1 x y).1
      omega
    · have := ab_nowm h' (show b ≤ k' by omega) (by omega)
      omega
  have done : ∀ s, k' < s → s < M → ab_ask Y s x y → ab_zn Y s ≤ ab_zn Y k' + 52 → ab_zn Y k' + 26 ≤ ab_zn Y s → False := by
    intro s s1 s2 s3 s4 s5
    have ms : m < s := by
      by_cases q : m < s
      · exact q
      · have := ab_nowm h' (show s ≤ m by omega) (by omega)
        omega
    exact ax_cpl hW h0' hnp' hd (by omega) s2 s3 (by omega) (by omega) xY yY gxY gyY hT0 hbt (by omega) (by omega) (xn s ms (by omega))
  rcases ax_n52x h' hL' ha.2.2.1 g2 hgo (by omega) h61 with ⟨s, s1, s2, s3, s4⟩ | ⟨s, s1, s2, s3, s4⟩
  · exact done s s1 s2 s4 (by omega) (by omega)
  · exact done s s1 s2 s4 (by omega) (by omega)
