/-! ## timers behind the first piece -/
theorem ax_t0 {Z : ab_Z} {d : Nat → Nat → Nat} {N k z y : Nat} {lm : Nat} (h : ab_RL lm Z d N) (hk : k < N) (hg : ab_go Z k z y) : ab_zD Z (k + 1) 7 z y = 1 ∧ ab_zD Z (k + 1) 8 z y = ab_zn Z k ∧ ab_zD Z (k + 1) 9 z y = 0 := by
  obtain ⟨g1, g2, g3, g4, g5, g6, g7⟩ := hg
  have hD := h.1 k hk
  have ho := g6
  unfold ab_zO ab_zY at ho
  rw [g1, ab_do2, g2, g3] at ho
  rw [hD]
  unfold ab_zY
  rw [g1, ab_do2, g2, g3]
  rcases ab_uc (u := ab_zu Z) (lv := ab_zl Z) (cf := ab_zc Z) (a := z) (b := y) (D := ab_zD Z k) with ⟨e, _⟩ | ⟨hl, _, ⟨q, _, q0, _, yy⟩ | ⟨_, yy⟩⟩
  · rw [e] at ho
    exact absurd ho (fun q => q)
  · rw [yy.2]
    have hq := q0 g7
    refine ⟨?_, ?_, ?_⟩
    · show ab_w (ab_w (ab_w (ab_zD Z k) 9 z y q) 7 z y 1) 8 z y (ab_zD Z k 0 0 0) 7 z y = 1
      rw [ab_wf (by decide), ab_we]
    · show ab_w (ab_w (ab_w (ab_zD Z k) 9 z y q) 7 z y 1) 8 z y (ab_zD Z k 0 0 0) 8 z y = ab_zn Z k
      rw [ab_we]
    · show ab_w (ab_w (ab_w (ab_zD Z k) 9 z y q) 7 z y 1) 8 z y (ab_zD Z k 0 0 0) 9 z y = 0
      rw [ab_wf (by decide), ab_wf (by decide), ab_we, hq]
  · exfalso
    obtain ⟨_, _, y1 | y1⟩ := ab_nwc yy
    · obtain ⟨r, _, e⟩ := y1.2.2.2.2.2 _ ho
      have : (3 : Nat) = 2 := congrFun e 3
      omega
    · rcases y1.2.2.2.2.2.2.2 _ ho with ⟨r, _, _, e⟩ | ⟨r, _, e⟩
      · have : (3 : Nat) = 0 := congrFun e 3
        omega
      · have : (3 : Nat) = 2 := congrFun e 3
        omega
/-- waiting: the pair is open since E with n vain tries -/
def ax_wt (Z : ab_Z) (i z y E n : Nat) : Prop := ab_zD Z i 7 z y = 1 ∧ ab_zD Z i 8 z y = E ∧ ab_zD Z i 9 z y = n
theorem ax_wt1 {Z : ab_Z} {d : Nat → Nat → Nat} {N z y E n a : Nat} {lm : Nat} (h : ab_RL lm Z d N) (ha : ax_wt Z a z y E n) : ∀ i, a ≤ i → i ≤ N → (∀ j, a ≤ j → j < i → ab_zK Z j = 2 → ab_zs Z j = z → ab_zp Z j = y → ab_zn Z j < E + 26) → ax_wt Z i z y E n := by
  intro i
  induction i with
  | zero => intro h1 _ _; rw [← show a = 0 by omega]; exact ha
  | succ i ih =>
    intro h1 h2 h3
    by_cases e : a = i + 1
    · rw [← e]; exact ha
    · have I := ih (by omega) (by omega) (fun j j1 j2 => h3 j j1 (by omega))
      have hD := h.1 i (by omega)
      rcases ab_dt (u := ab_zu Z) (lv := ab_zl Z) (cf := ab_zc Z) (ac := ab_za Z) (k := ab_zK Z i) (a := ab_zs Z i) (b := ab_zp Z i) (i := z) (j := y) (x := ab_zX Z i) (D := ab_zD Z i) with q | ⟨k2, e1, e2, hl, hc, _⟩
      · refine ⟨?_, ?_, ?_⟩
        · rw [hD]; exact q.2.1.trans I.1
        · rw [hD]; exact q.2.2.1.trans I.2.1
        · rw [hD]; exact q.2.2.2.trans I.2.2
      · exfalso
        have := h3 i (by omega) (by omega) k2 e1.symm e2.symm
        rw [← e1, ← e2, I.1, I.2.1] at hc
        have hc' : (1 : Nat) = 0 ∨ E + 26 ≤ ab_zn Z i := hc
        omega
/-- no asking within 26 moments behind the first piece -/
theorem ax_n26 {Z : ab_Z} {d : Nat → Nat → Nat} {N k z y a : Nat} {lm : Nat} (h : ab_RL lm Z d N) (hk : k < N) (hg : ab_go Z k z y) (hka : k < a) (haN : a < N) (ha : ab_ask Z a z y) : ab_zn Z k + 26 ≤ ab_zn Z a := by
  by_cases e : ab_zn Z k + 26 ≤ ab_zn Z a
  · exact e
  · exfalso
    have w0 : ax_wt Z (k + 1) z y (ab_zn Z k) 0 := ax_t0 h hk hg
    have := ax_wt1 h w0 (a + 1) (by omega) (by omega) (fun j j1 j2 _ _ _ => by
      have := ab_nowm h (show j ≤ a by omega) (by omega)
      omega)
    have h7 := ha.2.2.2.2.2.1
    rw [this.1] at h7
    omega
/-- no asking within 52 moments behind the first piece, if there is a way at the second try -/
theorem ax_n52 {Z : ab_Z} {d : Nat → Nat → Nat} {N k z y a : Nat} {lm : Nat} (h : ab_RL lm Z d N) (hL : ab_L Z N) (hl : ab_zl Z z y) (hk : k < N) (hg : ab_go Z k z y) (hka : k < a) (haN : a < N) (ha : ab_ask Z a z y) (hE : ab_zn Z k + 26 < ab_zn Z N)
    (hw : ∀ i, i < N → ab_zn Z i = ab_zn Z k + 26 → ab_hw (ab_zu Z) z y (ab_zD Z i)) : ab_zn Z k + 52 ≤ ab_zn Z a := by
  have h26 := ax_n26 h hk hg hka haN ha
  have w0 : ax_wt Z (k + 1) z y (ab_zn Z k) 0 := ax_t0 h hk hg
  have hk0 := ab_nowm h (Nat.zero_le k) (by omega)
  obtain ⟨m, hm, mn, mk, ms, mp, _⟩ := hL.2.1 (ab_zn Z k + 26) z y (by omega) hE hl
  have hkm : k < m := by
    by_cases e : k < m
    · exact e
    · have := ab_nowm h (show m ≤ k by omega) (by omega)
      omega
  have wm : ax_wt Z m z y (ab_zn Z k) 0 := ax_wt1 h w0 m (by omega) (by omega) (fun j j1 j2 j3 j4 j5 => by
    have h1 := ab_nowm h (show j ≤ m by omega) (by omega)
    by_cases e : ab_zn Z j = ab_zn Z k + 26
    · have := hL.2.2 j m (by omega) hm j3 mk (by omega) (by rw [j4, ms]) (by rw [j5, mp])
      omega
    · omega)
  have wm1 : ax_wt Z (m + 1) z y (ab_zn Z k + 26) 1 := by
    have hD := h.1 m hm
    have hcond : ab_zl Z z y ∧ (ab_zD Z m 7 z y = 0 ∨ ab_zD Z m 8 z y + 26 ≤ ab_zD Z m 0 0 0) := by
      refine ⟨hl, Or.inr ?_⟩
      rw [wm.2.1]
      show ab_zn Z k + 26 ≤ ab_zn Z m
      omega
    unfold ax_wt
    rw [hD]
    unfold ab_zY
    rw [mk, ab_do2, ms, mp]
    rcases ab_uc (u := ab_zu Z) (lv := ab_zl Z) (cf := ab_zc Z) (a := z) (b := y) (D := ab_zD Z m) with ⟨_, e⟩ | ⟨_, _, ⟨q, _, _, q1, yy⟩ | ⟨e, yy⟩⟩
    · exact absurd hcond e
    · rw [yy.2]
      have hq := q1 (by rw [wm.1]; decide)
      rw [wm.2.2] at hq
      refine ⟨?_, ?_, ?_⟩
      · show ab_w (ab_w (ab_w (ab_zD Z m) 9 z y q) 7 z y 1) 8 z y (ab_zD Z m 0 0 0) 7 z y = 1
        rw [ab_wf (by decide), ab_we]
      · show ab_w (ab_w (ab_w (ab_zD Z m) 9 z y q) 7 z y 1) 8 z y (ab_zD Z m 0 0 0) 8 z y = ab_zn Z k + 26
        rw [ab_we]
        exact mn
      · show ab_w (ab_w (ab_w (ab_zD Z m) 9 z y q) 7 z y 1) 8 z y (ab_zD Z m 0 0 0) 9 z y = 1
        rw [ab_wf (by decide), ab_wf (by decide), ab_we, hq]
    · exfalso
      rcases e with e | ⟨_, e⟩
      · exact e (hw m hm mn)
      · rw [wm.2.2] at e
        omega
  by_cases e : ab_zn Z k + 52 ≤ ab_zn Z a
  · exact e
  · exfalso
    have hma : m < a := by
      by_cases q : m < a
      · exact q
      · have q1 := ab_nowm h (show a ≤ m by omega) (by omega)
        by_cases q2 : a = m
        · -- at the second try a piece is sent
          have h7 := ha.2.2.2.2.2.1
          rw [q2, wm1.1] at h7
          omega
        · have := hL.2.2 a m haN hm ha.2.2.2.1 mk (by omega) (by rw [ha.1, ms]) (by rw [ha.2.1, mp])
          exact absurd this q2
    have := ax_wt1 h wm1 (a + 1) (by omega) (by omega) (fun j j1 j2 _ _ _ => by
      have := ab_nowm h (show j ≤ a by omega) (by omega)
      omega)
    have h7 := ha.2.2.2.2.2.1
    rw [this.1] at h7
    omega
