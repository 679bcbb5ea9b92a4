/-! ## two bad attempts one behind the other -/
/-- the learning behind a way that was not there before -/
theorem ax_ll {Z : ab_Z} {d : Nat → Nat → Nat} {N v c a : Nat} {lm : Nat} (h : ab_RL lm Z d N) (h8 : ab_zD Z a 1 v c = 8) : ∀ k, a ≤ k → k ≤ N → ab_zD Z k 1 v c ≠ 8 → ∃ m, a ≤ m ∧ m < k ∧ ab_zK Z m = 1 ∧ ab_zs Z m = v ∧ ab_zX Z m 4 = c ∧ (ab_zX Z m 3 = 0 ∧ ¬ ab_sn v (ab_zX Z m 4) (ab_zX Z m 8) (ab_zD Z m) ∨ ab_zX Z m 3 = 1) ∧ ab_zD Z k 1 v c = ab_zp Z m ∧ ab_zD Z k 3 v c = ab_zX Z m 6 := by
  intro k
  induction k with
  | zero => intro h1 _ hk; rw [← show a = 0 by omega] at hk; exact absurd h8 hk
  | succ k ih =>
    intro h1 h2 hk
    by_cases e : a = k + 1
    · rw [← e] at hk; exact absurd h8 hk
    · have hD := h.1 k (by omega)
      rcases ab_Ry h (show k < N by omega) v c with ⟨s1, s2, s3⟩ | ⟨hk1, ev, ec, hs', hl, l1, l2, l3⟩ | ⟨ev, ⟨y0, y1, y2, y3, _⟩, y⟩
      · rw [← hD] at s1 s3
        rw [s1] at hk
        obtain ⟨m, m1, m2, m3, m4, m5, m6, m7, m8⟩ := ih (by omega) (by omega) hk
        exact ⟨m, m1, by omega, m3, m4, m5, m6, by rw [s1]; exact m7, by rw [s3]; exact m8⟩
      · rw [← hD] at l1 l3
        exact ⟨k, by omega, by omega, hk1, ev.symm, ec.symm, by rw [ev]; exact hs', l1, l3⟩
      · rw [← hD] at y1
        exact absurd y1 hk
/-- a hearing of a late number of y, if y asks nothing -/
theorem ax_hT {Z : ab_Z} {d : Nat → Nat → Nat} {N m y nb t0 : Nat} (hW : ax_W Z d N) (hy : ∀ q, ¬ ab_zl Z y q) (hmN : m < N) (hk : ab_zK Z m = 1) (h4 : ab_zX Z m 4 = y) (h3 : ab_zX Z m 3 ≤ 1) (hb0 : ab_zD Z 0 4 y 0 < nb) (hbn : ab_bn Z N y nb t0) (ht0 : ab_zn Z 0 + 17 ≤ t0) (hn : nb ≤ ab_zX Z m 6) :
    ∃ j a z r, j < N ∧ ab_tb Z d j a y z ∧ ax_fr Z N j y z r (ab_zX Z m) ∧ ab_zX Z m 2 = ab_zs Z m ∧ ab_zX Z m 1 = ab_zp Z m ∧ ab_zn Z m = ab_zn Z j + ab_zX Z m 7 + 1 ∧ ab_zn Z 0 + 10 ≤ ab_zn Z a ∧ (ab_zX Z m 7 = 0 → ab_zX Z m 1 = y) := by
  have hW' := hW
  obtain ⟨h, hL, hG, hl8, hq⟩ := hW'
  have hl : ∀ a b, ab_zl Z a b → a ≠ b := fun a b z => (hl8 a b z).1
  have mr : ab_rc Z (ab_zX Z m) := ⟨h3, Or.inl (by rw [h4]; omega)⟩
  have h31 : ab_zX Z m 3 = 1 := by
    by_cases e : ab_zX Z m 3 = 1
    · exact e
    · exfalso
      obtain ⟨b', hb'm, hba, _⟩ := ab_hask h hmN hk (by omega) mr
      rw [h4] at hba
      exact hy _ hba.2.2.1
  obtain ⟨r', hrm, hor, r0, r1, r2', ru⟩ := ab_hrc h hmN hk mr
  obtain ⟨j', hj', hbj⟩ := ab_fbI h r' (by omega) _ hor mr
  have hbj' := hbj
  obtain ⟨b1, b2, b3, b4, b5⟩ := hbj
  rw [h4] at b1 b3 b4
  have hbn2 : ab_bn Z N y (ab_zX Z m 6) (ab_zn Z j') := ⟨j', by omega, rfl, by omega, by omega⟩
  have htt := ab_bnl h hbn hbn2 hn
  obtain ⟨a', ha'⟩ := ab_tbI h hL hG hl hq (show j' < N by omega) hbj' h31 (by omega)
  rw [h4] at ha'
  have jd := ha'.2.2.2.2.2.2.2.2.1
  have d7 := ha'.2.2.2.2.2.2.2.2.2.1
  refine ⟨j', a', _, r', by omega, ha', ⟨by omega, hor, h31, mr, hbj', h4, rfl⟩, by rw [r2'], r1, by omega, by omega, fun q => ?_⟩
  have g0 := (ab_tnr h hl (show j' < N by omega) ha' r' (by omega) _ hor h31 mr hbj' h4 rfl).2.2.2.2 q
  have e1 := (ab_d1 hor (by omega)).2.1
  rw [g0, ha'.2.2.2.1] at e1
  exact e1
/-- a bad piece comes by a TELL of y to z -/
theorem ax_bT {Z : ab_Z} {d : Nat → Nat → Nat} {N a x y z nb t0 : Nat} (hW : ax_W Z d N) (h0 : ab_t0 Z N) (hd : d x y = 1) (haN : a < N) (ha : ab_ask Z a x y) (hy : ∀ q, ¬ ab_zl Z y q) (hz : ∀ q, ab_zl Z q y → q = x ∨ q = z) (hN : ab_zn Z a + 6 ≤ ab_zn Z N)
    (hb0 : ab_zD Z 0 4 y 0 < nb) (hbn : ab_bn Z N y nb t0) (ht0 : ab_zn Z 0 + 17 ≤ t0) (hrx : nb ≤ ab_zD Z a 3 x y) (hb : ax_bad Z N a x y) :
    ∃ m j az r, m < N ∧ ab_zK Z m = 1 ∧ ab_zs Z m = x ∧ ab_zn Z a < ab_zn Z m ∧ ab_zn Z m ≤ ab_zn Z a + 2 ∧ j < N ∧ ab_tb Z d j az y z ∧ ax_fr Z N j y z r (ab_zX Z m) ∧ ab_zn Z m = ab_zn Z j + ab_zX Z m 7 + 1 ∧ 1 ≤ ab_zX Z m 7 ∧ ab_zn Z 0 + 10 ≤ ab_zn Z az := by
  have hW' := hW
  obtain ⟨h, hL, hG, hl8, hq⟩ := hW'
  obtain ⟨k, k1, k2, k3, k4, hgo, hdir⟩ := hb
  obtain ⟨m, m1, m2, m3, m4, m5, m6, m7, m8⟩ := ax_ll h (show ab_zD Z (a + 1) 1 x y = 8 from ha.2.2.2.2.1) k (by omega) (by omega) hgo.2.2.2.1
  have hmn := ab_nowm h (show m ≤ k by omega) (by omega)
  have hlat := ab_urg h hL h0 (show m < N by omega) (show a < m by omega) m3 ha.2.2.2.1 (by rw [ha.1, ha.2.1]; exact ha.2.2.1) (by omega)
  have mo := ab_nrm (v := x) (c := y) h (show a ≤ k by omega) (by omega)
  obtain ⟨j, az, z1, r, c1, c2, c3, c4, c5, c6, c7, c8⟩ := ax_hT hW hy (show m < N by omega) m3 m5 (by rcases m6 with ⟨q, _⟩ | q <;> omega) hb0 hbn ht0 (by omega)
  have h7 : 1 ≤ ab_zX Z m 7 := by
    rcases Nat.eq_zero_or_pos (ab_zX Z m 7) with q | q
    · exact absurd (by rw [m7, ← c5, c8 q]) hdir
    · exact q
  have hz1 : z1 = z := by
    rcases hz z1 c2.2.1.2.2.1 with e | e
    · exfalso
      rw [e] at c2 c3
      have := (ax_dirT hW c1 c2 hd r c3.1 _ c3.2.1 c3.2.2.1 c3.2.2.2.1 c3.2.2.2.2.1 c3.2.2.2.2.2.1 c3.2.2.2.2.2.2).1
      omega
    · exact e
  rw [hz1] at c2 c3
  exact ⟨m, j, az, r, by omega, m3, m4, hlat, by omega, c1, c2, c3, c6, h7, c7⟩
/-- TWO BAD ATTEMPTS: not one behind the other, if the first is not stale -/
theorem ax_bad2 {Z : ab_Z} {d : Nat → Nat → Nat} {N a a2 x y z nb t0 : Nat} (hW : ax_W Z d N) (h0 : ab_t0 Z N) (hU : ax_U Z N) (hd : d x y = 1) (ha2N : a2 < N) (ha : ab_ask Z a x y) (ha2 : ab_ask Z a2 x y) (haa : a < a2) (hnx : ab_zn Z a2 ≤ ab_zn Z a + 54) (ht : ab_zn Z 0 + 40 ≤ ab_zn Z a) (hN : ab_zn Z a + 70 ≤ ab_zn Z N)
    (hy : ∀ q, ¬ ab_zl Z y q) (hz : ∀ q, ab_zl Z q y → q = x ∨ q = z) (hzp : ∀ q, ¬ ab_zl Z q z) (hzx : z ≠ x) (hb0 : ab_zD Z 0 4 y 0 < nb) (hbn : ab_bn Z N y nb t0) (ht0 : ab_zn Z 0 + 17 ≤ t0) (hrx : nb ≤ ab_zD Z a 3 x y)
    (hrz : ∀ i, i ≤ N → ab_zn Z a ≤ ab_zn Z i + 25 → nb ≤ ab_zD Z i 3 z y) (hb : ax_bad Z N a x y) (hb2 : ax_bad Z N a2 x y)
    (hst : ∀ m r j az, m < N → ab_zs Z m = x → ab_zn Z a < ab_zn Z m → ab_tb Z d j az y z → ax_fr Z N j y z r (ab_zX Z m) → ab_zD Z a 3 x y < ab_zX Z m 6) : False := by
  have hW' := hW
  obtain ⟨h, hL, hG, hl8, hq⟩ := hW'
  have sp := ab_sp h haa ha2N ha ha2
  obtain ⟨m, j, az, r, m1, m2, m3, m4, m5, m6, m7, m8, m9, m10, m11⟩ := ax_bT hW h0 hd (by omega) ha hy hz (by omega) hb0 hbn ht0 hrx hb
  obtain ⟨m', j', az', r', n1, n2, n3, n4, n5, n6, n7, n8, n9, n10, n11⟩ := ax_bT hW h0 hd ha2N ha2 hy hz (by omega) hb0 hbn ht0 (Nat.le_trans hrx (ab_nrm h (by omega) (by omega))) hb2
  have hns := hst m r j az m1 m3 m4 m7 m8
  obtain ⟨hzy, z8, y8⟩ := hl8 _ _ m7.2.1.2.2.1
  have jd := m7.2.2.2.2.2.2.2.2.1
  have jd' := n7.2.2.2.2.2.2.2.2.1
  have d1 : 1 ≤ d z y := ax_d1 hW hzy
  have azj := m7.1
  have lf := ax_lifeT hW hzp m6 m7 m11 r m8.1 _ m8.2.1 m8.2.2.1 m8.2.2.2.1 m8.2.2.2.2.1 m8.2.2.2.2.2.1 m8.2.2.2.2.2.2
  have lf' := ax_lifeT hW hzp n6 n7 n11 r' n8.1 _ n8.2.1 n8.2.2.1 n8.2.2.2.1 n8.2.2.2.2.1 n8.2.2.2.2.2.1 n8.2.2.2.2.2.2
  have rn : ab_zn Z r = ab_zn Z j + ab_zX Z m 7 := by
    have h1 : ab_zX Z m 0 = ab_zn Z r := (ab_d1 m8.2.1 (by have := m8.2.2.1; omega)).1
    have := m8.2.2.2.2.1.2.1
    omega
  have rn' : ab_zn Z r' = ab_zn Z j' + ab_zX Z m' 7 := by
    have h1 : ab_zX Z m' 0 = ab_zn Z r' := (ab_d1 n8.2.1 (by have := n8.2.2.1; omega)).1
    have := n8.2.2.2.2.1.2.1
    omega
  have x6 : ab_zX Z m 6 = ab_zD Z (j + 1) 4 y 0 := by
    have := m8.2.2.2.2.1.2.2.2.1
    rw [m8.2.2.2.2.2.1] at this
    exact this.symm
  have x6' : ab_zD Z j 4 y 0 < ab_zX Z m 6 := by
    have := m8.2.2.2.2.1.2.2.1
    rw [m8.2.2.2.2.2.1] at this
    omega
  -- no V on y with this number
  have nvY : ∀ jj q, jj < N → ab_zn Z jj ≤ ab_zn Z az + 48 → ab_vv Z jj q y → ab_zD Z jj 3 q y < ab_zX Z m 6 := by
    intro jj q hjj hjt hv
    rcases hz q hv.2.2.2.2 with e | e
    · rw [e] at hv ⊢
      by_cases q1 : jj ≤ a
      · have := ab_nrm (v := x) (c := y) h q1 (by omega)
        omega
      · have := ab_vsp h hL h0 (show a < jj by omega) hjj hv ha
        omega
    · rw [e] at hv ⊢
      by_cases q1 : jj ≤ az
      · have s1 := (ab_san h jj (by omega)).1 z y
        have s2 := ab_ownm (c := y) h (show jj ≤ j by omega) (by omega)
        omega
      · have := ab_vsp h hL h0 (show az < jj by omega) hjj hv m7.2.1
        omega
  obtain ⟨kz, mz, z1', z2', z3', z4', z5', z6', z7', z8'⟩ := ax_gz (w := ab_zX Z m) hW h0 hzp m6 m7 m11 m8.1 m8.2.1 m8.2.2.1 m8.2.2.2.1 m8.2.2.2.2.1 m8.2.2.2.2.2.1 m8.2.2.2.2.2.2 (by omega) (by omega) (fun jj q hjj hjt hv => nvY jj q hjj (by omega) hv)
  -- z has it later than x
  have late : ab_zn Z m + 1 ≤ ab_zn Z kz := by
    obtain ⟨q, q1, q2, q3, q4, q5, q6, q7, q8⟩ := ax_ll h (show ab_zD Z (az + 1) 1 z y = 8 from m7.2.1.2.2.2.2.1) kz (by omega) (by omega) z3'.2.2.2.1
    have hqk := ab_nowm h (show q ≤ kz by omega) (by omega)
    have hqa := ab_nowm h (show az ≤ q by omega) (by omega)
    obtain ⟨jq, aq, zq, rq, c1, c2, c3, c4, c5, c6, c7, c8⟩ := ax_hT hW hy (show q < N by omega) q3 q5 (by rcases q6 with ⟨s, _⟩ | s <;> omega) hb0 hbn ht0 (by
      have := hrz kz (by omega) (by omega)
      omega)
    have hzq : zq = z := by
      rcases hz zq c2.2.1.2.2.1 with e | e
      · exfalso
        rw [e] at c2 c3
        have := (ax_dirT hW c1 c2 hd rq c3.1 _ c3.2.1 c3.2.2.1 c3.2.2.2.1 c3.2.2.2.2.1 c3.2.2.2.2.2.1 c3.2.2.2.2.2.2).2
        rw [c4, q4] at this
        exact hzx this
      · exact e
    rw [hzq] at c2 c3
    have jdq := c2.2.2.2.2.2.2.2.2.1
    have lfq := ax_lifeT hW hzp c1 c2 c7 rq c3.1 _ c3.2.1 c3.2.2.1 c3.2.2.2.1 c3.2.2.2.2.1 c3.2.2.2.2.2.1 c3.2.2.2.2.2.2
    have rnq : ab_zn Z rq = ab_zn Z jq + ab_zX Z q 7 := by
      have h1 : ab_zX Z q 0 = ab_zn Z rq := (ab_d1 c3.2.1 (by have := c3.2.2.1; omega)).1
      have := c3.2.2.2.2.1.2.1
      omega
    have aqz : aq = az := by
      rcases Nat.lt_trichotomy aq az with s | s | s
      · have := ab_sp h s (by omega) c2.2.1 m7.2.1
        omega
      · exact s
      · have := ab_sp h s (by have := c2.1; omega) m7.2.1 c2.2.1
        omega
    have jqj : jq = j := ab_tone h c1 m6 c2 m7 (by rw [aqz] at jdq; omega) (by rw [aqz] at jdq; omega)
    rw [jqj] at c3 c6
    have en := ax_end hW hU m6 m7 (show q < N by omega) q3 q4 c3 r _ m8
    by_cases e : ab_zX Z m 7 = ab_zX Z q 7
    · exfalso
      obtain ⟨_, ee⟩ := ax_uq hW hU m6 m7 (ab_zX Z q 7) r rq _ _ m8 c3 e rfl
      have := hU m q m1 (by omega) m2 q3 m8.2.2.1 (ax_frn m8) ee
      rw [this, q4] at m3
      exact hzx m3
    · omega
  have azz : az < az' := by
    by_cases e : az < az'
    · exact e
    · have := ab_nowm h (show az' ≤ az by omega) (by omega)
      omega
  have az'N : az' < N := by have := n7.1; omega
  have spz := ab_sp h azz az'N m7.2.1 n7.2.1
  have kza : kz < az' := by
    by_cases e : kz < az'
    · exact e
    · have := ab_nowm h (show az' ≤ kz by omega) (by omega)
      omega
  have n52 := ax_n52 h hL m7.2.1.2.2.1 z2' z3' kza az'N n7.2.1 (by omega) (fun i hi hin => by
    have hmi : mz < i := by
      by_cases e : mz < i
      · exact e
      · have := ab_nowm h (show i ≤ mz by omega) (by omega)
        omega
    have hni : ab_zX Z m 6 ≤ ab_zD Z i 3 z y := Nat.le_trans z8' (ab_nrm h (by omega) (by omega))
    have hc0 : ab_zD Z 0 4 y 0 < ab_zX Z m 6 := by
      have := ab_ownm (c := y) h (Nat.zero_le j) (by omega)
      omega
    have h8' := ax_pres h hc0 i (by omega) (fun jj q hjj hv => nvY jj q (by omega) (by
      have := ab_nowm h (show jj ≤ i by omega) (by omega)
      omega) hv) z hzy hni
    obtain ⟨_, _, _, _, _, _, _, hpp'⟩ := ab_wcI h i (by omega) z y (by omega)
    exact ⟨h8', (hpp' h8').1⟩)
  omega
