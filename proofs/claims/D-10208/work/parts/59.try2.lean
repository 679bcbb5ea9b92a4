/-! ## rides on two numbers -/
/-- a ride on the newest number makes at most as many links as the way has -/
theorem ax_rD {Z : ab_Z} {d : Nat → Nat → Nat} {N c n k f nn l m E : Nat} (hW : ax_W Z d N) (hn0 : ab_zD Z 0 4 c 0 < n) (hnm : n ≤ m) (hk : 3 ≤ k) (hnv : ∀ j q, j < N → ab_zn Z j ≤ E → ab_vv Z j q c → ab_zD Z j 3 q c < n)
    (htop : ∀ j v, j ≤ N → ab_zn Z j ≤ E → v ≠ c → ab_zD Z j 3 v c ≤ m) : ∀ q i p, i < N → p ≠ c → ab_zD Z i 3 p c = m → ab_zD Z i 2 p c ≤ q →
    ab_zO Z i (ab_pt (ab_zn Z i) p (ab_zD Z i 1 p c) (ab_fr k f c nn l q)) → ab_zn Z i + q + 2 ≤ ab_zn Z N → ab_zn Z i + q ≤ E →
    ∃ m', i < m' ∧ m' < N ∧ ab_zK Z m' = 1 ∧ ab_zs Z m' = c ∧ ab_zX Z m' 3 = k ∧ ab_zX Z m' 4 = f ∧ ab_zX Z m' 5 = c ∧ ab_zX Z m' 6 = nn ∧ ab_zn Z m' ≤ ab_zn Z i + q := by
  have h := hW.1
  have hnvi : ∀ j, j ≤ N → ab_zn Z j ≤ E → ax_nv Z c n j := by
    intro j hj hjE a b ha hv
    have := ab_nowm h (show a ≤ j by omega) hj
    exact hnv a b (by omega) (by omega) hv
  intro q
  induction q with
  | zero =>
    intro i p hi hp hm h2 ho hN hE
    obtain ⟨_, _, _, _, d1, _⟩ := ab_wcI h i (by omega) p c (by omega)
    omega
  | succ q ih =>
    intro i p hi hp hm h2 ho hN hE
    have h8 := ax_pres h hn0 i (by omega) (hnvi i (by omega) (by omega)) p hp (by omega)
    obtain ⟨m1, hm1, hmN, k1, kx, kn, ks, kp⟩ := hW.2.1.1 i _ hi ho (by show ab_zn Z i + 2 ≤ _; omega)
    have kn' : ab_zn Z m1 = ab_zn Z i + 1 := kn
    have ks' : ab_zs Z m1 = ab_zD Z i 1 p c := ks
    by_cases hc : ab_zD Z i 1 p c = c
    · exact ⟨m1, hm1, hmN, k1, by rw [ks', hc], by rw [kx]; rfl, by rw [kx]; rfl, by rw [kx]; rfl, by rw [kx]; rfl, by omega⟩
    · have hch := ax_ch h hn0 i (by omega) (hnvi i (by omega) (by omega)) p hp (by omega)
      have ht := htop i (ab_zD Z i 1 p c) (by omega) (by omega) hc
      have hch2 : ab_zD Z i 3 (ab_zD Z i 1 p c) c = m ∧ ab_zD Z i 2 (ab_zD Z i 1 p c) c < ab_zD Z i 2 p c := by
        rcases hch with z | z | z
        · exact absurd z hc
        · omega
        · exact ⟨by omega, z.2⟩
      have a1 := ab_nrm (v := ab_zD Z i 1 p c) (c := c) h (show i ≤ m1 by omega) (by omega)
      have a2 := htop m1 (ab_zD Z i 1 p c) (by omega) (by omega) hc
      have a3 : ab_zD Z m1 3 (ab_zD Z i 1 p c) c = ab_zD Z i 3 (ab_zD Z i 1 p c) c := by omega
      have a4 := ax_cst h hn0 hc (by omega) m1 (by omega) (by omega) (hnvi m1 (by omega) (by omega)) a3
      have h82 := ax_pres h hn0 m1 (by omega) (hnvi m1 (by omega) (by omega)) _ hc (by omega)
      obtain ⟨_, _, _, _, d1, _, _, hpn2⟩ := ab_wcI h m1 (by omega) (ab_zD Z i 1 p c) c (by omega)
      obtain ⟨b1, _, _⟩ := hpn2 h82
      have ho2 : ab_zO Z m1 (ab_pt (ab_zn Z m1) (ab_zD Z i 1 p c) (ab_zD Z m1 1 (ab_zD Z i 1 p c) c) (ab_fr k f c nn l (q + 1 - 1))) := by
        unfold ab_zO ab_zY
        rw [k1, ab_do1, ks', kx]
        exact ab_cyo (x := ab_pt (ab_zn Z i) p (ab_zD Z i 1 p c) (ab_fr k f c nn l (q + 1))) (s := ab_zD Z i 1 p c) hk (fun z => hc z.symm) (show 1 < q + 1 by omega) h82 b1
      obtain ⟨m2, c1, c2, c3, c4, c5, c6, c7, c8, c9⟩ := ih m1 (ab_zD Z i 1 p c) hmN hc (by omega) (by omega) ho2 (by omega) (by omega)
      exact ⟨m2, by omega, c2, c3, c4, c5, c6, c7, c8, by omega⟩
/-- a ride on one number: it arrives, or comes to a newer number within six links -/
theorem ax_r1w {Z : ab_Z} {d : Nat → Nat → Nat} {N c n k f nn l m E o : Nat} (hW : ax_W Z d N) (hc8 : c < 8) (ho8 : o < 8) (hoc : o ≠ c) (hn0 : ab_zD Z 0 4 c 0 < n) (hnm : n ≤ m) (hk : 3 ≤ k) (hnv : ∀ j q, j < N → ab_zn Z j ≤ E → ab_vv Z j q c → ab_zD Z j 3 q c < n)
    (hex : ∀ jj w, jj ≤ N → ab_zn Z jj ≤ E → w ≠ c → ab_zD Z jj 3 w c = m → ab_zD Z jj 1 w c ≠ o) : ∀ v s q i p (g lam : Nat → Nat), s + v = 6 → i < N → p ≠ c → p ≠ o → p < 8 → ab_zD Z i 3 p c = m →
    (∀ a, a < s → g a < 8 ∧ g a ≠ c ∧ g a ≠ o ∧ ab_zD Z i 2 p c < lam a ∧ ∃ ia, ia ≤ i ∧ ab_zD Z ia 3 (g a) c = m ∧ ab_zD Z ia 2 (g a) c = lam a) → (∀ a b, a < b → b < s → lam b < lam a) → 8 ≤ q + s →
    ab_zO Z i (ab_pt (ab_zn Z i) p (ab_zD Z i 1 p c) (ab_fr k f c nn l q)) → ab_zn Z i + v + 3 ≤ ab_zn Z N → ab_zn Z i + v + 1 ≤ E →
    (∃ m', i < m' ∧ m' < N ∧ ab_zK Z m' = 1 ∧ ab_zs Z m' = c ∧ ab_zX Z m' 3 = k ∧ ab_zX Z m' 4 = f ∧ ab_zX Z m' 5 = c ∧ ab_zX Z m' 6 = nn ∧ ab_zn Z m' ≤ ab_zn Z i + v) ∨
    (∃ e i' p', e ≤ v ∧ i < i' ∧ i' < N ∧ ab_zn Z i' = ab_zn Z i + e ∧ p' ≠ c ∧ m < ab_zD Z i' 3 p' c ∧ ab_zO Z i' (ab_pt (ab_zn Z i') p' (ab_zD Z i' 1 p' c) (ab_fr k f c nn l (q - e)))) := by
  have h := hW.1
  have hnvi : ∀ j, j ≤ N → ab_zn Z j ≤ E → ax_nv Z c n j := by
    intro j hj hjE a b ha hv
    have := ab_nowm h (show a ≤ j by omega) hj
    exact hnv a b (by omega) (by omega) hv
  intro v
  induction v with
  | zero =>
    intro s q i p g lam hsv hi hp hpo hp8 hm hg hgm hq ho hN hE
    exfalso
    have dis : ∀ a b, a < s → b < s → g a = g b → a = b := by
      intro a b ha hb e
      obtain ⟨_, ac, _, _, ia, x1, x2, x3⟩ := hg a ha
      obtain ⟨_, bc, _, _, ib, y1, y2, y3⟩ := hg b hb
      have key : ∀ i1 i2 w, i1 ≤ i2 → i2 ≤ i → w ≠ c → ab_zD Z i1 3 w c = m → ab_zD Z i2 3 w c = m → ab_zD Z i2 2 w c = ab_zD Z i1 2 w c := by
        intro i1 i2 w h12 h2i hw e1 e2
        have := ab_nowm h h2i (by omega)
        exact ax_cst h hn0 hw (by omega) i2 h12 (by omega) (hnvi i2 (by omega) (by omega)) (by omega)
      have el : lam a = lam b := by
        rw [e] at x2 x3
        by_cases q : ia ≤ ib
        · have := key ia ib (g b) q y1 bc x2 y2
          omega
        · have := key ib ia (g b) (by omega) x1 bc y2 x2
          omega
      rcases Nat.lt_trichotomy a b with q | q | q
      · have := hgm a b q hb
        omega
      · exact q
      · have := hgm b a q ha
        omega
    have disp : ∀ a, a < s → g a ≠ p := by
      intro a ha e
      obtain ⟨_, ac, _, al, ia, x1, x2, x3⟩ := hg a ha
      rw [e] at x2 x3
      have := ab_nowm h x1 (by omega)
      have := ax_cst h hn0 hp (show n ≤ ab_zD Z ia 3 p c by omega) i x1 (by omega) (hnvi i (by omega) (by omega)) (by omega)
      omega
    have := ab_inj 8 9 (fun a => if a < 6 then g a else if a = 6 then p else if a = 7 then c else o) (fun a ha => by
      show (if a < 6 then g a else if a = 6 then p else if a = 7 then c else o) < 8
      split
      · exact (hg a (by omega)).1
      · split
        · exact hp8
        · split
          · exact hc8
          · exact ho8) (ax_inj9 (g := g) (p := p) (c := c) (o := o) (fun a b ha hb e => dis a b (by omega) (by omega) e) (fun a ha => disp a (by omega)) (fun a ha => (hg a (by omega)).2.1) (fun a ha => (hg a (by omega)).2.2.1) hp hpo (fun e => hoc e.symm))
    omega
  | succ v ih =>
    intro s q i p g lam hsv hi hp hpo hp8 hm hg hgm hq ho hN hE
    have h8 := ax_pres h hn0 i (by omega) (hnvi i (by omega) (by omega)) p hp (by omega)
    obtain ⟨_, _, _, _, _, _, _, hpn⟩ := ab_wcI h i (by omega) p c (by omega)
    obtain ⟨p1, _, _⟩ := hpn h8
    obtain ⟨m1, hm1, hmN, k1, kx, kn, ks, kp⟩ := hW.2.1.1 i _ hi ho (by show ab_zn Z i + 2 ≤ _; omega)
    have kn' : ab_zn Z m1 = ab_zn Z i + 1 := kn
    have ks' : ab_zs Z m1 = ab_zD Z i 1 p c := ks
    by_cases hc : ab_zD Z i 1 p c = c
    · exact Or.inl ⟨m1, hm1, hmN, k1, by rw [ks', hc], by rw [kx]; rfl, by rw [kx]; rfl, by rw [kx]; rfl, by rw [kx]; rfl, by omega⟩
    · have hch := ax_ch h hn0 i (by omega) (hnvi i (by omega) (by omega)) p hp (by omega)
      have a1 := ab_nrm (v := ab_zD Z i 1 p c) (c := c) h (show i ≤ m1 by omega) (by omega)
      have hge : m ≤ ab_zD Z i 3 (ab_zD Z i 1 p c) c := by
        rcases hch with z | z | z
        · exact absurd z hc
        · omega
        · omega
      have h82 := ax_pres h hn0 m1 (by omega) (hnvi m1 (by omega) (by omega)) _ hc (by omega)
      obtain ⟨_, _, _, _, d1, _, _, hpn2⟩ := ab_wcI h m1 (by omega) (ab_zD Z i 1 p c) c (by omega)
      obtain ⟨b1, _, _⟩ := hpn2 h82
      have hp28 : ab_zD Z i 1 p c < 8 := (h.2.1 _ _ p1).2.2.1
      have ho2 : ab_zO Z m1 (ab_pt (ab_zn Z m1) (ab_zD Z i 1 p c) (ab_zD Z m1 1 (ab_zD Z i 1 p c) c) (ab_fr k f c nn l (q - 1))) := by
        unfold ab_zO ab_zY
        rw [k1, ab_do1, ks', kx]
        exact ab_cyo (x := ab_pt (ab_zn Z i) p (ab_zD Z i 1 p c) (ab_fr k f c nn l q)) (s := ab_zD Z i 1 p c) hk (fun z => hc z.symm) (show 1 < q by omega) h82 b1
      by_cases em : ab_zD Z m1 3 (ab_zD Z i 1 p c) c = m
      · have ei : ab_zD Z i 3 (ab_zD Z i 1 p c) c = m := by omega
        have lt : ab_zD Z i 2 (ab_zD Z i 1 p c) c < ab_zD Z i 2 p c := by
          rcases hch with z | z | z
          · exact absurd z hc
          · omega
          · exact z.2
        have c2 := ax_cst h hn0 hc (show n ≤ ab_zD Z i 3 (ab_zD Z i 1 p c) c by omega) m1 (by omega) (by omega) (hnvi m1 (by omega) (by omega)) (by omega)
        have hex1 := hex i p (by omega) (by omega) hp hm
        rcases ih (s + 1) (q - 1) m1 (ab_zD Z i 1 p c) (fun a => if a < s then g a else p) (fun a => if a < s then lam a else ab_zD Z i 2 p c) (by omega) hmN hc hex1 hp28 em (fun a ha => by
          by_cases e : a < s
          · obtain ⟨x1, x2, x3, x4, ia, x5, x6, x7⟩ := hg a e
            show (if a < s then g a else p) < 8 ∧ (if a < s then g a else p) ≠ c ∧ (if a < s then g a else p) ≠ o ∧ ab_zD Z m1 2 (ab_zD Z i 1 p c) c < (if a < s then lam a else ab_zD Z i 2 p c) ∧ ∃ ia, ia ≤ m1 ∧ ab_zD Z ia 3 (if a < s then g a else p) c = m ∧ ab_zD Z ia 2 (if a < s then g a else p) c = (if a < s then lam a else ab_zD Z i 2 p c)
            rw [if_pos e, if_pos e]
            exact ⟨x1, x2, x3, by omega, ia, by omega, x6, x7⟩
          · show (if a < s then g a else p) < 8 ∧ (if a < s then g a else p) ≠ c ∧ (if a < s then g a else p) ≠ o ∧ ab_zD Z m1 2 (ab_zD Z i 1 p c) c < (if a < s then lam a else ab_zD Z i 2 p c) ∧ ∃ ia, ia ≤ m1 ∧ ab_zD Z ia 3 (if a < s then g a else p) c = m ∧ ab_zD Z ia 2 (if a < s then g a else p) c = (if a < s then lam a else ab_zD Z i 2 p c)
            rw [if_neg e, if_neg e]
            exact ⟨hp8, hp, hpo, by omega, i, by omega, hm, rfl⟩) (fun a b hab hb => by
          show (if b < s then lam b else ab_zD Z i 2 p c) < (if a < s then lam a else ab_zD Z i 2 p c)
          have ea : a < s := by omega
          rw [if_pos ea]
          by_cases e : b < s
          · rw [if_pos e]; exact hgm a b hab e
          · rw [if_neg e]; exact (hg a ea).2.2.2.1) (by omega) ho2 (by omega) (by omega) with ⟨m2, c1, c2', c3, c4, c5, c6, c7, c8, c9⟩ | ⟨e, i', p', y1, y2, y3, y4, y5, y6, y7⟩
        · exact Or.inl ⟨m2, by omega, c2', c3, c4, c5, c6, c7, c8, by omega⟩
        · exact Or.inr ⟨e + 1, i', p', by omega, by omega, y3, by omega, y5, y6, by rw [show q - (e + 1) = q - 1 - e by omega]; exact y7⟩
      · exact Or.inr ⟨1, m1, ab_zD Z i 1 p c, by omega, hm1, hmN, by omega, hc, by omega, ho2⟩
/-! ## the second try of a bad attempt arrives, x next to y, z the goal of one station -/
theorem ax_bT2 {Z : ab_Z} {d : Nat → Nat → Nat} {N a k x y z nb t0 : Nat} (hW : ax_W Z d N) (h0 : ab_t0 Z N) (hd : d x y = 1) (haN : a < N) (ha : ab_ask Z a x y) (hy : ∀ q, ¬ ab_zl Z y q) (hz : ∀ q, ab_zl Z q y → q = x ∨ q = z) (hN : ab_zn Z a + 6 ≤ ab_zn Z N)
    (hb0 : ab_zD Z 0 4 y 0 < nb) (hbn : ab_bn Z N y nb t0) (ht0 : ab_zn Z 0 + 27 ≤ t0) (hrx : nb ≤ ab_zD Z a 3 x y) (k1 : a < k) (k2 : k < N) (k4 : ab_zn Z k ≤ ab_zn Z a + 2) (hgo : ab_go Z k x y) (hdir : ab_zD Z k 1 x y ≠ y) :
    ∃ m j az r, m < k ∧ ab_zK Z m = 1 ∧ ab_zs Z m = x ∧ ab_zn Z a < ab_zn Z m ∧ ab_zn Z m ≤ ab_zn Z k ∧ j < N ∧ ab_tb Z d j az y z ∧ ax_fr Z N j y z r (ab_zX Z m) ∧ ab_zn Z m = ab_zn Z j + ab_zX Z m 7 + 1 ∧ 1 ≤ ab_zX Z m 7 ∧ ab_zn Z 0 + 20 ≤ ab_zn Z az := by
  have hW' := hW
  obtain ⟨h, hL, hG, hl8, hq⟩ := hW'
  obtain ⟨m, m1, m2, m3, m4, m5, m6, m7, m8⟩ := ax_ll h (show ab_zD Z (a + 1) 1 x y = 8 from ha.2.2.2.2.1) k (by omega) (by omega) hgo.2.2.2.1
  have hmn := ab_nowm h (show m ≤ k by omega) (by omega)
  have hlat := ab_urg h hL h0 (show m < N by omega) (show a < m by omega) m3 ha.2.2.2.1 (by rw [ha.1, ha.2.1]; exact ha.2.2.1) (by omega)
  have mo := ab_nrm (v := x) (c := y) h (show a ≤ k by omega) (by omega)
  obtain ⟨_, _, _, _, _, _, y1, _⟩ := ax_hT hW hy (show m < N by omega) m3 m5 (by rcases m6 with ⟨q, _⟩ | q <;> omega) hb0 hbn (by omega) (by omega)
  obtain ⟨j, az, z1, r, c1, c2, c3, c4, c5, c6, c7, c8, c9, c10, c11, c12⟩ := ax_hT1 hW (show m < N by omega) m3 m5 y1.2.2.1 hb0 hbn (by omega) (by omega)
  have h7 : 1 ≤ ab_zX Z m 7 := by
    rcases Nat.eq_zero_or_pos (ab_zX Z m 7) with q | q
    · exact absurd (by rw [m7, ← c6, c9 q]) hdir
    · exact q
  have hz1 : z1 = z := by
    rcases hz z1 c2.2.1.2.2.1 with e | e
    · exfalso
      rw [e] at c2 c4
      have := (ax_dirT hW c1 c2 hd r c4.1 _ c4.2.1 c4.2.2.1 c4.2.2.2.1 c4.2.2.2.2.1 c4.2.2.2.2.2.1 c4.2.2.2.2.2.2).1
      omega
    · exact e
  rw [hz1] at c2 c4
  have jd := c2.2.2.2.2.2.2.2.2.1
  have d7 := c2.2.2.2.2.2.2.2.2.2.1
  exact ⟨m, j, az, r, m2, m3, m4, hlat, hmn, c1, c2, c4, by omega, h7, by omega⟩
theorem ax_P21 {Z : ab_Z} {d : Nat → Nat → Nat} {N a x y z w u nb t0 : Nat} (hW : ax_W Z d N) (h0 : ab_t0 Z N) (hU : ax_U Z N) (hnp : ab_np Z N) (hd : d x y = 1) (haN : a < N) (ha : ab_ask Z a x y) (ht : ab_zn Z 0 + 20 ≤ ab_zn Z a) (hN : ab_zn Z a + 46 ≤ ab_zn Z N)
    (hx : ∀ q, ab_zl Z q x → q = w) (hy : ∀ q, ¬ ab_zl Z y q) (hz : ∀ q, ab_zl Z q y → q = x ∨ q = z) (hu : ∀ q, ab_zl Z q z → q = u) (hyu : y ≠ u) (hdu : 2 ≤ d z u) (hzx : z ≠ x) (hb0 : ab_zD Z 0 4 y 0 < nb) (hbn : ab_bn Z N y nb t0) (ht0 : ab_zn Z 0 + 27 ≤ t0) (hrx : nb ≤ ab_zD Z a 3 x y) :
    ∃ p, a < p ∧ p < N ∧ ab_zK Z p = 1 ∧ ab_zs Z p = y ∧ ab_zX Z p 3 = 3 ∧ ab_zX Z p 4 = x ∧ ab_zX Z p 5 = y ∧ ab_zX Z p 6 = ab_zc Z x y ∧ ab_zn Z a + 28 ≤ ab_zn Z p ∧ ab_zn Z p ≤ ab_zn Z a + 35 ∧ ∃ jT, jT < p ∧ ab_zD Z (a + 1) 4 x 0 ≤ ab_zD Z (jT + 1) 3 y x := by
  have hW' := hW
  obtain ⟨h, hL, hG, hl8, hq⟩ := hW'
  have hl : ∀ a b, ab_zl Z a b → a ≠ b := fun a b z => (hl8 a b z).1
  obtain ⟨hxy, x8, y8⟩ := hl8 _ _ ha.2.2.1
  obtain ⟨q1, q2, q3⟩ := ab_qf h haN ha
  obtain ⟨k, k1, k2, k3, k4, hgo, hbd⟩ := ax_near3 hW h0 hnp hd haN ha ht (by omega) hx hy
  have later : ∀ j, j < N → a < j → ab_zK Z j = 1 → ab_zn Z j < ab_zn Z N → ab_zn Z a < ab_zn Z j := by
    intro j hj haj k1 hjN
    exact ab_urg h hL h0 hj haj k1 ha.2.2.2.1 (by rw [ha.1, ha.2.1]; exact ha.2.2.1) hjN
  have hEx2 : ax_E Z d N x 1 (ab_zD Z (a + 1) 4 x 0) (ab_zn Z a + 2) := by
    refine ax_q hW q2 (fun g hg => ax_d1 hW (hl8 _ _ hg).1) (fun j z a' hj hjn hje htb => ?_) (fun m t hm hb => ?_)
    · have haj : a < j := by
        by_cases e : a < j
        · exact e
        · exfalso
          have : j ≠ a := by
            intro z
            have h1 := htb.2.2.1
            have h2 := ha.2.2.2.1
            rw [z] at h1
            omega
          have := ab_ownm (c := x) h (show j + 1 ≤ a by omega) (by omega)
          omega
      have := later j hj haj htb.2.2.1 (by omega)
      omega
    · have := ax_bge h (show a ≤ N by omega) (show ab_zD Z a 4 x 0 < m by omega) hb
      omega
  have hsx : ∀ z, ab_zl Z z x → 1 ≤ d x z := fun z hz => ax_d1 hW (fun e => (hl8 _ _ hz).1 e.symm)
  obtain ⟨jT, m, o1, o2, o3, o4, o5, o6, o7, o8, o9, o10, o13, o14, o11, o12⟩ := ax_qt5 hW h0 hEx2 hsx hd (by omega) haN ha (by omega) (by omega)
  have hbt : ab_bn Z N y (ab_zX Z m 6) (ab_zn Z a + 1) := ⟨jT, by omega, o4, by omega, by omega⟩
  generalize hT : ab_zX Z m 6 = nT at *
  have hy0 := ab_ownm (c := y) h (Nat.zero_le jT) (by omega)
  have hT0 : ab_zD Z 0 4 y 0 < nT := by omega
  have xn : ∀ i, m < i → i ≤ N → nT ≤ ab_zD Z i 3 x y := by
    intro i hmi hi
    have := ab_hnr (u := ab_zu Z) (ac := ab_za Z) (s := x) (p := ab_zp Z m) (x := ab_zX Z m) (D := ab_zD Z m) (Or.inr o8) (by rw [o9]; exact hxy)
    refine Nat.le_trans ?_ (ab_nrm h (show m + 1 ≤ i by omega) (by omega))
    rw [h.1 m o3, ← hT]
    unfold ab_zY
    rw [o6, ab_do1, o7]
    rw [o9] at this
    exact this
  have hn0 := ab_nowm h (Nat.zero_le a) (by omega)
  -- the bad piece goes off a moment behind the asking
  have kt : ab_zn Z k = ab_zn Z a + 1 := by
    by_cases e : ab_zn Z k = ab_zn Z a + 1
    · exact e
    · exfalso
      have hk2 : ab_zn Z k = ab_zn Z a + 2 := by omega
      have hmk : m < k := by
        obtain ⟨u', hu', un, uk, us, up, uall⟩ := hL.2.1 (ab_zn Z k) x y (by omega) (by omega) ha.2.2.1
        have e1 := hL.2.2 u' k hu' k2 uk hgo.1 un (by rw [us, hgo.2.1]) (by rw [up, hgo.2.2.1])
        by_cases e2 : ab_zn Z m = ab_zn Z k
        · have := uall m o3 e2 o6
          omega
        · by_cases e3 : m < k
          · exact e3
          · have := ab_nowm h (show k ≤ m by omega) (by omega)
            omega
      have hnk := xn k hmk (by omega)
      obtain ⟨t', hb', _, ht', _, _, _, hpp⟩ := ab_wcI h k (by omega) x y (by omega)
      have l1 := ab_bnl h hbt hb' hnk
      obtain ⟨_, r2, _⟩ := hpp hgo.2.2.2.1
      exact hbd (hG.2.2.2.1 y _ (by omega)).symm
  obtain ⟨m0, j0, az, r0, e1, e2, e3, e4, e5, e6, e7, e8, e9, e10, e11⟩ := ax_bT2 hW h0 hd haN ha hy hz (by omega) hb0 hbn ht0 hrx k1 k2 (by omega) hgo hbd
  obtain ⟨hzy, z8, _⟩ := hl8 _ _ e7.2.1.2.2.1
  have X17 : ab_zX Z m0 7 ≤ 17 := by
    obtain ⟨l1, l2, l3, l4⟩ := ax_life2 hW h0 hU hu hdu e6 e7 e11 _ r0 _ e8 rfl
    have f2 : ab_zX Z m0 2 = ab_zs Z m0 := (h.2.2.2.2.2.1 m0 (by omega) e2).2.2.1
    rw [f2, e3] at l3
    have lxy : d z y ≤ d z x + 1 := by
      obtain ⟨p, hp1, hp2⟩ := hG.2.2.2.2.1 x y (by omega) (by omega)
      have : p = x := (hG.2.2.2.1 x p (by omega)).symm
      rw [this] at hp1
      exact hG.2.1 z x y hp1
    omega
  -- numbers of y from the TELL on
  have cls : ∀ i v, i ≤ N → nT ≤ ab_zD Z i 3 v y → _ := fun i v hi hn => ax_cls hW hy hi hT0 hn hbt (by omega)
  have nvY : ∀ jj q, jj < N → ab_zn Z jj ≤ ab_zn Z a + 44 → ab_vv Z jj q y → ab_zD Z jj 3 q y < nT := by
    intro jj q hjj hjt hv
    by_cases e : ab_zD Z jj 3 q y < nT
    · exact e
    · exfalso
      obtain ⟨b, r, j1, a1, z1, c1, c2, c3, c4, c5, c6, c7, c8, c9, c10, c11, c12, c13, c14, c15, c16, c17, c18⟩ := cls jj q (by omega) (by omega)
      by_cases hjn : jj ≤ a
      · have s1 := (ab_san h jj (by omega)).1 q y
        have s2 := ab_ownm (c := y) h (show jj ≤ jT by omega) (by omega)
        omega
      · rcases hz q hv.2.2.2.2 with f1 | f1
        · rw [f1] at hv
          have := ab_vsp h hL h0 (show a < jj by omega) hjj hv ha
          omega
        · rcases hz z1 c12.2.1.2.2.1 with f2 | f2
          · rw [f2] at c12
            have := (ax_dirT hW c3 c12 (by rw [hd]) r (by omega) _ c6 c7 c8 c9 c10 (by rw [c11, f2])).2
            rw [c15] at this
            rw [this] at hv
            have := ab_vsp h hL h0 (show a < jj by omega) hjj hv ha
            omega
          · rw [f2] at c12
            rw [f1] at hv
            have a1j := c12.1
            have jd := c12.2.2.2.2.2.2.2.2.1
            have d7 := c12.2.2.2.2.2.2.2.2.2.1
            have jb : j1 ≤ r := by
              by_cases e : j1 ≤ r
              · exact e
              · exfalso
                obtain ⟨_, _, _, _, _, cc⟩ := ab_fcI h r (by omega) _ c6 (by omega) (by rw [c10]; omega)
                rw [c10] at cc
                have := ab_ownm (c := y) h (show r + 1 ≤ j1 by omega) (by omega)
                have := c9.2.2.1
                rw [c10] at this
                omega
            have := ab_vsp h hL h0 (show a1 < jj by omega) hjj hv c12.2.1
            omega
  have nvx : ∀ i, i ≤ N → ab_zn Z i ≤ ab_zn Z a + 44 → ax_nv Z y nT i := by
    intro i hi hin jj q hjj hv
    have := ab_nowm h (show jj ≤ i by omega) hi
    exact nvY jj q (by omega) (by omega) hv
  have pres : ∀ i v, i ≤ N → ab_zn Z i ≤ ab_zn Z a + 44 → v ≠ y → nT ≤ ab_zD Z i 3 v y → ab_hw (ab_zu Z) v y (ab_zD Z i) := by
    intro i v hi hin hv hn
    have h8 := ax_pres h hT0 i hi (nvx i hi hin) v hv hn
    obtain ⟨_, _, _, _, _, _, _, hpp⟩ := ab_wcI h i hi v y (by omega)
    exact ⟨h8, (hpp h8).1⟩
  have w0 : ax_wt Z (k + 1) x y (ab_zn Z k) 0 := ax_t0 h k2 hgo
  obtain ⟨v, hv, un, uk, us, up, _⟩ := hL.2.1 (ab_zn Z k + 26) x y (by omega) (by omega) ha.2.2.1
  have hku : k < v := by
    by_cases e : k < v
    · exact e
    · have := ab_nowm h (show v ≤ k by omega) (by omega)
      omega
  have after : ∀ i, i ≤ N → ab_zn Z k + 26 ≤ ab_zn Z i → m < i := by
    intro i hi hin
    by_cases e : m < i
    · exact e
    · have := ab_nowm h (show i ≤ m by omega) (by omega)
      omega
  have wu : ax_wt Z v x y (ab_zn Z k) 0 := ax_wt1 h w0 v (by omega) (by omega) (fun j j1 j2 j3 j4 j5 => by
    have h1 := ab_nowm h (show j ≤ v by omega) (by omega)
    by_cases e : ab_zn Z j = ab_zn Z k + 26
    · have := hL.2.2 j v (by omega) hv j3 uk (by omega) (by rw [j4, us]) (by rw [j5, up])
      omega
    · omega)
  have hnu := xn v (after v (by omega) (by omega)) (by omega)
  obtain ⟨h8, g1⟩ := pres v x (by omega) (by omega) hxy hnu
  have ho : ab_zO Z v (ab_pt (ab_zn Z v) x (ab_zD Z v 1 x y) (ab_fr 3 x y (ab_zc Z x y) 0 8)) := by
    rcases ab_uc (u := ab_zu Z) (lv := ab_zl Z) (cf := ab_zc Z) (a := x) (b := y) (D := ab_zD Z v) with ⟨_, q⟩ | ⟨_, _, ⟨q, q2, q0, q1, yy⟩ | ⟨q, yy⟩⟩
    · exfalso
      refine q ⟨ha.2.2.1, Or.inr ?_⟩
      rw [wu.2.1]
      show ab_zn Z k + 26 ≤ ab_zn Z v
      omega
    · unfold ab_zO ab_zY
      rw [uk, ab_do2, us, up, yy.2]
      show ab_pt (ab_zn Z v) x (ab_zD Z v 1 x y) (ab_fr 3 x y (ab_zc Z x y) 0 8) = ab_pt (ab_w (ab_w (ab_w (ab_zD Z v) 9 x y q) 7 x y 1) 8 x y (ab_zD Z v 0 0 0) 0 0 0) x (ab_zD Z v 1 x y) (ab_fr 3 x y (ab_zc Z x y) 0 8)
      rw [ab_wf (by decide), ab_wf (by decide), ab_wf (by decide)]
    · exfalso
      rcases q with q | ⟨_, q⟩
      · exact q ⟨h8, g1⟩
      · rw [wu.2.2] at q
        omega
  -- a number newer than a TELL to z is that of a later one
  have newer : ∀ j1 a1 jj v', j1 < N → ab_tb Z d j1 a1 y z → nT ≤ ab_zD Z (j1 + 1) 4 y 0 → jj ≤ N → ab_zn Z jj ≤ ab_zn Z a + 42 → v' ≠ y → ab_zD Z (j1 + 1) 4 y 0 < ab_zD Z jj 3 v' y →
      ∃ j3 a3, j3 < N ∧ ab_tb Z d j3 a3 y z ∧ ab_zD Z (j3 + 1) 4 y 0 = ab_zD Z jj 3 v' y ∧ ab_zn Z j1 + 24 ≤ ab_zn Z j3 ∧ ab_zn Z j3 ≤ ab_zn Z jj := by
    intro j1 a1 jj v' c3 c12 hn1 hjj hje hv' hgt
    have jd := c12.2.2.2.2.2.2.2.2.1
    obtain ⟨b', r', j3, a3, z3, f1, f2, f3, f4, f5, f6, f7, f8, f9, f10, f11, f12, f13, f14, f15, f16, f17, f18⟩ := cls jj v' hjj (by omega)
    have j3n : ab_zn Z j3 ≤ ab_zn Z jj := by
      have h1 := f9.2.1
      have h2 := ab_nowm h (show b' ≤ jj by omega) hjj
      omega
    have jd3 := f12.2.2.2.2.2.2.2.2.1
    have num3 : ab_zD Z (j3 + 1) 4 y 0 = ab_zD Z jj 3 v' y := by
      have := f9.2.2.2.1
      rw [f10] at this
      rw [this, f13]
    have j13 : j1 < j3 := by
      by_cases q : j1 < j3
      · exact q
      · exfalso
        have := ab_ownm (c := y) h (show j3 + 1 ≤ j1 + 1 by omega) (by omega)
        omega
    have jTn : ab_zD Z (jT + 1) 4 y 0 = nT := o12
    rcases hz z3 f12.2.1.2.2.1 with g2 | g2
    · exfalso
      rw [g2, hd] at jd3
      rw [g2] at f12
      have a3N : a3 < N := by have := f12.1; omega
      rcases Nat.lt_trichotomy a3 a with q | q | q
      · have := ab_sp h q haN f12.2.1 ha
        omega
      · have : j3 = jT := ab_tone h f3 (by omega) f12 o14 (by rw [q] at jd3; omega) (by rw [q] at jd3; omega)
        rw [this] at num3
        omega
      · have k3' : k < a3 := by
          by_cases y' : k < a3
          · exact y'
          · exfalso
            have := ab_sp h q a3N ha f12.2.1
            have := ab_nowm h (show a3 ≤ k by omega) (by omega)
            omega
        have := ax_n52 h hL ha.2.2.1 k2 hgo k3' a3N f12.2.1 (by omega) (fun i hi hin => pres i x (by omega) (by omega) hxy (xn i (after i (by omega) (by omega)) (by omega)))
        omega
    · rw [g2] at f12 jd3
      have a3N : a3 < N := by have := f12.1; omega
      have a13 : a1 < a3 := by
        rcases Nat.lt_trichotomy a1 a3 with q | q | q
        · exact q
        · exfalso
          have : j1 = j3 := ab_tone h c3 f3 c12 f12 (by rw [q] at jd; omega) (by rw [q] at jd; omega)
          omega
        · exfalso
          have := ab_sp h q (by have := c12.1; omega) f12.2.1 c12.2.1
          have := ab_nowm h (show j1 ≤ j3 by omega) (by omega)
          omega
      have sp := ab_sp h a13 a3N c12.2.1 f12.2.1
      exact ⟨j3, a3, f3, f12, num3, by omega, j3n⟩
  have arr : ∃ p, v < p ∧ p < N ∧ ab_zK Z p = 1 ∧ ab_zs Z p = y ∧ ab_zX Z p 3 = 3 ∧ ab_zX Z p 4 = x ∧ ab_zX Z p 5 = y ∧ ab_zX Z p 6 = ab_zc Z x y ∧ ab_zn Z p ≤ ab_zn Z v + 8 := by
    by_cases hdir : ab_zD Z v 1 x y = y
    · rw [hdir] at ho
      obtain ⟨p, pk, pN, p1, px, pn, ps, pp⟩ := hL.1 v _ hv ho (by show ab_zn Z v + 2 ≤ _; omega)
      have pn' : ab_zn Z p = ab_zn Z v + 1 := pn
      exact ⟨p, pk, pN, p1, by rw [ps]; rfl, by rw [px]; rfl, by rw [px]; rfl, by rw [px]; rfl, by rw [px]; rfl, by omega⟩
    · -- x's number is a TELL of y to z
      obtain ⟨b, r, j1, a1, z1, c1, c2, c3, c4, c5, c6, c7, c8, c9, c10, c11, c12, c13, c14, c15, c16, c17, c18⟩ := cls v x (by omega) hnu
      have hz1 : z1 = z := by
        rcases hz z1 c12.2.1.2.2.1 with f2 | f2
        · exfalso
          rw [f2] at c12
          have D := (ax_dirT hW c3 c12 (by rw [hd]) r (by omega) _ c6 c7 c8 c9 c10 (by rw [c11, f2])).1
          obtain ⟨_, _, _, _, g0⟩ := ab_tnr h hl c3 c12 r (by omega) _ c6 c7 c8 c9 c10 (by rw [c11, f2])
          have rj := g0 D
          have e1 := (ab_d1 c6 (by omega)).2.1
          rw [rj, c12.2.2.2.1] at e1
          rcases c17 with q | q
          · exact h8 q
          · exact hdir (by rw [q, ← c16, e1])
        · exact f2
      rw [hz1] at c12 c11
      have num1 : ab_zD Z (j1 + 1) 4 y 0 = ab_zD Z v 3 x y := by
        have := c9.2.2.2.1
        rw [c10] at this
        rw [this, c13]
      have jd1 := c12.2.2.2.2.2.2.2.2.1
      have jd0 := e7.2.2.2.2.2.2.2.2.1
      -- it was asked for 24 moments behind the bad TELL
      have b1 : ab_zn Z a + 7 ≤ ab_zn Z j1 := by
        have g0 := ax_tgrow h e7 e6
        have j0T : j0 < jT := by
          by_cases e : j0 < jT
          · exact e
          · have := ab_nowm h (show jT ≤ j0 by omega) (by omega)
            omega
        have n0T := ab_ownm (c := y) h (show j0 + 1 ≤ jT by omega) (by omega)
        have az1 : az < a1 := by
          rcases Nat.lt_trichotomy az a1 with q | q | q
          · exact q
          · exfalso
            have : j0 = j1 := ab_tone h e6 c3 e7 c12 (by rw [q] at jd0; omega) (by rw [q] at jd0; omega)
            rw [← this] at num1
            omega
          · exfalso
            have := ab_sp h q (by have := e7.1; omega) c12.2.1 e7.2.1
            have : j1 < j0 := by
              by_cases e : j1 < j0
              · exact e
              · have := ab_nowm h (show j0 ≤ j1 by omega) (by omega)
                omega
            have := ab_ownm (c := y) h (show j1 + 1 ≤ j0 by omega) (by omega)
            omega
        have := ab_sp h az1 (by have := c12.1; omega) e7.2.1 c12.2.1
        omega
      have hex : ∀ jj w, jj ≤ N → ab_zn Z jj ≤ ab_zn Z a + 40 → w ≠ y → ab_zD Z jj 3 w y = ab_zD Z v 3 x y → ab_zD Z jj 1 w y ≠ z := by
        intro jj w hjj hje hw hwn
        have hnw : nT ≤ ab_zD Z jj 3 w y := by omega
        obtain ⟨b', r', j3, a3, z3, f1, f2, f3, f4, f5, f6, f7, f8, f9, f10, f11, f12, f13, f14, f15, f16, f17, f18⟩ := cls jj w hjj hnw
        obtain ⟨h8w, guw⟩ := pres jj w hjj (by omega) hw hnw
        have hp1 : ab_zD Z jj 1 w y = ab_zX Z b' 1 := by
          rcases f17 with q | q
          · exact absurd q h8w
          · rw [q, f16]
        have e31 : j3 = j1 := by
          refine ab_bone (n := ab_zD Z v 3 x y) (c := y) h f3 c3 ?_ ?_ ?_ ?_
          · have := f9.2.2.1; rw [f10] at this; rw [this, f13, hwn]
          · have := f9.2.2.2.1; rw [f10] at this; rw [this, f13, hwn]
          · have := c9.2.2.1; rw [c10] at this; rw [this, c13]
          · have := c9.2.2.2.1; rw [c10] at this; rw [this, c13]
        rw [hp1]
        have z3z : ab_zX Z b' 5 = z := by
          have h1 := f12.2.2.2.2.2.1
          have h2 := c12.2.2.2.2.2.1
          rw [e31, h2] at h1
          rw [f11, ← h1]
        rw [f11.symm.trans z3z] at f12
        exact (ab_tnr h hl f3 f12 r' (by omega) _ f6 f7 f8 f9 f10 z3z).2.2.1
      rcases ax_r1w (m := ab_zD Z v 3 x y) (E := ab_zn Z a + 40) (f := x) (nn := ab_zc Z x y) (l := 0) (o := z) hW y8 z8 hzy hT0 hnu (show 3 ≤ 3 by omega) (fun jj q hjj hje hv => nvY jj q hjj (by omega) hv) hex 6 0 8 v x (fun _ => 0) (fun _ => 0) rfl hv hxy (fun q => hzx q.symm) x8 rfl (fun a ha => absurd ha (by omega)) (fun a b _ hb => absurd hb (by omega)) (by omega) ho (by omega) (by omega) with ⟨p, p1, p2, p3, p4, p5, p6, p7, p8, p9⟩ | ⟨e, i', p', y1, y2, y3, y4, y5, y6, y7⟩
      · exact ⟨p, p1, p2, p3, p4, p5, p6, p7, p8, by omega⟩
      · obtain ⟨j3, a3, g1, g2, g3, g4, g5⟩ := newer j1 a1 i' p' c3 c12 (by omega) (by omega) (by omega) y5 (by omega)
        obtain ⟨t', hb', _, ht', d1, _⟩ := ab_wcI h i' (by omega) p' y (by omega)
        have gr := ax_tgrow h g2 g1
        have bb : ab_bn Z N y (ab_zD Z i' 3 p' y) (ab_zn Z j3) := ⟨j3, g1, rfl, by omega, by omega⟩
        have := ab_bnu h hb' bb
        obtain ⟨p, p1, p2, p3, p4, p5, p6, p7, p8, p9⟩ := ax_rD (m := ab_zD Z i' 3 p' y) (E := ab_zn Z a + 40) (f := x) (nn := ab_zc Z x y) (l := 0) hW hT0 (show nT ≤ ab_zD Z i' 3 p' y by omega) (show 3 ≤ 3 by omega) (fun jj q hjj hje hv => nvY jj q hjj (by omega) hv) (fun jj v' hjj hje hv' => by
          by_cases e : ab_zD Z jj 3 v' y ≤ ab_zD Z i' 3 p' y
          · exact e
          · exfalso
            obtain ⟨j5, a5, _, _, _, s4, s5⟩ := newer j3 a3 jj v' g1 g2 (by omega) hjj (by omega) hv' (by omega)
            omega) (8 - e) i' p' y3 y5 rfl (by omega) y7 (by omega) (by omega)
        exact ⟨p, by omega, p2, p3, p4, p5, p6, p7, p8, by omega⟩
  obtain ⟨p, p1, p2, p3, p4, p5, p6, p7, p8, p9⟩ := arr
  have hpn : ab_zn Z v < ab_zn Z p := ab_urg h hL h0 p2 p1 p3 uk (by rw [us, up]; exact ha.2.2.1) (by omega)
  refine ⟨p, by omega, p2, p3, p4, p5, p6, p7, p8, by omega, by omega, jT, ?_, o5⟩
  by_cases e : jT < p
  · exact e
  · have := ab_nowm h (show p ≤ jT by omega) (by omega)
    omega
