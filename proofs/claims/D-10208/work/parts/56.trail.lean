/-! ## chains where ways may be lost: no number is learned again -/
/-- up to step I no station learns a number n or newer of c a second time -/
def ax_nr (Z : ab_Z) (c n I : Nat) : Prop := ∀ i, i < I → ab_zK Z i = 1 → (ab_zX Z i 3 = 0 ∧ ¬ ab_sn (ab_zs Z i) (ab_zX Z i 4) (ab_zX Z i 8) (ab_zD Z i) ∨ ab_zX Z i 3 = 1) → ab_zX Z i 4 = c → n ≤ ab_zX Z i 6 → ab_zX Z i 6 = ab_zD Z i 3 (ab_zs Z i) c → ab_zD Z i 1 (ab_zs Z i) c ≠ 8
theorem ax_fl2 {Z : ab_Z} {d : Nat → Nat → Nat} {N i n : Nat} {w : ab_F} (h : ab_R Z d N) (hi : i < N) (ho : ab_zO Z i w) (h3 : w 3 ≤ 1) (hne : w 1 ≠ w 4) (hnr : ax_nr Z (w 4) n (i + 1)) (hn : n ≤ w 6) (hn0 : ab_zD Z 0 4 (w 4) 0 < n) (e : ab_zD Z (i + 1) 3 (w 1) (w 4) = w 6) : ab_zD Z (i + 1) 2 (w 1) (w 4) ≤ w 7 := by
  refine ax_fl h hi ho h3 hne e ?_
  obtain ⟨_, e1, _, y⟩ := ab_d1 ho h3
  have hD := h.1 i hi
  rcases y with ⟨hk, e3, e4, e5, e6, e7, ng, y0, y1⟩ | ⟨e4, _⟩
  · have hc : (ab_zX Z i 3 = 0 ∧ ¬ ab_sn (ab_zs Z i) (ab_zX Z i 4) (ab_zX Z i 8) (ab_zD Z i)) ∨ ab_zX Z i 3 = 1 := by
      by_cases z : ab_zX Z i 3 = 0
      · exact Or.inl ⟨z, (y0 z).2⟩
      · exact Or.inr (by omega)
    rw [e1, e4] at e hne ⊢
    rw [e4] at hnr hn0
    rcases ab_Ry h hi (ab_zs Z i) (ab_zX Z i 4) with ⟨s1, s2, s3⟩ | ⟨hk, ev, ec, hs', hl, l1, l2, l3⟩ | ⟨ev, ⟨y0', y1', y2, y3, _⟩, y⟩
    · rw [← hD] at s1 s3
      rw [s1]
      exact hnr i (by omega) hk hc rfl (by omega) (by rw [← s3, e, e6])
    · rw [← hD] at l1
      rw [l1]
      have := (h.2.1 _ _ (h.2.2.2.2.2.1 i hi hk).1).2.1
      omega
    · exfalso
      rw [← hD] at y3
      obtain ⟨t', hb', _, ht', _, _, _, hp⟩ := ab_wcI h i (by omega) (ab_zs Z i) (ab_zX Z i 4) (by omega)
      obtain ⟨p1, p2, p3⟩ := hp y0'
      rcases y with y | ⟨k1, x3, x5, xv, xb, xn⟩ | ⟨k2, kc, kV, kl⟩
      · exact absurd p1 y
      · omega
      · omega
  · exact absurd (by rw [e1, e4]) hne
theorem ax_cst2 {Z : ab_Z} {d : Nat → Nat → Nat} {N c n a v : Nat} (h : ab_R Z d N) (hn0 : ab_zD Z 0 4 c 0 < n) (hv : v ≠ c) (ha : n ≤ ab_zD Z a 3 v c) : ∀ b, a ≤ b → b ≤ N → ax_nr Z c n b → ab_zD Z b 3 v c = ab_zD Z a 3 v c → ab_zD Z b 2 v c = ab_zD Z a 2 v c := by
  intro b
  induction b with
  | zero => intro h1 _ _ _; rw [show a = 0 by omega]
  | succ b ih =>
    intro h1 h2 hnv he
    by_cases e : a = b + 1
    · rw [e]
    · have m1 := ab_nrm (v := v) (c := c) h (show a ≤ b by omega) (by omega)
      have m2 := ab_nr1 (v := v) (c := c) h (show b < N by omega)
      have I := ih (by omega) (by omega) (fun j hj => hnv j (by omega)) (by omega)
      have hD := h.1 b (by omega)
      rcases ab_Ry h (show b < N by omega) v c with ⟨s1, s2, s3⟩ | ⟨hk, ev, ec, hs', hl, l1, l2, l3⟩ | ⟨ev, ⟨y0, y1, y2, y3, _⟩, y⟩
      · rw [← hD] at s2
        rw [s2]; exact I
      · exfalso
        rw [← hD] at l2 l3
        rcases hl.2 with z | ⟨z1, z | z⟩
        · omega
        · have hc : (ab_zX Z b 3 = 0 ∧ ¬ ab_sn (ab_zs Z b) (ab_zX Z b 4) (ab_zX Z b 8) (ab_zD Z b)) ∨ ab_zX Z b 3 = 1 := by
            rcases hs' with q | q
            · exact Or.inl (by rw [← ev, ← ec]; rw [← ev, ← ec] at q; exact q)
            · exact Or.inr q
          exact hnv b (by omega) hk hc ec.symm (by omega) (by rw [← ev]; exact z1) (by rw [← ev]; exact z)
        · have x3 : ab_zX Z b 3 ≤ 1 := by rcases hs' with ⟨z, _⟩ | z <;> omega
          obtain ⟨j, hj, ho, e0, e1, e2, hu⟩ := ab_hrd h (show b < N by omega) hk x3 (by rw [← ec]; omega)
          obtain ⟨c1, c2, c3, c4, c5, c6⟩ := ab_fcI h j (by omega) _ ho x3 (by rw [← ec]; omega)
          obtain ⟨t', hb', _, ht', _⟩ := ab_wcI h b (by omega) v c (by omega)
          rw [← ec, z1] at c1
          have := ab_bnu h hb' c1
          omega
      · rw [← hD] at y2
        rw [y2]; exact I
/-- THE CHAIN, where ways may be lost -/
theorem ax_ch2 {Z : ab_Z} {d : Nat → Nat → Nat} {N c n : Nat} (h : ab_R Z d N) (hn0 : ab_zD Z 0 4 c 0 < n) : ∀ i, i ≤ N → ax_nr Z c n i → ∀ v, v ≠ c → n ≤ ab_zD Z i 3 v c → ab_zD Z i 1 v c ≠ 8 → ab_zD Z i 1 v c = c ∨ ab_zD Z i 3 v c < ab_zD Z i 3 (ab_zD Z i 1 v c) c ∨
    (ab_zD Z i 3 (ab_zD Z i 1 v c) c = ab_zD Z i 3 v c ∧ ab_zD Z i 2 (ab_zD Z i 1 v c) c < ab_zD Z i 2 v c) := by
  intro i
  induction i with
  | zero =>
    intro _ _ v _ hn
    have := h.2.2.2.2.1 v c
    omega
  | succ i ih =>
    intro hi hnv v hv hn h8
    have hi' : i < N := by omega
    have hD := h.1 i hi'
    have hnv' : ax_nr Z c n i := fun j hj => hnv j (by omega)
    rcases ab_Ry h hi' v c with ⟨s1, s2, s3⟩ | ⟨hk, ev, ec, hs', hl, l1, l2, l3⟩ | ⟨ev, ⟨y0, y1, y2, y3, _⟩, y⟩
    · rw [← hD] at s1 s2 s3
      rw [s1] at h8
      rw [s1, s2, s3]
      rw [s3] at hn
      by_cases hpc : ab_zD Z i 1 v c = c
      · exact Or.inl hpc
      · refine Or.inr ?_
        have m1 := ab_nr1 (v := ab_zD Z i 1 v c) (c := c) h hi'
        rcases ih (by omega) hnv' v hv hn h8 with z | z | ⟨z1, z2⟩
        · exact absurd z hpc
        · exact Or.inl (by omega)
        · by_cases e : ab_zD Z (i + 1) 3 (ab_zD Z i 1 v c) c = ab_zD Z i 3 (ab_zD Z i 1 v c) c
          · refine Or.inr ⟨by omega, ?_⟩
            have := ax_cst2 h hn0 hpc (show n ≤ ab_zD Z i 3 (ab_zD Z i 1 v c) c by omega) (i + 1) (by omega) hi hnv e
            omega
          · exact Or.inl (by omega)
    · rw [← hD] at l1 l2 l3
      rw [l1, l2, l3]
      rw [l3] at hn
      by_cases hpc : ab_zp Z i = c
      · exact Or.inl hpc
      · refine Or.inr ?_
        have x3 : ab_zX Z i 3 ≤ 1 := by rcases hs' with ⟨z, _⟩ | z <;> omega
        obtain ⟨j, hj, ho, e0, e1, e2, hu⟩ := ab_hrd h hi' hk x3 (by rw [← ec]; omega)
        have f4 : ab_zX Z i 4 = c := ec.symm
        have nr : ab_zX Z i 6 ≤ ab_zD Z (j + 1) 3 (ab_zp Z i) c := by
          rcases ab_fnr h (show j < N by omega) ho x3 with z | z
          · rw [e1, f4] at z
            exact absurd z hpc
          · rw [e1, f4] at z
            exact z
        have mm := ab_nrm (v := ab_zp Z i) (c := c) h (show j + 1 ≤ i + 1 by omega) hi
        by_cases e : ab_zD Z (i + 1) 3 (ab_zp Z i) c = ab_zX Z i 6
        · refine Or.inr ⟨e, ?_⟩
          have ej : ab_zD Z (j + 1) 3 (ab_zp Z i) c = ab_zX Z i 6 := by omega
          have fl := ax_fl2 (n := n) h (show j < N by omega) ho x3 (by rw [e1, f4]; exact hpc) (by rw [f4]; exact fun a ha => hnv a (by omega)) hn (by rw [f4]; exact hn0) (by rw [e1, f4]; exact ej)
          rw [e1, f4] at fl
          have mo := ax_cst2 h hn0 hpc (show n ≤ ab_zD Z (j + 1) 3 (ab_zp Z i) c by omega) (i + 1) (by omega) hi hnv (by omega)
          have fc := ab_fcI h j (by omega) _ ho x3 (by rw [f4]; omega)
          have lm := h.2.2.2.2.2.2.1 i (by omega)
          obtain ⟨c1, c2, c3, c4, c5, c6⟩ := fc
          have : ab_c8 (ab_zX Z i 7 + 1) = ab_zX Z i 7 + 1 := ab_c8e (by omega)
          omega
        · exact Or.inl (by omega)
    · rw [← hD] at y1
      exact absurd y1 h8
/-- a hearing of a late TELL of y -/
theorem ax_hT1 {Z : ab_Z} {d : Nat → Nat → Nat} {N m y nb t0 : Nat} (hW : ax_W Z d N) (hmN : m < N) (hk : ab_zK Z m = 1) (h4 : ab_zX Z m 4 = y) (h31 : ab_zX Z m 3 = 1) (hb0 : ab_zD Z 0 4 y 0 < nb) (hbn : ab_bn Z N y nb t0) (ht0 : ab_zn Z 0 + 17 ≤ t0) (hn : nb ≤ ab_zX Z m 6) :
    ∃ j a z r, j < N ∧ ab_tb Z d j a y z ∧ r < m ∧ ax_fr Z N j y z r (ab_zX Z m) ∧ ab_zX Z m 2 = ab_zs Z m ∧ ab_zX Z m 1 = ab_zp Z m ∧ ab_zn Z m = ab_zn Z j + ab_zX Z m 7 + 1 ∧ ab_zn Z 0 + 10 ≤ ab_zn Z a ∧ (ab_zX Z m 7 = 0 → ab_zX Z m 1 = y) ∧ t0 ≤ ab_zn Z j ∧ ab_zD Z (j + 1) 4 y 0 = ab_zX Z m 6 ∧ ab_zD Z j 4 y 0 + 1 = ab_zX Z m 6 := by
  have hW' := hW
  obtain ⟨h, hL, hG, hl8, hq⟩ := hW'
  have hl : ∀ a b, ab_zl Z a b → a ≠ b := fun a b z => (hl8 a b z).1
  have mr : ab_rc Z (ab_zX Z m) := ⟨by omega, Or.inl (by rw [h4]; omega)⟩
  obtain ⟨r', hrm, hor, r0, r1, r2', ru⟩ := ab_hrc h hmN hk mr
  obtain ⟨j', hj', hbj⟩ := ab_fbI h r' (by omega) _ hor mr
  have hbj' := hbj
  obtain ⟨b1, b2, b3, b4, b5⟩ := hbj
  rw [h4] at b1 b3 b4
  have hbn2 : ab_bn Z N y (ab_zX Z m 6) (ab_zn Z j') := ⟨j', by omega, rfl, by omega, by omega⟩
  have htt := ab_bnl h hbn hbn2 hn
  obtain ⟨a', ha'⟩ := ab_tbI h hL hG hl hq (show j' < N by omega) hbj' h31 (by omega)
  rw [h4] at ha'
  have jd := ha'.2.2.2.2.2.2.2.2.1
  have d7 := ha'.2.2.2.2.2.2.2.2.2.1
  refine ⟨j', a', _, r', by omega, ha', hrm, ⟨by omega, hor, h31, mr, hbj', h4, rfl⟩, by rw [r2'], r1, by omega, by omega, fun q => ?_, htt, b4, b3⟩
  have g0 := (ab_tnr h hl (show j' < N by omega) ha' r' (by omega) _ hor h31 mr hbj' h4 rfl).2.2.2.2 q
  have e1 := (ab_d1 hor (by omega)).2.1
  rw [g0, ha'.2.2.2.1] at e1
  exact e1
/-- within 40 moments behind an asking of z no number is learned again, if z is the goal of one station at most -/
theorem ax_nrI {Z : ab_Z} {d : Nat → Nat → Nat} {N a z c u : Nat} (hW : ax_W Z d N) (h0 : ab_t0 Z N) (hu : ∀ q, ab_zl Z q z → q = u) (haN : a < N) (ha : ab_ask Z a z c) (h20 : ab_zn Z 0 + 20 ≤ ab_zn Z a) : ∀ I, I ≤ N → ab_zn Z I ≤ ab_zn Z a + 40 → ax_nr Z z (ab_zD Z (a + 1) 4 z 0) I := by
  have hW' := hW
  obtain ⟨h, hL, hG, hl8, hq⟩ := hW'
  have hl : ∀ a b, ab_zl Z a b → a ≠ b := fun a b z => (hl8 a b z).1
  obtain ⟨q1, q2, q3⟩ := ab_qf h haN ha
  have hbq : ab_bn Z N z (ab_zD Z (a + 1) 4 z 0) (ab_zn Z a) := ⟨a, haN, rfl, by omega, Nat.le_refl _⟩
  intro I hI hIt i hi hk hc h4 hn he h8
  have hiI := ab_nowm h (show i ≤ I by omega) hI
  have hvz : ab_zs Z i ≠ z := by
    intro e
    rw [e] at he
    have := ab_self h z i (by omega)
    omega
  rcases hc with ⟨x30, hsn⟩ | x31
  · have mr : ab_rc Z (ab_zX Z i) := ⟨by omega, Or.inl (by rw [h4]; omega)⟩
    obtain ⟨b1, hb1, ba, b6, b8, bt⟩ := ab_hask h (by omega) hk x30 mr
    rw [h4] at ba b6 b8
    obtain ⟨b, hbi, s1, s2, s3, s4, s5, s6, s7, s8⟩ := ab_srcI h i (by omega) (ab_zs Z i) z (by omega)
    have mrb : ab_rc Z (ab_zX Z b) := ⟨by rcases s3 with ⟨y, _⟩ | y <;> omega, Or.inl (by rw [s4]; omega)⟩
    rcases s3 with ⟨y30, _⟩ | y31
    · obtain ⟨c1, hc1, ca, c6, c8, ct⟩ := ab_hask h (by omega) s1 y30 mrb
      rw [s4] at ca c6 c8
      obtain ⟨p1, p2, p3⟩ := ab_qf h (show b1 < N by omega) ba
      obtain ⟨r1, r2, r3⟩ := ab_qf h (show c1 < N by omega) ca
      have e : b1 = c1 := ab_bone h (show b1 < N by omega) (show c1 < N by omega) p3 rfl (by omega) (by omega)
      have n0 := ab_nowm h (Nat.zero_le a) (by omega)
      have hbn2 : ab_bn Z N z (ab_zX Z i 6) (ab_zn Z b1) := ⟨b1, by omega, rfl, by omega, by omega⟩
      have hba := ab_bnl h hbq hbn2 hn
      obtain ⟨g, g1, g2, g3, g4, g5⟩ := ab_life h (show i < N by omega) hk x30 (by have := ab_nowm h (show b1 ≤ i by omega) (by omega); omega)
      have gb : g = b1 := by
        rw [h4] at g2 g4
        rcases Nat.lt_trichotomy g b1 with y | y | y
        · have := ab_qm (c := z) h (show g + 1 ≤ b1 by omega) (by omega)
          have := ba.2.2.2.2.2.2.2.2.1
          omega
        · exact y
        · have := ab_qm (c := z) h (show b1 + 1 ≤ g by omega) (by omega)
          have := g3.2.2.2.2.2.1
          rw [g2] at this
          omega
      have hbt := ab_nowm h (show c1 ≤ b by omega) (by omega)
      have := h.2.2.2.2.2.2.2.1 b i hbi (by omega) hk x30 s1 s2 y30 (by rw [s4, h4]) (by rw [c8, b8, e]) (by
        rw [gb] at g5
        rw [← e] at hbt
        omega)
      exact hsn this
    · -- a TELL with the number of a question
      obtain ⟨r', hrm, hor, r0, r1, r2', ru⟩ := ab_hrc h (show b < N by omega) s1 mrb
      obtain ⟨j', hj', c1, c2, c3, c4, c5⟩ := ab_fbI h r' (by omega) _ hor mrb
      rw [s4] at c1 c3 c4
      obtain ⟨p1, p2, p3⟩ := ab_qf h (show b1 < N by omega) ba
      have e : b1 = j' := ab_bone h (show b1 < N by omega) (show j' < N by omega) p3 rfl (by omega) (by omega)
      have k2 := ba.2.2.2.1
      rcases c5 with ⟨y, _⟩ | ⟨_, y, _⟩
      · omega
      · rw [e] at k2; omega
  · obtain ⟨j', a', z', r', c1, c2, c3, c4, c5, c6, c7, c8, c9, c10, c11, c12⟩ := ax_hT1 hW (show i < N by omega) hk h4 x31 q2 hbq (by omega) hn
    have jd := c2.2.2.2.2.2.2.2.2.1
    have d7 := c2.2.2.2.2.2.2.2.2.2.1
    have zu := hu z' c2.2.1.2.2.1
    refine ax_pres h (show ab_zD Z 0 4 z 0 < ab_zX Z i 6 by omega) i (by omega) (fun jj q hjj hv => ?_) (ab_zs Z i) hvz (by omega) h8
    by_cases e : ab_zD Z jj 3 q z < ab_zX Z i 6
    · exact e
    · exfalso
      have qu := hu q hv.2.2.2.2
      have s1 := (ab_san h jj (by omega)).1 q z
      have hj' : j' < jj := by
        by_cases e : j' < jj
        · exact e
        · have := ab_ownm (c := z) h (show jj ≤ j' by omega) (by omega)
          omega
      rw [qu, ← zu] at hv
      have := ab_vsp h hL h0 (show a' < jj by have := c2.1; omega) (by omega) hv c2.2.1
      have := ab_nowm h (show jj ≤ i by omega) (by omega)
      omega
/-! ## the trail of a TELL of z: the stations that heard it -/
def ax_H (Z : ab_Z) (N n z l v : Nat) : Prop := v ≠ z ∧ v < 8 ∧ ∃ i, i < N ∧ ab_zK Z i = 1 ∧ ab_zs Z i = v ∧ ab_zX Z i 3 = 1 ∧ ab_zX Z i 4 = z ∧ ab_zX Z i 6 = n ∧ ab_zX Z i 7 + 1 ≤ l
theorem ax_Hf {Z : ab_Z} {d : Nat → Nat → Nat} {N a z c jj aa u i : Nat} (hW : ax_W Z d N) (haN : a < N) (ha : ab_ask Z a z c) (h20 : ab_zn Z 0 + 20 ≤ ab_zn Z a) (hj : jj < N) (ht : ab_tb Z d jj aa z u) (hn : ab_zD Z (a + 1) 4 z 0 ≤ ab_zD Z (jj + 1) 4 z 0)
    (hi : i < N) (hk : ab_zK Z i = 1) (h3 : ab_zX Z i 3 = 1) (h4 : ab_zX Z i 4 = z) (h6 : ab_zX Z i 6 = ab_zD Z (jj + 1) 4 z 0) :
    ∃ r, r < i ∧ ax_fr Z N jj z u r (ab_zX Z i) ∧ ab_zX Z i 2 = ab_zs Z i ∧ ab_zX Z i 1 = ab_zp Z i ∧ ab_zn Z i = ab_zn Z jj + ab_zX Z i 7 + 1 ∧ (ab_zX Z i 7 = 0 → ab_zX Z i 1 = z) := by
  have h := hW.1
  obtain ⟨q1, q2, q3⟩ := ab_qf h haN ha
  have hbq : ab_bn Z N z (ab_zD Z (a + 1) 4 z 0) (ab_zn Z a) := ⟨a, haN, rfl, by omega, Nat.le_refl _⟩
  obtain ⟨j', a', z', r', c1, c2, c3, c4, c5, c6, c7, c8, c9, c10, c11, c12⟩ := ax_hT1 hW hi hk h4 h3 q2 hbq (by omega) (by omega)
  have gr := ax_tgrow h ht hj
  have e : j' = jj := ab_bone h c1 hj (by omega) (by omega) gr.symm (by omega)
  rw [e] at c2 c4 c7
  have e1 := c2.2.2.2.2.2.1
  have e2 := ht.2.2.2.2.2.1
  rw [e2] at e1
  rw [← e1] at c4
  exact ⟨r', c3, c4, c5, c6, c7, c9⟩
/-- the sender of a frame of it has heard it a moment before -/
theorem ax_Hs {Z : ab_Z} {d : Nat → Nat → Nat} {N z jj aa u r n l : Nat} {w : ab_F} (hW : ax_W Z d N) (hj : jj < N) (ht : ab_tb Z d jj aa z u) (en : n = ab_zD Z (jj + 1) 4 z 0) (hf : ax_fr Z N jj z u r w) (h7 : w 7 ≠ 0) (hl : w 7 ≤ l) (hz : w 1 ≠ z) : ax_H Z N n z l (w 1) := by
  have h := hW.1
  obtain ⟨k1, s1, x1, y1, m, hm, hf2⟩ := ax_prv hW hj ht hf h7
  have e1 := (ab_d1 hf.2.1 (by have := hf.2.2.1; omega)).2.1
  have hu := (ab_d1 hf.2.1 (by have := hf.2.2.1; omega)).2.2.1
  have b4 := hf2.2.2.2.2.1.2.2.2.1
  rw [hf2.2.2.2.2.2.1] at b4
  refine ⟨hz, ?_, r, hf.1, k1, e1.symm, y1, hf2.2.2.2.2.2.1, by omega, by omega⟩
  have := h.2.1 _ _ (h.2.2.2.2.2.1 r hf.1 k1).1
  rw [e1]
  omega
/-- all levels up to a station that heard it -/
theorem ax_Hl {Z : ab_Z} {d : Nat → Nat → Nat} {N a z c jj aa u n : Nat} (hW : ax_W Z d N) (haN : a < N) (ha : ab_ask Z a z c) (h20 : ab_zn Z 0 + 20 ≤ ab_zn Z a) (hj : jj < N) (ht : ab_tb Z d jj aa z u) (en : n = ab_zD Z (jj + 1) 4 z 0) (hn : ab_zD Z (a + 1) 4 z 0 ≤ n) :
    ∀ l v, ax_H Z N n z l v → d z v ≤ 7 ∧ ∀ e, 1 ≤ e → e ≤ d z v → ∃ v', ax_H Z N n z l v' ∧ d z v' = e := by
  have h := hW.1
  have hG := hW.2.2.1
  intro l
  induction l with
  | zero => intro v ⟨_, _, i, _, _, _, _, _, _, q⟩; omega
  | succ l ih =>
    intro v hv
    have hv' := hv
    obtain ⟨hvz, v8, i, hi, hk, hs, h3, h4, h6, h7⟩ := hv'
    obtain ⟨r, hr, hf, e2, e1, et, e0⟩ := ax_Hf hW haN ha h20 hj ht (by omega) hi hk h3 h4 (by omega)
    have hu := (h.2.2.2.2.2.1 i hi hk).1
    rw [hs] at hu
    have lip := hG.2.1 z _ _ hu
    have up : ∀ v', ax_H Z N n z l v' → ax_H Z N n z (l + 1) v' := fun v' ⟨x1, x8, b, x2, x3, x4, x5, x6, x7, x8'⟩ => ⟨x1, x8, b, x2, x3, x4, x5, x6, x7, by omega⟩
    by_cases pz : ab_zp Z i = z
    · rw [pz, hG.1] at lip
      exact ⟨by omega, fun e h1 h2 => ⟨v, hv, by omega⟩⟩
    · have h70 : ab_zX Z i 7 ≠ 0 := fun q => pz (by rw [← e1]; exact e0 q)
      have hp := ax_Hs (l := l) hW hj ht en hf h70 (by omega) (by rw [e1]; exact pz)
      rw [e1] at hp
      obtain ⟨p7, pl⟩ := ih _ hp
      refine ⟨by rcases hG.2.2.2.2.2.2 z v with q | q <;> omega, fun e h1 h2 => ?_⟩
      by_cases q : e ≤ d z (ab_zp Z i)
      · obtain ⟨v', y1, y2⟩ := pl e h1 q
        exact ⟨v', up v' y1, y2⟩
      · exact ⟨v, hv, by omega⟩
theorem ax_itv1 {k : Nat} : ∀ n, n ≤ k + 1 → n ≤ ax_sm (fun i => 1 ≤ i ∧ i ≤ k) (fun _ => 1) n + 1 := by
  intro n
  induction n with
  | zero => intro _; omega
  | succ n ih =>
    intro hn
    have I := ih (by omega)
    show n + 1 ≤ ax_sm (fun i => 1 ≤ i ∧ i ≤ k) (fun _ => 1) n + ab_if (1 ≤ n ∧ n ≤ k) 1 0 + 1
    by_cases p : 1 ≤ n
    · rw [ab_ip ⟨p, by omega⟩]; omega
    · omega
/-- as many stations as links away -/
theorem ax_Hc {Z : ab_Z} {d : Nat → Nat → Nat} {N a z c jj aa u n l v : Nat} (hW : ax_W Z d N) (haN : a < N) (ha : ab_ask Z a z c) (h20 : ab_zn Z 0 + 20 ≤ ab_zn Z a) (hj : jj < N) (ht : ab_tb Z d jj aa z u) (en : n = ab_zD Z (jj + 1) 4 z 0) (hn : ab_zD Z (a + 1) 4 z 0 ≤ n) (hv : ax_H Z N n z l v) :
    d z v ≤ ax_cn (ax_H Z N n z l) := by
  obtain ⟨h7, hl⟩ := ax_Hl hW haN ha h20 hj ht en hn l v hv
  have ex : ∀ e, ∃ v', (1 ≤ e ∧ e ≤ d z v) → ax_H Z N n z l v' ∧ d z v' = e := by
    intro e
    by_cases q : 1 ≤ e ∧ e ≤ d z v
    · obtain ⟨v', y⟩ := hl e q.1 q.2
      exact ⟨v', fun _ => y⟩
    · exact ⟨0, fun y => absurd y q⟩
  obtain ⟨f, hf⟩ := Classical.axiomOfChoice ex
  have := ax_cni (P := fun e => 1 ≤ e ∧ e ≤ d z v) (Q := ax_H Z N n z l) f (fun e _ he => ⟨(hf e he).1.2.1, (hf e he).1⟩) (fun e e' _ _ he he' q => by
    have h1 := (hf e he).2
    have h2 := (hf e' he').2
    rw [q] at h1
    omega)
  have h1 := ax_itv1 (k := d z v) (d z v + 1) (Nat.le_refl _)
  have h2 := ax_smn (P := fun i => 1 ≤ i ∧ i ≤ d z v) (E := fun _ => 1) (a := d z v + 1) 8 (by omega)
  have h3 : ax_sm (fun i => 1 ≤ i ∧ i ≤ d z v) (fun _ => 1) 8 ≤ ax_cn (ax_H Z N n z l) := this
  omega
/-- links of a way by it are those of the first hearing -/
theorem ax_Hb {Z : ab_Z} {d : Nat → Nat → Nat} {N z n0 i b : Nat} (hW : ax_W Z d N) (hn0 : ab_zD Z 0 4 z 0 < n0) (hb : b < i) (hi : i ≤ N) (hk : ab_zK Z b = 1) (hv : ab_zs Z b ≠ z) (h3 : ab_zX Z b 3 = 1) (h4 : ab_zX Z b 4 = z) (hn : n0 ≤ ab_zX Z b 6) (hnr : ax_nr Z z n0 i) (he : ab_zD Z i 3 (ab_zs Z b) z = ab_zX Z b 6) : ab_zD Z i 2 (ab_zs Z b) z ≤ ab_zX Z b 7 + 1 := by
  have h := hW.1
  have hD := h.1 b (by omega)
  have m1 := ab_nrm (v := ab_zs Z b) (c := z) h (show b + 1 ≤ i by omega) hi
  have m2 : ab_zX Z b 6 ≤ ab_zD Z (b + 1) 3 (ab_zs Z b) z := by
    have := ab_hnr (u := ab_zu Z) (ac := ab_za Z) (s := ab_zs Z b) (p := ab_zp Z b) (x := ab_zX Z b) (D := ab_zD Z b) (Or.inr h3) (by rw [h4]; exact hv)
    rw [hD]
    unfold ab_zY
    rw [hk, ab_do1]
    rw [h4] at this
    exact this
  have e1 : ab_zD Z (b + 1) 3 (ab_zs Z b) z = ab_zX Z b 6 := by omega
  have e2 := ax_cst2 h hn0 hv (show n0 ≤ ab_zD Z (b + 1) 3 (ab_zs Z b) z by omega) i (by omega) hi hnr (by omega)
  rw [e2]
  have h8 : ab_zD Z (b + 1) 1 (ab_zs Z b) z ≠ 8 := by
    rcases ab_Ry h (show b < N by omega) (ab_zs Z b) z with ⟨s1, s2, s3⟩ | ⟨hk', ev, ec, hs', hl, l1, l2, l3⟩ | ⟨ev, ⟨y0', y1', y2, y3, _⟩, y⟩
    · rw [← hD] at s1 s3
      rw [s1]
      exact hnr b hb hk (Or.inr h3) h4 hn (by rw [← s3, e1])
    · rw [← hD] at l1
      rw [l1]
      have := (h.2.1 _ _ (h.2.2.2.2.2.1 b (by omega) hk).1).2.1
      omega
    · exfalso
      rw [← hD] at y3
      obtain ⟨t', hb', _, ht', _, _, _, hp⟩ := ab_wcI h b (by omega) (ab_zs Z b) z (by omega)
      obtain ⟨p1, p2, p3⟩ := hp y0'
      rcases y with y | ⟨k1, x3, x5, xv, xb, xn⟩ | ⟨k2, kc, kV, kl⟩
      · exact absurd p1 y
      · omega
      · omega
  rw [hD] at e1 h8 ⊢
  unfold ab_zY at e1 h8 ⊢
  rw [hk, ab_do1] at e1 h8 ⊢
  have := ax_hnl (u := ab_zu Z) (ac := ab_za Z) (s := ab_zs Z b) (p := ab_zp Z b) (x := ab_zX Z b) (D := ab_zD Z b) (Or.inr h3) (by rw [h4]; exact hv) (by rw [h4]; exact e1) (by rw [h4]; exact h8)
  rw [h4] at this
  exact this
/-- a station whose way is by the TELL: where it stands in the trail -/
theorem ax_Hp {Z : ab_Z} {d : Nat → Nat → Nat} {N a z c jj aa u n i p : Nat} (hW : ax_W Z d N) (haN : a < N) (ha : ab_ask Z a z c) (h20 : ab_zn Z 0 + 20 ≤ ab_zn Z a) (hj : jj < N) (ht : ab_tb Z d jj aa z u) (en : n = ab_zD Z (jj + 1) 4 z 0) (hn : ab_zD Z (a + 1) 4 z 0 ≤ n)
    (hi : i ≤ N) (hnr : ax_nr Z z (ab_zD Z (a + 1) 4 z 0) i) (hp : ab_zD Z i 3 p z = n) :
    ax_H Z N n z (ab_zD Z i 2 p z) p ∧ (∀ l, l < ab_zD Z i 2 p z → ¬ ax_H Z N n z l p) ∧ (ab_zD Z i 1 p z ≠ 8 → ab_zD Z i 1 p z ≠ z → ax_H Z N n z (ab_zD Z i 2 p z - 1) (ab_zD Z i 1 p z)) ∧
      ∃ b r, b < i ∧ ab_zK Z b = 1 ∧ ab_zs Z b = p ∧ ax_fr Z N jj z u r (ab_zX Z b) ∧ ab_zX Z b 7 + 1 = ab_zD Z i 2 p z := by
  have h := hW.1
  obtain ⟨q1, q2, q3⟩ := ab_qf h haN ha
  obtain ⟨b, hbi, s1, s2, s3, s4, s5, s6, s7, s8⟩ := ab_srcI h i hi p z (by omega)
  have gr := ax_tgrow h ht hj
  have s31 : ab_zX Z b 3 = 1 := by
    rcases s3 with ⟨y, _⟩ | y
    · exfalso
      have mr : ab_rc Z (ab_zX Z b) := ⟨by omega, Or.inl (by rw [s4]; omega)⟩
      obtain ⟨b1, hb1, ba, b6, b8, bt⟩ := ab_hask h (by omega) s1 y mr
      rw [s4] at ba b6
      obtain ⟨p1, p2, p3⟩ := ab_qf h (show b1 < N by omega) ba
      have e : b1 = jj := ab_bone h (show b1 < N by omega) hj p3 rfl (by omega) (by omega)
      have k2 := ba.2.2.2.1
      have k1 := ht.2.2.1
      rw [e] at k2
      omega
    · exact y
  obtain ⟨r, hr, hf, e2, e1, et, e0⟩ := ax_Hf hW haN ha h20 hj ht (by omega) (show b < N by omega) s1 s31 s4 (by omega)
  have hu8 := h.2.1 _ _ (h.2.2.2.2.2.1 b (by omega) s1).1
  refine ⟨⟨s8, by rw [← s2]; omega, b, by omega, s1, s2, s31, s4, by omega, by omega⟩, ?_, ?_, b, r, hbi, s1, s2, hf, s6⟩
  · intro l hl ⟨_, _, b', y1, y2, y3, y4, y5, y6, y7⟩
    obtain ⟨r', hr', hf', e2', e1', et', e0'⟩ := ax_Hf hW haN ha h20 hj ht (by omega) y1 y2 y4 y5 (by omega)
    have hbn : ab_bn Z N z n (ab_zn Z jj) := ⟨jj, hj, rfl, by omega, by omega⟩
    obtain ⟨t', hb', _, ht', _⟩ := ab_wcI h i hi p z (by omega)
    rw [hp] at hb'
    have := ab_bnu h hb' hbn
    have hb'i : b' < i := by
      by_cases e : b' < i
      · exact e
      · have := ab_nowm h (show i ≤ b' by omega) (by omega)
        omega
    have := ax_Hb hW q2 hb'i hi y2 (by rw [y3]; exact s8) y4 y5 (by omega) hnr (by rw [y3, hp, y6])
    rw [y3] at this
    omega
  · intro h8 hz
    have e : ab_zD Z i 1 p z = ab_zp Z b := by
      rcases s7 with y | y
      · exact absurd y h8
      · exact y
    rw [e] at hz ⊢
    have h70 : ab_zX Z b 7 ≠ 0 := fun q => hz (by rw [← e1]; exact e0 q)
    have := ax_Hs (l := ab_zD Z i 2 p z - 1) hW hj ht en hf h70 (by omega) (by rw [e1]; exact hz)
    rw [e1] at this
    exact this
theorem ax_H7 {Z : ab_Z} {N n z l : Nat} (hz : z < 8) : ax_cn (ax_H Z N n z l) ≤ 7 := by
  have s1 := ax_add (P := fun w => w = z) (Q := ax_H Z N n z l) (fun w p q => q.1 p) 8
  have c1 : 1 ≤ ax_cn (fun w => w = z) := ax_cn1 hz rfl
  have l8 := ax_le (P := fun w => w = z ∨ ax_H Z N n z l w) 8
  simp only [ax_cn] at *
  omega
theorem ax_H6 {Z : ab_Z} {N n z u l : Nat} (hz : z < 8) (hu : u < 8) (hzu : z ≠ u) (hn : ¬ ax_H Z N n z l u) : ax_cn (ax_H Z N n z l) ≤ 6 := by
  have s1 := ax_add (P := fun w => w = z) (Q := ax_H Z N n z l) (fun w p q => q.1 p) 8
  have s2 := ax_add (P := fun w => w = u) (Q := fun w => w = z ∨ ax_H Z N n z l w) (fun w p q => by
    rcases q with q | q
    · exact hzu (by rw [← q, p])
    · rw [p] at q; exact hn q) 8
  have c1 : 1 ≤ ax_cn (fun w => w = z) := ax_cn1 hz rfl
  have c2 : 1 ≤ ax_cn (fun w => w = u) := ax_cn1 hu rfl
  have l8 := ax_le (P := fun w => w = u ∨ (w = z ∨ ax_H Z N n z l w)) 8
  simp only [ax_cn] at *
  omega
/-- how many stations stand before one whose way is by the TELL -/
theorem ax_H5 {Z : ab_Z} {d : Nat → Nat → Nat} {N a z c jj aa u n i p : Nat} (hW : ax_W Z d N) (hU : ax_U Z N) (haN : a < N) (ha : ab_ask Z a z c) (h20 : ab_zn Z 0 + 20 ≤ ab_zn Z a) (hj : jj < N) (ht : ab_tb Z d jj aa z u) (en : n = ab_zD Z (jj + 1) 4 z 0) (hn : ab_zD Z (a + 1) 4 z 0 ≤ n)
    (hi : i ≤ N) (hnr : ax_nr Z z (ab_zD Z (a + 1) 4 z 0) i) (hp : ab_zD Z i 3 p z = n) (hdu : 2 ≤ d z u) : ax_cn (ax_H Z N n z (ab_zD Z i 2 p z)) ≤ d z p + 5 ∧ (p ≠ u → ax_cn (ax_H Z N n z (ab_zD Z i 2 p z)) ≤ 6) := by
  have hl8 := hW.2.2.2.1 _ _ ht.2.1.2.2.1
  obtain ⟨x1, x2, x3, b, r, hb, bk, bs, hf, b7⟩ := ax_Hp hW haN ha h20 hj ht en hn hi hnr hp
  have six : p ≠ u → ax_cn (ax_H Z N n z (ab_zD Z i 2 p z)) ≤ 6 := by
    intro hpu
    refine ax_H6 hl8.2.2 hl8.2.1 (fun q => hl8.1 q.symm) (fun ⟨_, _, q, y1, y2, y3, y4, y5, y6, y7⟩ => ?_)
    obtain ⟨r', hr', hf', e2', e1', et', e0'⟩ := ax_Hf hW haN ha h20 hj ht (by omega) y1 y2 y4 y5 (by omega)
    have en' := ax_end hW hU hj ht y1 y2 y3 hf' r _ hf
    obtain ⟨_, ee⟩ := ax_uq hW hU hj ht (ab_zX Z q 7) r r' _ _ hf hf' (by omega) rfl
    have := hU b q (by omega) y1 bk y2 hf.2.2.1 (ax_frn hf) ee
    rw [this, y3] at bs
    exact hpu bs.symm
  refine ⟨?_, six⟩
  by_cases e : p = u
  · have := ax_H7 (Z := Z) (N := N) (n := n) (l := ab_zD Z i 2 p z) hl8.2.2
    rw [e] at this ⊢
    omega
  · have := six e
    have : 1 ≤ d z p := ax_d1 hW (fun q => x1.1 q.symm)
    omega
/-- numbers of TELLs and of questions are different -/
theorem ax_tq {Z : ab_Z} {d : Nat → Nat → Nat} {N b g z jj aa u : Nat} {lm : Nat} (h : ab_RL lm Z d N) (hb : b < N) (ha : ab_ask Z b z g) (hj : jj < N) (ht : ab_tb Z d jj aa z u) : ab_zD Z (b + 1) 4 z 0 ≠ ab_zD Z (jj + 1) 4 z 0 := by
  intro e
  obtain ⟨p1, p2, p3⟩ := ab_qf h hb ha
  have gr := ax_tgrow h ht hj
  have e' : b = jj := ab_bone h hb hj p3 rfl (by omega) e.symm
  have k2 := ha.2.2.2.1
  have k1 := ht.2.2.1
  rw [e'] at k2
  omega
/-- the state of a TELL's ride to z -/
def ax_P2 (Z : ab_Z) (d : Nat → Nat → Nat) (N a c z : Nat) (E : Nat → Nat) (i : Nat) (w : ab_F) : Prop :=
  ((∀ jj aa q, jj < N → ab_tb Z d jj aa z q → ab_zD Z (a + 1) 4 z 0 ≤ ab_zD Z (jj + 1) 4 z 0 → ab_zD Z (i + 1) 3 (w 1) z < ab_zD Z (jj + 1) 4 z 0) ∧ w 7 + ab_zD Z (i + 1) 2 (w 1) z ≤ d z c + ax_sm (ax_C Z N a z (ab_zD Z (i + 1) 3 (w 1) z)) E 8) ∨
  (∃ jj aa q, jj < N ∧ ab_tb Z d jj aa z q ∧ ab_zD Z (a + 1) 4 z 0 ≤ ab_zD Z (jj + 1) 4 z 0 ∧ ab_zD Z (i + 1) 3 (w 1) z = ab_zD Z (jj + 1) 4 z 0 ∧ w 7 + ax_cn (ax_H Z N (ab_zD Z (jj + 1) 4 z 0) z (ab_zD Z (i + 1) 2 (w 1) z)) ≤ d z c + ax_sm (ax_C Z N a z (ab_zD Z (i + 1) 3 (w 1) z)) E 8 + 5) ∨
  (∃ jj aa q, jj < N ∧ ab_tb Z d jj aa z q ∧ ab_zD Z (a + 1) 4 z 0 ≤ ab_zD Z (jj + 1) 4 z 0 ∧ ab_zD Z (jj + 1) 4 z 0 < ab_zD Z (i + 1) 3 (w 1) z ∧ w 7 + ab_zD Z (i + 1) 2 (w 1) z ≤ d z c + ax_sm (ax_C Z N a z (ab_zD Z (i + 1) 3 (w 1) z)) E 8 + 5)
theorem ax_pot2 {Z : ab_Z} {d : Nat → Nat → Nat} {N j a c z u : Nat} {E : Nat → Nat} (hW : ax_W Z d N) (h0 : ab_t0 Z N) (hU : ax_U Z N) (hu : ∀ q, ab_zl Z q z → q = u) (hdu : 2 ≤ d z u) (hj : j < N) (ht : ab_tb Z d j a c z) (h20 : ab_zn Z 0 + 20 ≤ ab_zn Z a) (hE : ax_X Z d z E) :
    ∀ i w, ax_fr Z N j c z i w → ab_zn Z i ≤ ab_zn Z a + 24 → ax_P2 Z d N a c z E i w := by
  have hW' := hW
  obtain ⟨h, hL, hG, hl8, hq⟩ := hW'
  have hl : ∀ a b, ab_zl Z a b → a ≠ b := fun a b z => (hl8 a b z).1
  have haN : a < N := by have := ht.1; omega
  have ha := ht.2.1
  have hzc := (hl8 _ _ ha.2.2.1)
  obtain ⟨q1, q2, q3⟩ := ab_qf h haN ha
  have hbq : ab_bn Z N z (ab_zD Z (a + 1) 4 z 0) (ab_zn Z a) := ⟨a, haN, rfl, by omega, Nat.le_refl _⟩
  -- two TELLs of z are far apart
  have two : ∀ j1 a1 u1 j2 a2 u2 i v, j1 < N → j2 < N → ab_tb Z d j1 a1 z u1 → ab_tb Z d j2 a2 z u2 → ab_zD Z (a + 1) 4 z 0 ≤ ab_zD Z (j1 + 1) 4 z 0 → ab_zD Z (j1 + 1) 4 z 0 < ab_zD Z (j2 + 1) 4 z 0 → i ≤ N → ab_zn Z i ≤ ab_zn Z a + 24 → ab_zD Z (j2 + 1) 4 z 0 ≤ ab_zD Z i 3 v z → False := by
    intro j1 a1 u1 j2 a2 u2 i v k1 k2 t1 t2 n1 n12 hi hit hv
    have e1 := hu _ t1.2.1.2.2.1
    have e2 := hu _ t2.2.1.2.2.1
    rw [e1] at t1
    rw [e2] at t2
    have g1 := ax_tgrow h t1 k1
    have g2 := ax_tgrow h t2 k2
    have b1 : ab_bn Z N z (ab_zD Z (j1 + 1) 4 z 0) (ab_zn Z j1) := ⟨j1, k1, rfl, by omega, Nat.le_refl _⟩
    have b2 : ab_bn Z N z (ab_zD Z (j2 + 1) 4 z 0) (ab_zn Z j2) := ⟨j2, k2, rfl, by omega, Nat.le_refl _⟩
    obtain ⟨t', hb', _, ht', hl1, _⟩ := ab_wcI h i hi v z (by omega)
    have l1 := ab_bnl h hbq b1 n1
    have l2 := ab_bnl h b1 b2 (by omega)
    have l3 := ab_bnl h b2 hb' hv
    have := ab_tone h k1 k2 t1 t2 (by omega) (by omega)
    rw [this] at n12
    omega
  intro i
  induction i using Nat.strongRecOn with
  | ind i ih =>
    intro w hfw hti
    have hfw' := hfw
    obtain ⟨hi, ho, h3, hr, hb, e4c, e5z⟩ := hfw'
    obtain ⟨g2, gn, gz, gu, g0⟩ := ab_tnr h hl hj ht i hi w ho h3 hr hb e4c e5z
    have ki : ab_zK Z i = 1 := by
      by_cases e : w 7 = 0
      · rw [g0 e]; exact ht.2.2.1
      · exact (ax_prv hW hj ht hfw e).1
    have hni : ab_zn Z (i + 1) = ab_zn Z i := by rw [ab_now1 h hi, if_neg (by omega)]
    have hnr : ax_nr Z z (ab_zD Z (a + 1) 4 z 0) (i + 1) := ax_nrI hW h0 hu haN ha h20 (i + 1) (by omega) (by omega)
    have w28 : ab_zD Z (i + 1) 1 (w 1) z ≠ 8 := by
      rw [← g2]
      have := (h.2.1 _ _ gu).2.2.1
      omega
    -- sorting a number that is no TELL's by the TELLs before it
    have sort : ∀ (K0 K5 : Prop), K0 → (K0 → K5) → (∀ jj aa q, jj < N → ab_tb Z d jj aa z q → ab_zD Z (i + 1) 3 (w 1) z ≠ ab_zD Z (jj + 1) 4 z 0) →
        ((∀ jj aa q, jj < N → ab_tb Z d jj aa z q → ab_zD Z (a + 1) 4 z 0 ≤ ab_zD Z (jj + 1) 4 z 0 → ab_zD Z (i + 1) 3 (w 1) z < ab_zD Z (jj + 1) 4 z 0) ∧ K0) ∨ (∃ jj aa q, jj < N ∧ ab_tb Z d jj aa z q ∧ ab_zD Z (a + 1) 4 z 0 ≤ ab_zD Z (jj + 1) 4 z 0 ∧ ab_zD Z (jj + 1) 4 z 0 < ab_zD Z (i + 1) 3 (w 1) z ∧ K5) := by
      intro K0 K5 k0 k05 hne
      by_cases e : ∃ jj aa q, jj < N ∧ ab_tb Z d jj aa z q ∧ ab_zD Z (a + 1) 4 z 0 ≤ ab_zD Z (jj + 1) 4 z 0 ∧ ab_zD Z (jj + 1) 4 z 0 < ab_zD Z (i + 1) 3 (w 1) z
      · obtain ⟨jj, aa, q, y1, y2, y3, y4⟩ := e
        exact Or.inr ⟨jj, aa, q, y1, y2, y3, y4, k05 k0⟩
      · refine Or.inl ⟨fun jj aa q y1 y2 y3 => ?_, k0⟩
        by_cases y : ab_zD Z (i + 1) 3 (w 1) z < ab_zD Z (jj + 1) 4 z 0
        · exact y
        · have := hne jj aa q y1 y2
          exact absurd ⟨jj, aa, q, y1, y2, y3, by omega⟩ e
    by_cases e7 : w 7 = 0
    · have eij := g0 e7
      have jd := ht.2.2.2.2.2.2.2.2.1
      obtain ⟨t', hb', _, ht', _⟩ := ab_wcI h (i + 1) (by omega) (w 1) z (by omega)
      have l1 := ab_bnl h hbq hb' gn
      have w1c : w 1 = c := by
        have := (ab_d1 ho hr.1).2.1
        rw [eij, ht.2.2.2.1] at this
        exact this
      have hjn : ab_zn Z i = ab_zn Z a + d z c := by rw [eij]; exact jd
      by_cases e : ∃ jj aa q, jj < N ∧ ab_tb Z d jj aa z q ∧ ab_zD Z (i + 1) 3 (w 1) z = ab_zD Z (jj + 1) 4 z 0
      · obtain ⟨jj, aa, q, y1, y2, y3⟩ := e
        have qu := hu q y2.2.1.2.2.1
        rw [qu] at y2
        have := (ax_H5 (i := i + 1) (p := w 1) hW hU haN ha h20 y1 y2 rfl (by omega) (by omega) hnr y3 hdu).1
        rw [w1c] at this y3
        refine Or.inr (Or.inl ⟨jj, aa, u, y1, y2, by rw [w1c] at gn; omega, by rw [w1c]; exact y3, ?_⟩)
        rw [w1c]
        omega
      · have := sort (w 7 + ab_zD Z (i + 1) 2 (w 1) z ≤ d z c + ax_sm (ax_C Z N a z (ab_zD Z (i + 1) 3 (w 1) z)) E 8) (w 7 + ab_zD Z (i + 1) 2 (w 1) z ≤ d z c + ax_sm (ax_C Z N a z (ab_zD Z (i + 1) 3 (w 1) z)) E 8 + 5) (by omega) (fun q => by omega) (fun jj aa q y1 y2 y3 => e ⟨jj, aa, q, y1, y2, y3⟩)
        rcases this with y | y
        · exact Or.inl y
        · exact Or.inr (Or.inr y)
    · obtain ⟨_, s1, x7, x3, m, hm, hfm⟩ := ax_prv hW hj ht hfw e7
      have hfm' := hfm
      obtain ⟨hmN, hom, hx3, hx, hbx, x4, x5⟩ := hfm'
      have hmn := ab_nowm h (show m ≤ i by omega) (by omega)
      have I := ih m hm _ hfm (by omega)
      obtain ⟨p2, pn, pz, pu, _⟩ := ab_tnr h hl hj ht m hmN _ hom hx3 hx hbx x4 x5
      obtain ⟨_, _, _, _, t1, t2, tu⟩ := ab_hrc h hi ki hx
      have e1 := (ab_d1 ho hr.1).2.1
      unfold ax_P2 at I
      generalize hp1 : ab_zX Z i 1 = p at *
      have ev : ab_zD Z (m + 1) 1 p z = w 1 := by rw [← p2, t2, e1]
      have p28 : ab_zD Z (m + 1) 1 p z ≠ 8 := by
        rw [← p2]
        have := (h.2.1 _ _ pu).2.2.1
        omega
      obtain ⟨_, _, _, _, _, _, _, hpp⟩ := ab_wcI h (m + 1) (by omega) p z (by omega)
      obtain ⟨_, r2, r3⟩ := hpp p28
      rw [ev] at r2 r3
      have hnm : ax_nr Z z (ab_zD Z (a + 1) 4 z 0) (m + 1) := fun b hb => hnr b (by omega)
      have hch := ax_ch2 h q2 (m + 1) (by omega) hnm p pz pn p28
      rw [ev] at hch
      have mono := ab_nrm (v := w 1) (c := z) h (show m + 1 ≤ i + 1 by omega) (by omega)
      have step : ab_zD Z (m + 1) 3 p z < ab_zD Z (i + 1) 3 (w 1) z ∨ (ab_zD Z (i + 1) 3 (w 1) z = ab_zD Z (m + 1) 3 p z ∧ ab_zD Z (i + 1) 2 (w 1) z < ab_zD Z (m + 1) 2 p z) := by
        rcases hch with s | s | ⟨s1, s2⟩
        · exact absurd s gz
        · exact Or.inl (by omega)
        · by_cases e : ab_zD Z (i + 1) 3 (w 1) z = ab_zD Z (m + 1) 3 (w 1) z
          · refine Or.inr ⟨by omega, ?_⟩
            have := ax_cst2 h q2 gz (show ab_zD Z (a + 1) 4 z 0 ≤ ab_zD Z (m + 1) 3 (w 1) z by omega) (i + 1) (by omega) (by omega) hnr e
            omega
          · exact Or.inl (by omega)
      -- the trail before p
      have trail : ∀ jj aa q, jj < N → ab_tb Z d jj aa z q → ab_zD Z (a + 1) 4 z 0 ≤ ab_zD Z (jj + 1) 4 z 0 → ab_zD Z (m + 1) 3 p z = ab_zD Z (jj + 1) 4 z 0 →
          ax_cn (ax_H Z N (ab_zD Z (jj + 1) 4 z 0) z (ab_zD Z (m + 1) 2 p z - 1)) + 1 ≤ ax_cn (ax_H Z N (ab_zD Z (jj + 1) 4 z 0) z (ab_zD Z (m + 1) 2 p z)) ∧ d z (w 1) ≤ ax_cn (ax_H Z N (ab_zD Z (jj + 1) 4 z 0) z (ab_zD Z (m + 1) 2 p z - 1)) := by
        intro jj aa q y1 y2 y3 y4
        obtain ⟨x1, x2, x3', _⟩ := ax_Hp (i := m + 1) (p := p) hW haN ha h20 y1 y2 rfl y3 (by omega) hnm y4
        have xx := x3' p28 (by rw [ev]; exact gz)
        rw [ev] at xx
        refine ⟨?_, ax_Hc hW haN ha h20 y1 y2 rfl y3 xx⟩
        have d2 := (ab_wcI h (m + 1) (by omega) p z (by omega))
        obtain ⟨_, _, _, _, d1, _⟩ := d2
        exact ax_sma (P := ax_H Z N (ab_zD Z (jj + 1) 4 z 0) z (ab_zD Z (m + 1) 2 p z - 1)) (Q := ax_H Z N (ab_zD Z (jj + 1) 4 z 0) z (ab_zD Z (m + 1) 2 p z)) (E := fun _ => 1) (k := p)
          (fun k ⟨b1, b8, b, b2, b3, b4, b5, b6, b7, b9⟩ => ⟨b1, b8, b, b2, b3, b4, b5, b6, b7, by omega⟩) (x2 _ (by omega)) x1 8 x1.2.1
      rcases step with s | ⟨sa, sb⟩
      · -- a newer number
        obtain ⟨b, hbm, s1, s2, s3, s4, s5, s6, s7, s8⟩ := ab_srcI h (i + 1) (by omega) (w 1) z (by omega)
        have m3 : ab_zX Z b 3 ≤ 1 := by rcases s3 with ⟨y, _⟩ | y <;> omega
        have mr : ab_rc Z (ab_zX Z b) := ⟨m3, Or.inl (by rw [s4]; omega)⟩
        rcases s3 with ⟨x30, xs⟩ | x31
        · obtain ⟨b', hb'm, hba, hb6, hb8, hbt'⟩ := ab_hask h (by omega) s1 x30 mr
          have hwk := ab_hatr h hl (by omega) s1 x30 mr
          rw [s4] at hba hb6 hb8 hwk
          rw [s2] at hwk
          obtain ⟨k', hk1, hk2⟩ := hE _ _ _ hba.2.2.1 hwk
          have hb'N : b' < N := by omega
          have qx := ab_qx h hL hb'N hba (show i + 1 ≤ N by omega) (by rw [← s5, hb6]) hk2
          have hnb : ab_zD Z (b' + 1) 4 z 0 = ab_zD Z (i + 1) 3 (w 1) z := by rw [← s5, hb6]
          have hab : a ≤ b' := by
            by_cases e : a ≤ b'
            · exact e
            · have := ab_ownm (c := z) h (show b' + 1 ≤ a by omega) (by omega)
              omega
          have g8 := (hl8 _ _ hba.2.2.1).2.2
          have hbt : ab_zn Z b' + 1 ≤ ab_zn Z i := by
            obtain ⟨t', hb', _, ht', hl1, _⟩ := ab_wcI h (i + 1) (by omega) (w 1) z (by omega)
            obtain ⟨z1, z2, z3⟩ := ab_qf h hb'N hba
            have bb : ab_bn Z N z (ab_zD Z (i + 1) 3 (w 1) z) (ab_zn Z b') := ⟨b', hb'N, rfl, by omega, by omega⟩
            have := ab_bnu h hb' bb
            omega
          have A := ax_sma (P := ax_C Z N a z (ab_zD Z (m + 1) 3 p z)) (Q := ax_C Z N a z (ab_zD Z (i + 1) 3 (w 1) z)) (E := E) (k := ab_zX Z b 5)
            (fun k ⟨b0, c1, c2, c3, c4⟩ => ⟨b0, c1, c2, c3, by omega⟩)
            (by
              intro ⟨b0, c1, c2, c3, c4⟩
              have lt : b0 < b' := by
                by_cases e : b0 < b'
                · exact e
                · have := ab_ownm (c := z) h (show b' + 1 ≤ b0 + 1 by omega) (by omega)
                  omega
              have := ab_sp h lt hb'N c3 hba
              have := ab_nowm h c1 (by omega)
              omega)
            ⟨b', hab, hb'N, hba, by omega⟩ 8 g8
          have nq : ∀ jj aa q, jj < N → ab_tb Z d jj aa z q → ab_zD Z (i + 1) 3 (w 1) z ≠ ab_zD Z (jj + 1) 4 z 0 := fun jj aa q y1 y2 => by
            have := ax_tq h hb'N hba y1 y2
            omega
          rcases I with ⟨_, I⟩ | ⟨jj, aa, q, y1, y2, y3, y4, I⟩ | ⟨jj, aa, q, y1, y2, y3, y4, I⟩
          · have := sort (w 7 + ab_zD Z (i + 1) 2 (w 1) z ≤ d z c + ax_sm (ax_C Z N a z (ab_zD Z (i + 1) 3 (w 1) z)) E 8) (w 7 + ab_zD Z (i + 1) 2 (w 1) z ≤ d z c + ax_sm (ax_C Z N a z (ab_zD Z (i + 1) 3 (w 1) z)) E 8 + 5) (by omega) (fun q => by omega) nq
            rcases this with y | y
            · exact Or.inl y
            · exact Or.inr (Or.inr y)
          · obtain ⟨tr1, tr2⟩ := trail jj aa q y1 y2 y3 y4
            exact Or.inr (Or.inr ⟨jj, aa, q, y1, y2, y3, by omega, by omega⟩)
          · exact Or.inr (Or.inr ⟨jj, aa, q, y1, y2, y3, by omega, by omega⟩)
        · obtain ⟨j', a', z', r', c1, c2, c3, c4, c5, c6, c7, c8, c9, c10, c11, c12⟩ := ax_hT1 hW (show b < N by omega) s1 s4 x31 q2 hbq (by omega) (by omega)
          have zu := hu z' c2.2.1.2.2.1
          rw [zu] at c2
          have en : ab_zD Z (i + 1) 3 (w 1) z = ab_zD Z (j' + 1) 4 z 0 := by omega
          rcases I with ⟨_, I⟩ | ⟨jj, aa, q, y1, y2, y3, y4, I⟩ | ⟨jj, aa, q, y1, y2, y3, y4, I⟩
          · have h5 := (ax_H5 (i := i + 1) (p := w 1) hW hU haN ha h20 c1 c2 rfl (by omega) (by omega) hnr en hdu).1
            have A := ax_smm (P := ax_C Z N a z (ab_zD Z (m + 1) 3 p z)) (Q := ax_C Z N a z (ab_zD Z (i + 1) 3 (w 1) z)) (E := E) (fun k ⟨b0, c1, c2, c3, c4⟩ => ⟨b0, c1, c2, c3, by omega⟩) 8
            exact Or.inr (Or.inl ⟨j', a', u, c1, c2, by omega, en, by omega⟩)
          · exact (two jj aa q j' a' u (i + 1) (w 1) y1 c1 y2 c2 y3 (by omega) (by omega) (by omega) (by omega)).elim
          · exact (two jj aa q j' a' u (i + 1) (w 1) y1 c1 y2 c2 y3 (by omega) (by omega) (by omega) (by omega)).elim
      · unfold ax_P2
        rw [sa]
        rcases I with ⟨I1, I⟩ | ⟨jj, aa, q, y1, y2, y3, y4, I⟩ | ⟨jj, aa, q, y1, y2, y3, y4, I⟩
        · exact Or.inl ⟨I1, by omega⟩
        · obtain ⟨tr1, tr2⟩ := trail jj aa q y1 y2 y3 y4
          have := ax_smm (P := ax_H Z N (ab_zD Z (jj + 1) 4 z 0) z (ab_zD Z (i + 1) 2 (w 1) z)) (Q := ax_H Z N (ab_zD Z (jj + 1) 4 z 0) z (ab_zD Z (m + 1) 2 p z - 1)) (E := fun _ => 1) (fun k ⟨b1, b8, b, b2, b3, b4, b5, b6, b7, b9⟩ => ⟨b1, b8, b, b2, b3, b4, b5, b6, b7, by omega⟩) 8
          refine Or.inr (Or.inl ⟨jj, aa, q, y1, y2, y3, y4, ?_⟩)
          simp only [ax_cn] at *
          omega
        · exact Or.inr (Or.inr ⟨jj, aa, q, y1, y2, y3, y4, by omega⟩)
