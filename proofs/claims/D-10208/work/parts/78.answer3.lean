/-! ## the answer over distance 2 in general surroundings -/
/-- with straight ways to x for some moments all is over at once -/
theorem ax_g2E {Z : ab_Z} {d : Nat → Nat → Nat} {N a x y w nb t0 Ex : Nat} (hW : ax_W Z d N) (h0 : ab_t0 Z N) (hnp : ab_np Z N) (hd : d x y = 2) (haN : a < N) (ha : ab_ask Z a x y) (ht : ab_zn Z 0 + 24 ≤ ab_zn Z a) (hN : ab_zn Z a + 22 ≤ ab_zn Z N)
    (hx : ∀ q, ab_zl Z q x → q = w) (hg : ∀ g, ab_zl Z x g → 2 ≤ d x g) (hwd : 3 ≤ d x w) (hwy : w ≠ y)
    (hy : ∀ q, ¬ ab_zl Z y q) (hz : ∀ q, ab_zl Z q y → q = x ∨ q = w) (hb0 : ab_zD Z 0 4 y 0 < nb) (hbn : ab_bn Z N y nb t0) (ht0 : ab_zn Z 0 + 28 ≤ t0) (hrx : nb ≤ ab_zD Z a 3 x y)
    (hNE : ∀ j az i f, j < N → ab_tb Z d j az y w → ab_zn Z 0 + 20 ≤ ab_zn Z az → ax_fr Z N j y w i f → f 2 ≠ x)
    (hEx : ax_E Z d N x 2 (ab_zD Z (a + 1) 4 x 0) Ex) (hEx2 : ab_zn Z a + 9 ≤ Ex) : False := by
  have hs : ∀ z, ab_zl Z z x → 2 ≤ d x z := fun z hz => by rw [hx z hz]; omega
  obtain ⟨j, m, o1, o2, o3, o4, o5, o6, o7, o8, o9, o10, o11, o12, o13, o14⟩ := ax_qt5 hW h0 hEx hs hd (by omega) haN ha (by omega) (by omega)
  have hj : j < N := by omega
  have gr := ax_tgrow hW.1 o12 hj
  have y0 := ab_ownm (c := y) hW.1 (Nat.zero_le j) (by omega)
  -- the frame that x hears is one of T
  obtain ⟨j', a', z', r', c1, c2, c3, c4, c5, c6, c7, c8, c9, c10, c11, c12⟩ := ax_hT1 (nb := ab_zX Z m 6) (t0 := ab_zn Z j) hW o3 o6 o9 o8 (by omega) ⟨j, hj, rfl, by omega, by omega⟩ (by omega) (Nat.le_refl _)
  have ej := ab_bone hW.1 c1 hj c12 c11 o13 o14
  have ez : z' = x := by
    have := c4.2.2.2.2.2.2
    rw [o11] at this
    exact this.symm
  rw [ej, ez] at c4
  obtain ⟨p, p1, p2, p3, p4, p5, p6, p7, p8, p9, p10, p11, _⟩ := ax_g2P (rho := 2) hW h0 hd haN ha ht hN hx hg hwd hwy hy hz hb0 hbn ht0 hrx hNE hj o12 o3 (by omega) o6 o7 c4 (by omega) (by omega) (by omega) o5
  obtain ⟨b, _, _, b3, _⟩ := ax_ans hW hnp hEx hs hd haN ha o5 p11 p2 p3 p4 p5 p6 p7 p8 (by omega) (by omega) p1
  exact hy _ b3.2.2.2.2
/-- AN ATTEMPT over distance 2: without progress another goal at distance 2 is asked soon -/
theorem ax_g2A {Z : ab_Z} {d : Nat → Nat → Nat} {N a x y w nb t0 : Nat} (hW : ax_W Z d N) (h0 : ab_t0 Z N) (hU : ax_U Z N) (hnp : ab_np Z N) (hd : d x y = 2) (haN : a < N) (ha : ab_ask Z a x y) (ht : ab_zn Z 0 + 24 ≤ ab_zn Z a) (hN : ab_zn Z a + 22 ≤ ab_zn Z N)
    (hx : ∀ q, ab_zl Z q x → q = w) (hg : ∀ g, ab_zl Z x g → 2 ≤ d x g) (hwd : 4 ≤ d x w) (hwy : w ≠ y)
    (hy : ∀ q, ¬ ab_zl Z y q) (hz : ∀ q, ab_zl Z q y → q = x ∨ q = w) (hb0 : ab_zD Z 0 4 y 0 < nb) (hbn : ab_bn Z N y nb t0) (ht0 : ab_zn Z 0 + 28 ≤ t0) (hrx : nb ≤ ab_zD Z a 3 x y)
    (hNE : ∀ j az i f, j < N → ab_tb Z d j az y w → ab_zn Z 0 + 20 ≤ ab_zn Z az → ax_fr Z N j y w i f → f 2 ≠ x) :
    (∃ b g, b < N ∧ ab_ask Z b x g ∧ d x g = 2 ∧ ab_zn Z a < ab_zn Z b ∧ ab_zn Z b ≤ ab_zn Z a + 12) ∧ ∃ k, a < k ∧ k < N ∧ ab_go Z k x y ∧ ab_zn Z a + 4 ≤ ab_zn Z k ∧ ab_zn Z k ≤ ab_zn Z a + 5 := by
  have hW' := hW
  obtain ⟨h, hL, hG, hl8, hq⟩ := hW'
  have hl : ∀ a b, ab_zl Z a b → a ≠ b := fun a b z => (hl8 a b z).1
  obtain ⟨hxy, x8, y8⟩ := hl8 _ _ ha.2.2.1
  obtain ⟨q1, q2, q3⟩ := ab_qf h haN ha
  have hbq : ab_bn Z N x (ab_zD Z (a + 1) 4 x 0) (ab_zn Z a) := ⟨a, haN, rfl, by omega, Nat.le_refl _⟩
  have hwx : w ≠ x := fun e => by rw [e, hG.1] at hwd; omega
  have sy := hG.2.2.1 w x
  by_cases hV : ∃ v, v < N ∧ ab_zn Z v ≤ ab_zn Z a + 21 ∧ ab_vv Z v w x ∧ ab_zD Z (a + 1) 4 x 0 ≤ ab_zD Z v 3 w x
  · -- V(w,x): no TELL of x for some moments
    exfalso
    obtain ⟨v, vN, vt, vv, vn⟩ := hV
    have va := ab_vask h hL h0 vN vv
    obtain ⟨t', hb', w1, w2, _⟩ := ab_wcI h v (by omega) w x (by omega)
    have lb := ab_bnl h hbq hb' vn
    refine ax_g2E (Ex := ab_zn Z a + 9) hW h0 hnp hd haN ha ht hN hx hg (by omega) hwy hy hz hb0 hbn ht0 hrx hNE (ax_q hW q2 hg (fun j z a' hj hn hE htb => ?_) (fun m t hm hbm => ?_)) (Nat.le_refl _)
    · have zw := hx z htb.2.1.2.2.1
      rw [zw] at htb
      have gr := ax_tgrow h htb hj
      have jd := htb.2.2.2.2.2.2.2.2.1
      have ne := ax_tq h haN ha hj htb
      have a'j := htb.1
      have haj : ab_zn Z a ≤ ab_zn Z j := ab_bnl h hbq ⟨j, hj, rfl, by omega, Nat.le_refl _⟩ hn
      rcases Nat.lt_trichotomy a' v with q | q | q
      · have := ab_vsp h hL h0 q vN vv htb.2.1
        have d7 := htb.2.2.2.2.2.2.2.2.2.1
        omega
      · rw [q] at jd
        omega
      · have := ab_sp h q (by omega) va htb.2.1
        omega
    · have := ab_bnl h hbq hbm hm
      omega
  · have nvx : ∀ jj q, jj < N → ab_zn Z jj ≤ ab_zn Z a + 21 → ab_vv Z jj q x → ab_zD Z jj 3 q x < ab_zD Z (a + 1) 4 x 0 := by
      intro jj q h1 h2 h3
      by_cases e : ab_zD Z jj 3 q x < ab_zD Z (a + 1) 4 x 0
      · exact e
      · exfalso
        have qw := hx q h3.2.2.2.2
        rw [qw] at h3 e
        exact hV ⟨jj, h1, h2, h3, by omega⟩
    have nv : ∀ i, i ≤ N → ab_zn Z i ≤ ab_zn Z a + 21 → ax_nv Z x (ab_zD Z (a + 1) 4 x 0) i := by
      intro i hi hti jj q hjj hv
      have := ab_nowm h (show jj ≤ i by omega) hi
      exact nvx jj q (by omega) (by omega) hv
    obtain ⟨j, m, i, hj, htb, mN, am, mk, ms, mf, mt1, mt2, hny⟩ := ax_g2G hW h0 hd haN ha (by omega) (by omega) hx hg (fun jj q h1 h2 h3 => nvx jj q h1 (by omega) h3)
    have jd := htb.2.2.2.2.2.2.2.2.1
    rw [hd] at jd
    obtain ⟨p, hap, hpN, p3, p4, p5, p6, p7, p8, p9, p10, hjp, hgo⟩ := ax_g2P (rho := ab_zn Z m - ab_zn Z j) hW h0 hd haN ha ht hN hx hg (by omega) hwy hy hz hb0 hbn ht0 hrx hNE hj htb mN am mk ms mf (by omega) (by omega) (by omega) hny
    refine ⟨?_, hgo⟩
    have hac := hnp.1 p hpN p3 p5 (by rw [p7, p4])
    rw [p6, p8, p4] at hac
    have hac2 : ab_za Z x y = ab_zc Z x y + 1 := by
      rcases hnp.2.2 x y ha.2.2.1 with z | z
      · exact absurd z.symm hac
      · exact z
    have news : ∀ f, f < N → ab_zK Z f = 1 → ab_zs Z f = x → ab_zX Z f 3 = 4 → ab_zX Z f 4 = y → ab_zX Z f 5 = x → ab_zX Z f 6 = ab_za Z x y → False := by
      intro f f2 f3 f4 f5 f6 f7 f8
      have := hnp.2.1 f f2 f3 f5 (by rw [f7, f4])
      rw [f4, f6, f8] at this
      exact this hac2
    have pt : ab_zn Z p ≤ ab_zn Z a + 12 := by omega
    have hnyp : ab_zD Z (a + 1) 4 x 0 ≤ ab_zD Z p 3 y x := Nat.le_trans hny (ab_nrm h (by omega) (by omega))
    have h8p : ab_zD Z p 1 y x ≠ 8 := ax_pres h q2 p (by omega) (nv p (by omega) (by omega)) y (fun e => hxy e.symm) hnyp
    have send0 : ab_zO Z p (ab_pt (ab_zn Z p) y (ab_zD Z p 1 y x) (ab_fr 4 y x (ab_za Z x y) 0 8)) := by
      obtain ⟨_, _, _, _, _, _, _, hpp⟩ := ab_wcI h p (by omega) y x (by omega)
      have v1 := (hpp h8p).1
      unfold ab_zO ab_zY
      rw [p3, ab_do1, p4]
      have := ab_ano (u := ab_zu Z) (ac := ab_za Z) (s := y) (p := ab_zp Z p) (x := ab_zX Z p) (D := ab_zD Z p) p5 p7 (by rw [p6]; exact h8p) (by rw [p6]; exact v1)
      rw [p6] at this
      exact this
    -- a trail of x that w is not on
    have six : ∀ i v jj aw, i ≤ N → ab_zn Z i ≤ ab_zn Z a + 21 → v ≠ x → v ≠ w → jj < N → ab_tb Z d jj aw x w → ab_zD Z (a + 1) 4 x 0 ≤ ab_zD Z (jj + 1) 4 x 0 → ab_zD Z i 3 v x = ab_zD Z (jj + 1) 4 x 0 → ax_cn (ax_H Z N (ab_zD Z (jj + 1) 4 x 0) x (ab_zD Z i 2 v x)) ≤ 6 := by
      intro i v jj aw hi hti hvx hvw c1 c2 hjn hpn
      obtain ⟨_, w8, _⟩ := hl8 _ _ c2.2.1.2.2.1
      obtain ⟨t1, t2, t3, tb, tr, u1, u2, u3, u4, u5⟩ := ax_Hp (i := i) (p := v) hW haN ha (by omega) c1 c2 rfl hjn (by omega) (ax_nrI hW h0 hx haN ha (by omega) i hi (by omega)) hpn
      have nw : ¬ ax_H Z N (ab_zD Z (jj + 1) 4 x 0) x (ab_zD Z i 2 v x) w := by
        intro ⟨_, _, q, y1, y2, y3, y4, y5, y6, y7⟩
        obtain ⟨r1, hr1, hf1, _, _, _, _⟩ := ax_Hf hW haN ha (by omega) c1 c2 hjn y1 y2 y4 y5 y6
        have en := ax_end hW hU c1 c2 y1 y2 y3 hf1 tr _ u4
        obtain ⟨_, ee⟩ := ax_uq hW hU c1 c2 (ab_zX Z q 7) tr r1 _ _ u4 hf1 (by omega) rfl
        have := hU tb q (by omega) y1 u2 y2 u4.2.2.1 (ax_frn u4) ee
        rw [this, y3] at u3
        exact hvw u3.symm
      have a1 := ax_add (P := fun v => v = x) (Q := ax_H Z N (ab_zD Z (jj + 1) 4 x 0) x (ab_zD Z i 2 v x)) (fun v p q => q.1 p) 8
      have a2 := ax_add (P := fun v => v = w) (Q := fun u => u = x ∨ ax_H Z N (ab_zD Z (jj + 1) 4 x 0) x (ab_zD Z i 2 v x) u) (fun v p q => by
        rcases q with q | q
        · exact hwx (by rw [← p, q])
        · rw [p] at q; exact nw q) 8
      have k1 : 1 ≤ ax_cn (fun v => v = x) := ax_cn1 x8 rfl
      have k2 : 1 ≤ ax_cn (fun v => v = w) := ax_cn1 w8 rfl
      have l8 := ax_le (P := fun u => u = w ∨ (u = x ∨ ax_H Z N (ab_zD Z (jj + 1) 4 x 0) x (ab_zD Z i 2 v x) u)) 8
      simp only [ax_cn] at *
      omega
    have src : ∀ i v, i ≤ N → ab_zD Z (a + 1) 4 x 0 ≤ ab_zD Z i 3 v x → (d x v ≤ 2 → ab_zD Z i 2 v x ≤ d x v) ∨ ∃ jm am, jm < N ∧ ab_tb Z d jm am x w ∧ ab_zD Z i 3 v x = ab_zD Z (jm + 1) 4 x 0 := by
      intro i v hi hn
      obtain ⟨b, hbi, s1, s2, s3, s4, s5, s6, s7, s8⟩ := ab_srcI h i hi v x (by omega)
      have mrb : ab_rc Z (ab_zX Z b) := ⟨by rcases s3 with ⟨y, _⟩ | y <;> omega, Or.inl (by rw [s4]; omega)⟩
      rcases s3 with ⟨x30, _⟩ | x31
      · obtain ⟨b', hb'm, hba, hb6, hb8, hbt'⟩ := ab_hask h (by omega) s1 x30 mrb
        rw [s4] at hba hb6
        exact Or.inl (fun dv => ab_qx h hL (show b' < N by omega) hba hi (by rw [← s5, hb6]) (ab_gdb hG _ x (d x v) v rfl (by omega) (by have := hg _ hba.2.2.1; omega)))
      · obtain ⟨jm, am, w', r', c1, c2, c3, c4, c5, c6, c7, c8, c9, c10, c11, c12⟩ := ax_hT1 hW (show b < N by omega) s1 s4 x31 q2 hbq (by omega) (by omega)
        have ww := hx w' c2.2.1.2.2.1
        rw [ww] at c2
        exact Or.inr ⟨jm, am, c1, c2, by omega⟩
    rcases src p y (by omega) hnyp with z | ⟨jj, aw, c1, c2, c3⟩
    · -- by a question: two links, unless a TELL has come to the station between
      have z2 := z (by omega)
      obtain ⟨_, _, _, _, _, _, _, hpp⟩ := ab_wcI h p (by omega) y x (by omega)
      obtain ⟨v1, v2, v3⟩ := hpp h8p
      have li := hG.2.1 x _ y (h.2.1 _ _ v1).1
      rw [hd] at li
      obtain ⟨m1, hm1, hmN, k1, kx, kn1, ks1, kp1⟩ := hL.1 p _ hpN send0 (by show ab_zn Z p + 2 ≤ _; omega)
      have kn' : ab_zn Z m1 = ab_zn Z p + 1 := kn1
      have ks' : ab_zs Z m1 = ab_zD Z p 1 y x := ks1
      generalize hv' : ab_zD Z p 1 y x = v' at *
      have hc : v' ≠ x := fun e => by rw [e, hG.1] at li; omega
      have num' : ab_zD Z (a + 1) 4 x 0 ≤ ab_zD Z m1 3 v' x := by
        rcases v3 with z | z
        · exact absurd z hc
        · exact Nat.le_trans hnyp (Nat.le_trans z (ab_nrm h (by omega) (by omega)))
      have h82 : ab_zD Z m1 1 v' x ≠ 8 := ax_pres h q2 m1 (by omega) (nv m1 (by omega) (by omega)) v' hc num'
      obtain ⟨_, _, _, _, _, _, _, hpn2⟩ := ab_wcI h m1 (by omega) v' x (by omega)
      obtain ⟨b1, b2, _⟩ := hpn2 h82
      have ho2 : ab_zO Z m1 (ab_pt (ab_zn Z m1) v' (ab_zD Z m1 1 v' x) (ab_fr 4 y x (ab_za Z x y) 0 (8 - 1))) := by
        unfold ab_zO ab_zY
        rw [k1, ab_do1, ks', kx]
        exact ab_cyo (x := ab_pt (ab_zn Z p) y v' (ab_fr 4 y x (ab_za Z x y) 0 8)) (s := v') (show 3 ≤ 4 by omega) (fun z => hc z.symm) (show 1 < 8 by omega) h82 b1
      rcases src m1 v' (by omega) num' with y1 | ⟨jj, aw, c1, c2, c3⟩
      · exfalso
        have y2 := y1 (by omega)
        have dx : ab_zD Z m1 1 v' x = x := (hG.2.2.2.1 x _ (by omega)).symm
        rw [dx] at ho2
        obtain ⟨f, fk, fN, f1, fx, fn, fs, fp⟩ := hL.1 m1 _ hmN ho2 (by show ab_zn Z m1 + 2 ≤ _; omega)
        exact news f fN f1 fs (by rw [fx]; rfl) (by rw [fx]; rfl) (by rw [fx]; rfl) (by rw [fx]; rfl)
      · by_cases hpy : ab_zD Z p 3 y x ≤ ab_zD Z (jj + 1) 4 x 0
        · have hjn : ab_zD Z (a + 1) 4 x 0 ≤ ab_zD Z (jj + 1) 4 x 0 := by omega
          have vw : v' ≠ w := fun e => by rw [e] at v2; omega
          have hs := six m1 v' jj aw (by omega) (by omega) hc vw c1 c2 hjn c3
          rcases ax_AR (B := 7) (p := p) (k := 4) (nn := ab_za Z x y) (l := 0) hW h0 hx hg hd (by omega) haN ha (by omega) c1 c2 hjn hpN (by omega) hpy (by omega) (by omega) (by omega) (by omega) 6 1 m1 v' (by omega) hmN hc (by omega) (by omega) (Or.inr ⟨by omega, by omega⟩) (fun _ => by omega) (fun z => by omega) ho2 with ⟨f, f1, f2, f3, f4, f5, f6, f7, f8, f9⟩ | ⟨b, g, g1, g2, g3, g4, g5⟩
          · exact absurd (news f f2 f3 f4 f5 f6 f7 f8) (fun z => z)
          · exact ⟨b, g, g1, g2, g3, by omega, by omega⟩
        · exfalso
          rcases v3 with z | z
          · exact hc z
          · have := ab_nrm (v := v') (c := x) h (show p ≤ m1 by omega) (by omega)
            omega
    · have hjn : ab_zD Z (a + 1) 4 x 0 ≤ ab_zD Z (jj + 1) 4 x 0 := by omega
      have hs := six p y jj aw (by omega) (by omega) (fun e => hxy e.symm) (fun e => hwy e.symm) c1 c2 hjn c3
      rcases ax_AR (B := 6) (p := p) (k := 4) (nn := ab_za Z x y) (l := 0) hW h0 hx hg hd (by omega) haN ha (by omega) c1 c2 hjn hpN (by omega) (by omega) (by omega) (by omega) (by omega) (by omega) 6 0 p y (by omega) hpN (fun e => hxy e.symm) (by omega) (by omega) (Or.inl (by omega)) (fun _ => by omega) (fun z => by omega) send0 with ⟨f, f1, f2, f3, f4, f5, f6, f7, f8, f9⟩ | ⟨b, g, g1, g2, g3, g4, g5⟩
      · exact absurd (news f f2 f3 f4 f5 f6 f7 f8) (fun z => z)
      · exact ⟨b, g, g1, g2, g3, by omega, by omega⟩
