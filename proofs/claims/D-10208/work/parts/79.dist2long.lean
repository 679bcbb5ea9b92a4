/-! ## distance 2 in general surroundings: long runs -/
/-- T always comes to x within five moments -/
theorem ax_g2N {Z : ab_Z} {d : Nat → Nat → Nat} {N a x y w : Nat} (hW : ax_W Z d N) (h0 : ab_t0 Z N) (hd : d x y = 2) (haN : a < N) (ha : ab_ask Z a x y) (ht : ab_zn Z 0 + 20 ≤ ab_zn Z a) (hN : ab_zn Z a + 9 ≤ ab_zn Z N)
    (hx : ∀ q, ab_zl Z q x → q = w) (hg : ∀ g, ab_zl Z x g → 2 ≤ d x g) (hwd : 3 ≤ d x w) :
    ∃ j m, j < N ∧ ab_zn Z j = ab_zn Z a + 2 ∧ m < N ∧ ab_zn Z m ≤ ab_zn Z a + 5 ∧ ab_zD Z j 4 y 0 + 1 = ab_zD Z (j + 1) 4 y 0 ∧ ab_zD Z (j + 1) 4 y 0 ≤ ab_zD Z (m + 1) 3 x y := by
  have hW' := hW
  obtain ⟨h, hL, hG, hl8, hq⟩ := hW'
  obtain ⟨hxy, x8, y8⟩ := hl8 _ _ ha.2.2.1
  obtain ⟨q1, q2, q3⟩ := ab_qf h haN ha
  have hbq : ab_bn Z N x (ab_zD Z (a + 1) 4 x 0) (ab_zn Z a) := ⟨a, haN, rfl, by omega, Nat.le_refl _⟩
  have sy := hG.2.2.1 w x
  have hear : ∀ m, m < N → ab_zK Z m = 1 → ab_zs Z m = x → ab_zX Z m 3 = 1 → ab_zX Z m 4 = y → ab_zX Z m 6 ≤ ab_zD Z (m + 1) 3 x y := by
    intro m mN mk ms m3 m4
    have := ab_hnr (u := ab_zu Z) (ac := ab_za Z) (s := x) (p := ab_zp Z m) (x := ab_zX Z m) (D := ab_zD Z m) (Or.inr m3) (by rw [m4]; exact hxy)
    rw [m4] at this
    rw [h.1 m mN]
    unfold ab_zY
    rw [mk, ab_do1, ms]
    exact this
  by_cases hV : ∃ v, v < N ∧ ab_zn Z v ≤ ab_zn Z a + 7 ∧ ab_vv Z v w x ∧ ab_zD Z (a + 1) 4 x 0 ≤ ab_zD Z v 3 w x
  · obtain ⟨v, vN, vt, vv, vn⟩ := hV
    have va := ab_vask h hL h0 vN vv
    obtain ⟨t', hb', w1, w2, _⟩ := ab_wcI h v (by omega) w x (by omega)
    have lb := ab_bnl h hbq hb' vn
    have hEx : ax_E Z d N x 2 (ab_zD Z (a + 1) 4 x 0) (ab_zn Z a + 7) := by
      refine ax_q hW q2 hg (fun j z a' hj hn hE htb => ?_) (fun m t hm hbm => ?_)
      · have zw := hx z htb.2.1.2.2.1
        rw [zw] at htb
        have gr := ax_tgrow h htb hj
        have jd := htb.2.2.2.2.2.2.2.2.1
        have a'j := htb.1
        have haj : ab_zn Z a ≤ ab_zn Z j := ab_bnl h hbq ⟨j, hj, rfl, by omega, Nat.le_refl _⟩ hn
        rcases Nat.lt_trichotomy a' v with q | q | q
        · have := ab_vsp h hL h0 q vN vv htb.2.1
          have d7 := htb.2.2.2.2.2.2.2.2.2.1
          omega
        · rw [q] at jd
          omega
        · have := ab_sp h q (by omega) va htb.2.1
          omega
      · have := ab_bnl h hbq hbm hm
        omega
    obtain ⟨j, m, o1, o2, o3, o4, o5, o6, o7, o8, o9, o10, o11, o12, o13, o14⟩ := ax_qt5 hW h0 hEx (fun z hz => by rw [hx z hz]; omega) hd (by omega) haN ha (by omega) (by omega)
    have := hear m o3 o6 o7 o8 o9
    exact ⟨j, m, by omega, o4, o3, by omega, by omega, by omega⟩
  · obtain ⟨j, m, i, hj, htb, mN, am, mk, ms, mf, mt1, mt2, hny⟩ := ax_g2G hW h0 hd haN ha ht (by omega) hx hg (fun jj q h1 h2 h3 => by
      by_cases e : ab_zD Z jj 3 q x < ab_zD Z (a + 1) 4 x 0
      · exact e
      · exfalso
        have qw := hx q h3.2.2.2.2
        rw [qw] at h3 e
        exact hV ⟨jj, h1, h2, h3, by omega⟩)
    have jd := htb.2.2.2.2.2.2.2.2.1
    rw [hd] at jd
    have gr := ax_tgrow h htb hj
    obtain ⟨_, f6⟩ := ax_frt hW htb mf
    have := hear m mN mk ms mf.2.2.1 mf.2.2.2.2.2.1
    exact ⟨j, m, hj, jd, mN, mt2, by omega, by omega⟩
/-- one attempt in a long run -/
theorem ax_g2S {Z : ab_Z} {d : Nat → Nat → Nat} {N a x y w lm : Nat} (hR : ax_LR lm Z d N) (hd : d x y = 2) (haN : a < N) (ha : ab_ask Z a x y) (ht : ab_zn Z 0 + 104 ≤ ab_zn Z a) (hN : ab_zn Z a + 22 < ab_zn Z N)
    (hx : ∀ q, ab_zl Z q x → q = w) (hw : ∀ q, ab_zl Z q w → q = x) (hg : ∀ g, ab_zl Z x g → 2 ≤ d x g) (hgw : ∀ g, ab_zl Z w g → 2 ≤ d w g) (hwd : 3 ≤ d x w) (hwy : w ≠ y)
    (hy : ∀ q, ¬ ab_zl Z y q) (hz : ∀ q, ab_zl Z q y → q = x ∨ q = w) (hwy3 : ab_zl Z w y → d w y ≤ 3) :
    (∃ b g, b < N ∧ ab_ask Z b x g ∧ d x g = 2 ∧ ab_zn Z a < ab_zn Z b ∧ ab_zn Z b ≤ ab_zn Z a + 12) ∧ (∃ k, a < k ∧ k < N ∧ ab_go Z k x y ∧ ab_zn Z a + 4 ≤ ab_zn Z k ∧ ab_zn Z k ≤ ab_zn Z a + 5) := by
  have hR' := hR
  obtain ⟨h, hL, hG, hl8, h0, hU, hnp⟩ := hR'
  have sy := hG.2.2.1 w x
  obtain ⟨ap, apN, hap, hp1, hp2⟩ := ab_askx (t := ab_zn Z a - 78) h hL h0 ha.2.2.1 (by omega) (by omega)
  have hapa : ap < a := by
    by_cases e : ap < a
    · exact e
    · have := ab_nowm h (show a ≤ ap by omega) (by omega)
      omega
  have hsp := ab_sp h hapa haN hap ha
  obtain ⟨k0, e, k1, k2, k3, k4, k5, hW, h0', hU', hnp'⟩ := ax_wn 104 22 hR haN (by omega) (by omega) (by omega) (by omega) (by omega)
  have kap : k0 < ap := by
    by_cases q : k0 < ap
    · exact q
    · have := ab_nowm h (show ap ≤ k0 by omega) (by omega)
      omega
  have n0 : ab_zn (ab_sh Z k0) 0 = ab_zn Z k0 := by rw [← ax_shn (Nat.le_refl k0), Nat.sub_self]
  have na : ab_zn (ab_sh Z k0) (a - k0) = ab_zn Z a := ax_shn (by omega)
  have nap : ab_zn (ab_sh Z k0) (ap - k0) = ab_zn Z ap := ax_shn (by omega)
  have nN : ab_zn (ab_sh Z k0) (e - k0) = ab_zn Z e := ax_shn (by omega)
  have ha' := ab_sha (k := k0) (show k0 ≤ a by omega) ha
  have hap' := ab_sha (k := k0) (show k0 ≤ ap by omega) hap
  obtain ⟨j, m, g1, g2, g3, g4, g5, g6⟩ := ax_g2N (N := e - k0) hW h0' hd (show ap - k0 < e - k0 by omega) hap' (by omega) (by omega) hx hg hwd
  have y00 := ab_ownm (c := y) hW.1 (Nat.zero_le j) (by omega)
  have hma : m < a - k0 := by
    by_cases q : m < a - k0
    · exact q
    · have := ab_nowm hW.1 (show a - k0 ≤ m by omega) (by omega)
      omega
  have hrx := Nat.le_trans g6 (ab_nrm (v := x) (c := y) hW.1 (show m + 1 ≤ a - k0 by omega) (by omega))
  have hbn : ab_bn (ab_sh Z k0) (e - k0) y (ab_zD (ab_sh Z k0) (j + 1) 4 y 0) (ab_zn (ab_sh Z k0) j) := ⟨j, g1, rfl, by omega, Nat.le_refl _⟩
  have hNE : ∀ j az i f, j < e - k0 → ab_tb (ab_sh Z k0) d j az y w → ab_zn (ab_sh Z k0) 0 + 20 ≤ ab_zn (ab_sh Z k0) az → ax_fr (ab_sh Z k0) (e - k0) j y w i f → f 2 ≠ x := by
    intro j az i f c1 c2 c3 c4 c5
    have := (ax_ne3 hW h0' hU' hw (by omega) hgw c1 c2 c3 (hwy3 c2.2.1.2.2.1) _ i f c4 rfl).1
    rw [c5] at this
    omega
  by_cases d4 : 4 ≤ d x w ∧ ab_zl Z w x
  · obtain ⟨⟨b, g, b1, b2, b3, b4, b5⟩, kk, d1, d2, d3, d5, d6⟩ := ax_g2A hW h0' hU' hnp' hd (show a - k0 < e - k0 by omega) ha' (by omega) (by omega) hx hg d4.1 hwy hy hz (by omega) hbn (by omega) hrx hNE
    refine ⟨⟨k0 + b, g, by omega, b2, b3, ?_, ?_⟩, ⟨k0 + kk, by omega, by omega, d3, ?_, ?_⟩⟩
    · show ab_zn Z a < ab_zn (ab_sh Z k0) b
      omega
    · show ab_zn (ab_sh Z k0) b ≤ _
      omega
    · show _ ≤ ab_zn (ab_sh Z k0) kk
      omega
    · show ab_zn (ab_sh Z k0) kk ≤ _
      omega
  · exfalso
    obtain ⟨q1, q2, q3⟩ := ab_qf hW.1 (show a - k0 < e - k0 by omega) ha'
    have hEx : ax_E (ab_sh Z k0) d (e - k0) x 2 (ab_zD (ab_sh Z k0) (a - k0 + 1) 4 x 0) (ab_zn (ab_sh Z k0) (e - k0)) := by
      by_cases wl : ab_zl Z w x
      · have dw : d x w ≤ 3 := by
          by_cases q : d x w ≤ 3
          · exact q
          · exact absurd ⟨by omega, wl⟩ d4
        refine ax_cE (w := w) (t := ab_zn Z a) hW hx hw (fun _ g hg' => ?_) (fun _ _ g hg' => ?_) hg q2 ⟨a - k0, by omega, by omega, by omega, Nat.le_refl _⟩ (by omega)
        · have := hgw g hg'
          omega
        · have := hg g hg'
          omega
      · refine ax_q hW q2 hg (fun j z a' hj hn hE htb => ?_) (fun m t hm hbm => ?_)
        · have := hx z htb.2.1.2.2.1
          have h2 : ab_zl Z z x := htb.2.1.2.2.1
          rw [this] at h2
          exact wl h2
        · have := ab_bnl hW.1 (⟨a - k0, by omega, na, by omega, Nat.le_refl _⟩ : ab_bn (ab_sh Z k0) (e - k0) x (ab_zD (ab_sh Z k0) (a - k0 + 1) 4 x 0) (ab_zn Z a)) hbm hm
          omega
    exact ax_g2E hW h0' hnp' hd (show a - k0 < e - k0 by omega) ha' (by omega) (by omega) hx hg hwd hwy hy hz (by omega) hbn (by omega) hrx hNE hEx (by omega)
/-- DISTANCE 2, two stations at distance 2 at most, the nearest goals of x are no sources and at most three links from w -/
theorem ax_g2L {Z : ab_Z} {d : Nat → Nat → Nat} {N x y w lm : Nat} (hR : ax_LR lm Z d N) (hd : d x y = 2) (hl : ab_zl Z x y) (hN : ab_zn Z 0 + 240 ≤ ab_zn Z N)
    (hx : ∀ q, ab_zl Z q x → q = w) (hw : ∀ q, ab_zl Z q w → q = x) (hg : ∀ g, ab_zl Z x g → 2 ≤ d x g) (hgw : ∀ g, ab_zl Z w g → 2 ≤ d w g) (hwd : 3 ≤ d x w)
    (h2 : ∀ g1 g2 g3, g1 < 8 → g2 < 8 → g3 < 8 → d x g1 = 2 → d x g2 = 2 → d x g3 = 2 → g1 = g2 ∨ g1 = g3 ∨ g2 = g3)
    (hgy : ∀ g, ab_zl Z x g → d x g = 2 → (∀ q, ¬ ab_zl Z g q) ∧ (∀ q, ab_zl Z q g → q = x ∨ q = w) ∧ (ab_zl Z w g → d w g ≤ 3)) : False := by
  have hR' := hR
  obtain ⟨h, hL, hG, hl8, h0, hU, hnp⟩ := hR'
  have step : ∀ a y, a < N → ab_ask Z a x y → d x y = 2 → ab_zn Z 0 + 104 ≤ ab_zn Z a → ab_zn Z a + 22 < ab_zn Z N → (∃ b g, b < N ∧ ab_ask Z b x g ∧ d x g = 2 ∧ ab_zn Z a < ab_zn Z b ∧ ab_zn Z b ≤ ab_zn Z a + 12) ∧ (∃ k, a < k ∧ k < N ∧ ab_go Z k x y ∧ ab_zn Z a + 4 ≤ ab_zn Z k ∧ ab_zn Z k ≤ ab_zn Z a + 5) := by
    intro a y haN ha hdy t1 t2
    have hl' := ha.2.2.1
    exact ax_g2S hR hdy haN ha t1 t2 hx hw hg hgw hwd (fun e => by rw [e] at hwd; omega) (hgy y hl' hdy).1 (hgy y hl' hdy).2.1 (hgy y hl' hdy).2.2
  obtain ⟨a0, n0, h0', t0, t0'⟩ := ab_askx (t := ab_zn Z 0 + 104) h hL h0 hl (by omega) (by omega)
  obtain ⟨⟨a1, g1, n1, h1, d1, t1, t1'⟩, ⟨k0, k01, k02, k03, k04, k05⟩⟩ := step a0 y n0 h0' hd (by omega) (by omega)
  obtain ⟨⟨a2, g2, n2, h2', d2, t2, t2'⟩, ⟨k1, k11, k12, k13, k14, k15⟩⟩ := step a1 g1 n1 h1 d1 (by omega) (by omega)
  have ne : ∀ a b g g' k, ab_ask Z a x g → a < k → k < N → ab_go Z k x g → ab_zn Z a + 4 ≤ ab_zn Z k → ab_zn Z k ≤ ab_zn Z a + 5 → b < N → ab_ask Z b x g' → ab_zn Z a < ab_zn Z b → ab_zn Z b ≤ ab_zn Z a + 24 → g' ≠ g := by
    intro a b g g' k c8 c1 c2 c3 c4 c4' c5 c6 c7 c9 e
    rw [e] at c6
    have hab : a < b := by
      by_cases e : a < b
      · exact e
      · have := ab_nowm h (show b ≤ a by omega) (by omega)
        omega
    have sp := ab_sp h hab c5 c8 c6
    by_cases e : k < b
    · have := ax_n26 h c2 c3 e c5 c6
      omega
    · have := ab_nowm h (show b ≤ k by omega) (by omega)
      omega
  obtain ⟨_, x8, y8⟩ := hl8 _ _ hl
  rcases h2 y g1 g2 y8 (hl8 _ _ h1.2.2.1).2.2 (hl8 _ _ h2'.2.2.1).2.2 hd d1 d2 with z | z | z
  · exact ne a0 a1 y g1 k0 h0' k01 k02 k03 k04 k05 n1 h1 (by omega) (by omega) z.symm
  · exact ne a0 a2 y g2 k0 h0' k01 k02 k03 k04 k05 n2 h2' (by omega) (by omega) z.symm
  · exact ne a1 a2 g1 g2 k1 h1 k11 k12 k13 k14 k15 n2 h2' (by omega) (by omega) z.symm
