/-! ## two TELLs of x to w close together, and again 53 moments later: it is not so -/
/-- giving up is asking -/
theorem ax_vask {Z : ab_Z} {d : Nat → Nat → Nat} {N v x w : Nat} {lm : Nat} (h : ab_RL lm Z d N) (hL : ab_L Z N) (h0 : ab_t0 Z N) (hv : v < N) (hvv : ab_vv Z v x w) (ht : ab_zn Z 0 + 24 ≤ ab_zn Z v) : ab_ask Z v x w := by
  obtain ⟨k2, e1, e2, ⟨v7, v9, v8⟩, hl⟩ := hvv
  refine ax_uask h hl hv k2 e1 e2 (Or.inr v8) ?_ (Or.inr ⟨v7, v9⟩)
  rcases ab_la (a := x) (b := w) h v (by omega) with e | ⟨b, b1, b2, b3⟩
  · have := (h0.1 x w).1
    omega
  · have := ab_vsp h hL h0 b1 hv ⟨k2, e1, e2, ⟨v7, v9, v8⟩, hl⟩ b2
    omega
theorem ax_M22 {Z : ab_Z} {d : Nat → Nat → Nat} {N a x y w v0 a1 a2 b1 b2 kw : Nat} (hW : ax_W Z d N) (h0 : ab_t0 Z N) (hU : ax_U Z N) (hd : d x y = 1) (haN : a < N) (ha : ab_ask Z a x y) (hx : ∀ q, ab_zl Z q x → q = w) (hv0 : ∀ q, ab_zl Z q w → q = v0) (hdv : 2 ≤ d w v0) (h7 : d w x ≤ 7) (hwy : w ≠ y)
    (ht : ab_zn Z 0 + 31 ≤ ab_zn Z a) (hN : ab_zn Z a + 95 ≤ ab_zn Z N) (hwk : ab_gd (ab_zu Z) y x kw w) (a1N : a1 < N) (a2N : a2 < N) (b1N : b1 < N) (b2N : b2 < N) (ha1 : ab_ask Z a1 w x) (ha2 : ab_ask Z a2 w x) (hb1 : ab_ask Z b1 w x) (hb2 : ab_ask Z b2 w x)
    (c1 : ab_zn Z a ≤ ab_zn Z a1 + d w x) (c2 : a1 < a2) (c3 : ab_zn Z a2 + d w x ≤ ab_zn Z a + 40) (c4 : ab_zn Z a + 53 ≤ ab_zn Z b1 + d w x) (c5 : b1 < b2) (c6 : ab_zn Z b2 + d w x ≤ ab_zn Z a + 93) : False := by
  have hW' := hW
  obtain ⟨h, hL, hG, hl8, hq⟩ := hW'
  obtain ⟨hxy, x8, y8⟩ := hl8 _ _ ha.2.2.1
  obtain ⟨hwx, w8, _⟩ := hl8 _ _ ha1.2.2.1
  have hlw := ha1.2.2.1
  obtain ⟨q1, q2, q3⟩ := ab_qf h haN ha
  have ord : ∀ k b, k < N → b < N → ab_zn Z k < ab_zn Z b → k < b := by
    intro k b hk hb e
    by_cases e1 : k < b
    · exact e1
    · have := ab_nowm h (show b ≤ k by omega) (by omega)
      omega
  have g12 := ab_sp h c2 a2N ha1 ha2
  have g34 := ab_sp h c5 b2N hb1 hb2
  have c23 : a2 < b1 := ord a2 b1 a2N b1N (by omega)
  have g23 := ab_sp h c23 b1N ha2 hb1
  -- the question of x comes to w
  obtain ⟨k6, hk6, hwk6⟩ := ax_w6 hG x8 y8 (fun e => hxy e.symm) hwy hwk
  obtain ⟨f0, f1, f2, hf, f4, f5, f6⟩ := ab_flood h hL haN ha.1 ha.2.1 ha.2.2.2 k6 w hwk6 hwx (by omega)
  have flood : ab_zD Z (a + 1) 4 x 0 ≤ ab_zD Z (f0 + 1) 3 w x := by
    obtain ⟨g1, g2, g3, g4, g5, g6⟩ := hf
    have := ab_hnr (u := ab_zu Z) (ac := ab_za Z) (s := w) (p := ab_zp Z f0) (x := ab_zX Z f0) (D := ab_zD Z f0) (Or.inl ⟨g3, by rw [g4, g5]; exact g6⟩) (by rw [g4]; exact hwx)
    rw [h.1 f0 f2, ← f6]
    unfold ab_zY
    rw [g1, ab_do1, g2]
    rw [g4] at this
    exact this
  -- ways of w to x are there, from a number on that w did not give up
  have pres : ∀ b n i, b < N → ab_ask Z b w x → ab_zD Z 0 4 x 0 < n → ab_zD Z b 3 w x < n → i ≤ N → ab_zn Z i < ab_zn Z b + 53 → n ≤ ab_zD Z i 3 w x → ab_hw (ab_zu Z) w x (ab_zD Z i) := by
    intro b n i hb hab hn0 hnb hi hin hni
    have h8 := ax_pres h hn0 i hi (fun jj q hjj hv => by
      have qw := hx q hv.2.2.2.2
      rw [qw] at hv ⊢
      by_cases e : jj ≤ b
      · have := ab_nrm (v := w) (c := x) h e (by omega)
        omega
      · have := ab_vsp h hL h0 (show b < jj by omega) (by omega) hv hab
        have := ab_nowm h (show jj ≤ i by omega) hi
        omega) w hwx hni
    obtain ⟨_, _, _, _, _, _, _, hpp⟩ := ab_wcI h i hi w x (by omega)
    exact ⟨h8, (hpp h8).1⟩
  -- a way behind a1 is by a newer number, if a1 knew the question
  have newn : ab_zD Z (a + 1) 4 x 0 ≤ ab_zD Z a1 3 w x → ∀ k, a1 < k → k ≤ N → ab_zn Z k ≤ ab_zn Z a + 40 → ab_zD Z k 1 w x ≠ 8 → ab_zD Z a1 3 w x < ab_zD Z k 3 w x := by
    intro hq0 k
    induction k using Nat.strongRecOn with
    | ind k ih =>
      intro hk hkN hkt h8
      obtain ⟨q, e1, e2, e3, e4, e5, e6, e7, e8⟩ := ax_ll h (show ab_zD Z (a1 + 1) 1 w x = 8 from ha1.2.2.2.2.1) k (by omega) hkN h8
      have mo := ab_nrm (v := w) (c := x) h (show a1 ≤ q by omega) (by omega)
      have mo2 := ab_nrm (v := w) (c := x) h (show q ≤ k by omega) hkN
      by_cases e : ab_zD Z a1 3 w x < ab_zD Z k 3 w x
      · exact e
      · exfalso
        have hqt := ab_nowm h (show q + 1 ≤ k by omega) hkN
        have hq1 : ab_zn Z (q + 1) = ab_zn Z q := by rw [ab_now1 h (by omega), if_neg (by omega)]
        by_cases z : ab_zD Z q 1 w x = 8
        · have nr := ax_nrI hW h0 hx haN ha (by omega) (q + 1) (by omega) (by omega)
          exact nr q (by omega) e3 (by rw [e4]; exact e6) e5 (by omega) (by rw [e4]; omega) (by rw [e4]; exact z)
        · have := ih q e2 (by omega) (by omega) (by omega) z
          omega
  -- behind a piece no asking for 52 moments
  have s1 : ab_zn Z a2 = ab_zn Z a1 + 24 := by
    rcases ax_gon h hL a1N ha1 (by omega) with ⟨k, g1, g2, g3, g4, g5⟩ | ⟨s, g1, g2, g3, g4⟩
    · exfalso
      have k2 : k < a2 := by
        rcases Nat.lt_trichotomy k a2 with e | e | e
        · exact e
        · exfalso
          rw [e] at g5
          have h7' := ha2.2.2.2.2.2.1
          have := (ax_t0 h a2N g5).1
          omega
        · exfalso
          have t1 := ab_nowm h (show a2 ≤ k by omega) (by omega)
          have := hL.2.2 k a2 g2 a2N g5.1 ha2.2.2.2.1 (by omega) (by rw [g5.2.1, ha2.1]) (by rw [g5.2.2.1, ha2.2.1])
          omega
      have := ax_n52 h hL hlw g2 g5 k2 a2N ha2 (by omega) (fun i hi hin => by
        have ki := ord k i g2 hi (by omega)
        by_cases kn : ab_zD Z (a + 1) 4 x 0 ≤ ab_zD Z a1 3 w x
        · have nn := newn kn k g1 (by omega) (by omega) g5.2.2.2.1
          exact pres a1 (ab_zD Z k 3 w x) i a1N ha1 (by omega) nn (by omega) (by omega) (ab_nrm h (by omega) (by omega))
        · have fi : f0 + 1 ≤ i := by
            have := ord f0 i f2 hi (by omega)
            omega
          exact pres a1 (ab_zD Z (a + 1) 4 x 0) i a1N ha1 q2 (by omega) (by omega) (by omega) (Nat.le_trans flood (ab_nrm h fi (by omega))))
      omega
    · by_cases e : s = a2
      · rw [← e]; exact g3
      · exfalso
        have sa : s < a2 := by
          rcases Nat.lt_trichotomy s a2 with q | q | q
          · exact q
          · exact absurd q e
          · have := ab_sp h q g2 ha2 g4
            omega
        have := ab_sp h sa a2N g4 ha2
        omega
  -- a TELL that arrives at last keeps w from asking
  have arrn : ∀ s q jq rq, s < N → ab_ask Z s w x → ab_zn Z a ≤ ab_zn Z s + 7 → jq < N → ab_tb Z d jq s x w → q < N → ab_zK Z q = 1 → ab_zs Z q = w → ax_fr Z N jq x w rq (ab_zX Z q) → ∀ i, q < i → i ≤ N → ab_zn Z i < ab_zn Z s + 53 → ab_hw (ab_zu Z) w x (ab_zD Z i) := by
    intro s q jq rq hs hsa hst hj htb hqN hk hsq hfq i hqi hi hit
    have gr := ax_tgrow h htb hj
    have x6 : ab_zX Z q 6 = ab_zD Z (jq + 1) 4 x 0 := by
      have := hfq.2.2.2.2.1.2.2.2.1
      rw [hfq.2.2.2.2.2.1] at this
      exact this.symm
    have hn : ab_zX Z q 6 ≤ ab_zD Z (q + 1) 3 w x := by
      have := ab_hnr (u := ab_zu Z) (ac := ab_za Z) (s := w) (p := ab_zp Z q) (x := ab_zX Z q) (D := ab_zD Z q) (Or.inr hfq.2.2.1) (by rw [hfq.2.2.2.2.2.1]; exact hwx)
      rw [h.1 q hqN]
      unfold ab_zY
      rw [hk, ab_do1, hsq]
      rw [hfq.2.2.2.2.2.1] at this
      exact this
    have own := ab_ownm (c := x) h (Nat.zero_le jq) (by omega)
    have sb := (ab_san h s (by omega)).1 w x
    have own2 := ab_ownm (c := x) h (show s ≤ jq by have := htb.1; omega) (by omega)
    exact pres s (ab_zX Z q 6) i hs hsa (by omega) (by omega) hi hit (Nat.le_trans hn (ab_nrm h (by omega) hi))
  have slow : ∀ s0 s1 b, s0 < N → s1 < N → b < N → ab_ask Z s0 w x → ab_ask Z s1 w x → ab_ask Z b w x → ab_zn Z a ≤ ab_zn Z s0 + 7 → ab_zn Z s1 = ab_zn Z s0 + 24 → s1 < b → ab_zn Z s0 + 53 ≤ ab_zn Z N →
      (∀ jj q, jj < N → ab_zn Z jj ≤ ab_zn Z s0 + 25 → ab_vv Z jj q w → ab_zD Z jj 3 q w < ab_zD Z (s0 + 1) 4 w 0) → ab_zn Z s1 + 53 ≤ ab_zn Z b := by
    intro s0 s1 b s0N s1N bN h1 h2 h3 hs0 hs1 hsb hsN hnv
    obtain ⟨jq, q, rq, p1, p2, p3, p4, p5, p6, p7⟩ := ax_arr hW h0 hU hv0 hdv s0N h1 h7 (by omega) (by omega) hnv
    have s1q : s1 < q := by
      by_cases e : s1 < q
      · exact e
      · exfalso
        have qs : q < s1 := by
          rcases Nat.lt_trichotomy q s1 with e1 | e1 | e1
          · exact e1
          · rw [e1] at p4
            have := h2.2.2.2.1
            omega
          · omega
        have hs1n : ab_zn Z (s1 + 1) = ab_zn Z s1 := by rw [ab_now1 h s1N, if_neg (by rw [h2.2.2.2.1]; omega)]
        have := arrn s0 q jq rq s0N h1 hs0 p1 p2 p3 p4 p5 p6 (s1 + 1) (by omega) (by omega) (by omega)
        exact this.1 h2.2.2.2.2.1
    have hq1 : ab_zn Z q = ab_zn Z s1 + 1 := by
      have := ab_urg h hL h0 p3 s1q p4 h2.2.2.2.1 (by rw [h2.1, h2.2.1]; exact hlw) (by omega)
      omega
    rcases ax_g1 h hL s1N h2 (by omega) with ⟨k, k1, k2, k3, k4⟩ | ⟨s, t1, t2, t3, t4, t5⟩
    · have kb : k < b := by
        have := ab_sp h hsb bN h2 h3
        exact ord k b k2 bN (by omega)
      have := ax_n52 h hL hlw k2 k4 kb bN h3 (by omega) (fun i hi hin => arrn s0 q jq rq s0N h1 hs0 p1 p2 p3 p4 p5 p6 i (ord q i p3 hi (by omega)) (by omega) (by omega))
      omega
    · exfalso
      have qs := t5 q p3 (by omega) p4
      have hsn : ab_zn Z (s + 1) ≤ ab_zn Z s + 1 := by
        rw [ab_now1 h t2]
        split <;> omega
      have := arrn s0 q jq rq s0N h1 hs0 p1 p2 p3 p4 p5 p6 (s + 1) (by omega) (by omega) (by omega)
      exact this.1 t4
  by_cases V1 : ∃ jj q, jj < N ∧ ab_zn Z jj ≤ ab_zn Z a1 + 25 ∧ ab_vv Z jj q w ∧ ab_zD Z (a1 + 1) 4 w 0 ≤ ab_zD Z jj 3 q w
  · by_cases V2 : ∃ jj q, jj < N ∧ ab_zn Z jj ≤ ab_zn Z a2 + 25 ∧ ab_vv Z jj q w ∧ ab_zD Z (a2 + 1) 4 w 0 ≤ ab_zD Z jj 3 q w
    · obtain ⟨v1, u1, e1, e2, e3, e4⟩ := V1
      obtain ⟨v2, u2, e5, e6, e7, e8⟩ := V2
      have w1 := hv0 u1 e3.2.2.2.2
      have w2 := hv0 u2 e7.2.2.2.2
      rw [w1] at e3 e4
      rw [w2] at e7 e8
      obtain ⟨p1, p2, p3⟩ := ab_qf h a1N ha1
      obtain ⟨r1, r2, r3⟩ := ab_qf h a2N ha2
      have hb1' : ab_bn Z N w (ab_zD Z (a1 + 1) 4 w 0) (ab_zn Z a1) := ⟨a1, a1N, rfl, by omega, Nat.le_refl _⟩
      have hb2' : ab_bn Z N w (ab_zD Z (a2 + 1) 4 w 0) (ab_zn Z a2) := ⟨a2, a2N, rfl, by omega, Nat.le_refl _⟩
      obtain ⟨t1, hbt1, _, ht1, _⟩ := ab_wcI h v1 (by omega) v0 w (by omega)
      obtain ⟨t2, hbt2, dv2, ht2, _⟩ := ab_wcI h v2 (by omega) v0 w (by omega)
      have l1 := ab_bnl h hb1' hbt1 e4
      have l2 := ab_bnl h hb2' hbt2 e8
      have v12 : v1 < v2 := ord v1 v2 e1 e5 (by omega)
      have va := ax_vask h hL h0 e1 e3 (by omega)
      have := ab_vsp h hL h0 v12 e5 e7 va
      omega
    · have nv2 : ∀ jj q, jj < N → ab_zn Z jj ≤ ab_zn Z a2 + 25 → ab_vv Z jj q w → ab_zD Z jj 3 q w < ab_zD Z (a2 + 1) 4 w 0 := by
        intro jj q y1 y2 y3
        by_cases e : ab_zD Z jj 3 q w < ab_zD Z (a2 + 1) 4 w 0
        · exact e
        · exact absurd ⟨jj, q, y1, y2, y3, by omega⟩ V2
      have bs : ab_zn Z b1 = ab_zn Z a2 + 24 := by
        rcases ax_gon h hL a2N ha2 (by omega) with ⟨k, g1, g2, g3, g4, g5⟩ | ⟨s, g1, g2, g3, g4⟩
        · exfalso
          obtain ⟨jq, q, rq, p1, p2, p3, p4, p5, p6, p7⟩ := ax_arr hW h0 hU hv0 hdv a2N ha2 h7 (by omega) (by omega) nv2
          have kb : k < b1 := by
            rcases Nat.lt_trichotomy k b1 with e | e | e
            · exact e
            · exfalso
              rw [e] at g5
              have h7' := hb1.2.2.2.2.2.1
              have := (ax_t0 h b1N g5).1
              omega
            · exfalso
              have t1 := ab_nowm h (show b1 ≤ k by omega) (by omega)
              have := hL.2.2 k b1 g2 b1N g5.1 hb1.2.2.2.1 (by omega) (by rw [g5.2.1, hb1.1]) (by rw [g5.2.2.1, hb1.2.1])
              omega
          have := ax_n52 h hL hlw g2 g5 kb b1N hb1 (by omega) (fun i hi hin => arrn a2 q jq rq a2N ha2 (by omega) p1 p2 p3 p4 p5 p6 i (ord q i p3 hi (by omega)) (by omega) (by omega))
          omega
        · by_cases e : s = b1
          · rw [← e]; exact g3
          · exfalso
            have sa : s < b1 := by
              rcases Nat.lt_trichotomy s b1 with q | q | q
              · exact q
              · exact absurd q e
              · have := ab_sp h q g2 hb1 g4
                omega
            have := ab_sp h sa b1N g4 hb1
            omega
      have := slow a2 b1 b2 a2N b1N b2N ha2 hb1 hb2 (by omega) bs c5 (by omega) nv2
      omega
  · have nv1 : ∀ jj q, jj < N → ab_zn Z jj ≤ ab_zn Z a1 + 25 → ab_vv Z jj q w → ab_zD Z jj 3 q w < ab_zD Z (a1 + 1) 4 w 0 := by
      intro jj q y1 y2 y3
      by_cases e : ab_zD Z jj 3 q w < ab_zD Z (a1 + 1) 4 w 0
      · exact e
      · exact absurd ⟨jj, q, y1, y2, y3, by omega⟩ V1
    have := slow a1 a2 b1 a1N a2N b1N ha1 ha2 hb1 (by omega) s1 c23 (by omega) nv1
    omega
