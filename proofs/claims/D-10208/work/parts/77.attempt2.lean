/-! ## an attempt over distance 2 in general surroundings -/
/-- T comes to x, if nobody gives up a way to x -/
theorem ax_g2G {Z : ab_Z} {d : Nat → Nat → Nat} {N a x y w : Nat} (hW : ax_W Z d N) (h0 : ab_t0 Z N) (hd : d x y = 2) (haN : a < N) (ha : ab_ask Z a x y) (ht : ab_zn Z 0 + 20 ≤ ab_zn Z a) (hN : ab_zn Z a + 7 ≤ ab_zn Z N)
    (hx : ∀ q, ab_zl Z q x → q = w) (hg : ∀ g, ab_zl Z x g → 2 ≤ d x g) (hnv : ∀ jj q, jj < N → ab_zn Z jj ≤ ab_zn Z a + 7 → ab_vv Z jj q x → ab_zD Z jj 3 q x < ab_zD Z (a + 1) 4 x 0) :
    ∃ j m i, j < N ∧ ab_tb Z d j a y x ∧ m < N ∧ a < m ∧ ab_zK Z m = 1 ∧ ab_zs Z m = x ∧ ax_fr Z N j y x i (ab_zX Z m) ∧ ab_zn Z a + 4 ≤ ab_zn Z m ∧ ab_zn Z m ≤ ab_zn Z a + 5 ∧ ab_zD Z (a + 1) 4 x 0 ≤ ab_zD Z (j + 1) 3 y x := by
  have hW' := hW
  obtain ⟨h, hL, hG, hl8, hq⟩ := hW'
  obtain ⟨hxy, x8, y8⟩ := hl8 _ _ ha.2.2.1
  obtain ⟨q1, q2, q3⟩ := ab_qf h haN ha
  have nv : ∀ i, i ≤ N → ab_zn Z i ≤ ab_zn Z a + 7 → ax_nv Z x (ab_zD Z (a + 1) 4 x 0) i := by
    intro i hi hti jj q hjj hv
    have := ab_nowm h (show jj ≤ i by omega) hi
    exact hnv jj q (by omega) (by omega) hv
  obtain ⟨j, w0, hj, htb, hf0, w07, hny⟩ := ax_birth3 hW (fun i hi hti hn => ax_pres h q2 i hi (nv i hi (by omega)) y (fun e => hxy e.symm) hn) (by omega) haN ha (by omega)
  have fin : ∀ i f, ax_fr Z N j y x i f → f 2 = x → f 7 ≤ 2 → 1 ≤ f 7 → ∃ m, m < N ∧ a < m ∧ ab_zK Z m = 1 ∧ ab_zs Z m = x ∧ ax_fr Z N j y x i (ab_zX Z m) ∧ ab_zn Z a + 4 ≤ ab_zn Z m ∧ ab_zn Z m ≤ ab_zn Z a + 5 := by
    intro i f hf f2 f7 f71
    obtain ⟨tn, f6⟩ := ax_frt hW htb hf
    obtain ⟨m1, a1, a2, a3, a4, a5, a6, _⟩ := ax_fsp hW hj htb hf (by omega)
    refine ⟨m1, a2, ?_, a3, by rw [a6, f2], by rw [a4]; exact hf, by omega, by omega⟩
    by_cases e : a < m1
    · exact e
    · have := ab_nowm h (show m1 ≤ a by omega) (by omega)
      omega
  have nxt : ∀ i f, ax_fr Z N j y x i f → f 2 ≠ x → f 7 ≤ 2 → ∃ i' f', ax_fr Z N j y x i' f' ∧ f' 7 = f 7 + 1 := by
    intro i f hf f2 f7
    obtain ⟨tn, _⟩ := ax_frt hW htb hf
    obtain ⟨m1, a1, a2, a3, a4, a5, a6, a7⟩ := ax_fsp hW hj htb hf (by omega)
    obtain ⟨n1, n2⟩ := a7 f2
    have hm1 : ab_zn Z (m1 + 1) = ab_zn Z m1 := by rw [ab_now1 h a2, if_neg (by omega)]
    obtain ⟨w', hw', e7', _⟩ := n2 (ax_pres h q2 (m1 + 1) (by omega) (nv _ (by omega) (by omega)) (f 2) f2 n1)
    exact ⟨m1, w', hw', e7'⟩
  have T := ax_g2T hW h0 hx hg hj htb ht hd
  have f02 : w0 2 ≠ x := by
    intro e
    obtain ⟨_, _, _, gu, g0⟩ := ab_tnr h (fun a b z => (hl8 a b z).1) hj htb j hf0.1 w0 hf0.2.1 hf0.2.2.1 hf0.2.2.2.1 hf0.2.2.2.2.1 hf0.2.2.2.2.2.1 hf0.2.2.2.2.2.2
    have f1 : w0 1 = y := by
      have := (ab_d1 hf0.2.1 (by have := hf0.2.2.1; omega)).2.1
      rw [htb.2.2.2.1] at this
      exact this
    rw [e, f1] at gu
    have := hG.2.1 x x y (h.2.1 _ _ gu).1
    rw [hG.1, hd] at this
    omega
  obtain ⟨i1, f1, hf1, e1⟩ := nxt j w0 hf0 f02 (by omega)
  by_cases e : f1 2 = x
  · obtain ⟨m, m1, m2, m3, m4, m5, m6, m7⟩ := fin i1 f1 hf1 e (by omega) (by omega)
    exact ⟨j, m, i1, hj, htb, m1, m2, m3, m4, m5, m6, m7, hny⟩
  · obtain ⟨i2, f2, hf2, e2⟩ := nxt i1 f1 hf1 e (by omega)
    have := T 2 i2 f2 hf2 (by omega)
    have f22 : f2 2 = x := (hG.2.2.2.1 x _ (by omega)).symm
    obtain ⟨m, m1, m2, m3, m4, m5, m6, m7⟩ := fin i2 f2 hf2 f22 (by omega) (by omega)
    exact ⟨j, m, i2, hj, htb, m1, m2, m3, m4, m5, m6, m7, hny⟩
/-- the first piece, behind T, if no other TELL of y comes to x -/
theorem ax_g2P {Z : ab_Z} {d : Nat → Nat → Nat} {N a x y w nb t0 j mT iT rho : Nat} (hW : ax_W Z d N) (h0 : ab_t0 Z N) (hd : d x y = 2) (haN : a < N) (ha : ab_ask Z a x y) (ht : ab_zn Z 0 + 24 ≤ ab_zn Z a) (hN : ab_zn Z a + 22 ≤ ab_zn Z N)
    (hx : ∀ q, ab_zl Z q x → q = w) (hg : ∀ g, ab_zl Z x g → 2 ≤ d x g) (hwd : 3 ≤ d x w) (hwy : w ≠ y)
    (hy : ∀ q, ¬ ab_zl Z y q) (hz : ∀ q, ab_zl Z q y → q = x ∨ q = w) (hb0 : ab_zD Z 0 4 y 0 < nb) (hbn : ab_bn Z N y nb t0) (ht0 : ab_zn Z 0 + 28 ≤ t0) (hrx : nb ≤ ab_zD Z a 3 x y)
    (hNE : ∀ j az i f, j < N → ab_tb Z d j az y w → ab_zn Z 0 + 20 ≤ ab_zn Z az → ax_fr Z N j y w i f → f 2 ≠ x)
    (hj : j < N) (htb : ab_tb Z d j a y x) (mN : mT < N) (amT : a < mT) (mk : ab_zK Z mT = 1) (ms : ab_zs Z mT = x) (mf : ax_fr Z N j y x iT (ab_zX Z mT)) (mt : ab_zn Z mT = ab_zn Z j + rho) (r2 : 2 ≤ rho) (r3 : rho ≤ 3) (hny : ab_zD Z (a + 1) 4 x 0 ≤ ab_zD Z (j + 1) 3 y x) :
    ∃ p, a < p ∧ p < N ∧ ab_zK Z p = 1 ∧ ab_zs Z p = y ∧ ab_zX Z p 3 = 3 ∧ ab_zX Z p 4 = x ∧ ab_zX Z p 5 = y ∧ ab_zX Z p 6 = ab_zc Z x y ∧ ab_zn Z a + 4 ≤ ab_zn Z p ∧ ab_zn Z p ≤ ab_zn Z a + 4 * rho ∧ j < p ∧ ∃ k, a < k ∧ k < N ∧ ab_go Z k x y ∧ ab_zn Z a + 4 ≤ ab_zn Z k ∧ ab_zn Z k ≤ ab_zn Z a + 5 := by
  have hW' := hW
  obtain ⟨h, hL, hG, hl8, hq⟩ := hW'
  have hl : ∀ a b, ab_zl Z a b → a ≠ b := fun a b z => (hl8 a b z).1
  obtain ⟨hxy, x8, y8⟩ := hl8 _ _ ha.2.2.1
  have hwx : w ≠ x := fun e => by rw [e, hG.1] at hwd; omega
  have gr := ax_tgrow h htb hj
  have jd := htb.2.2.2.2.2.2.2.2.1
  rw [hd] at jd
  have y00 := ab_ownm (c := y) h (Nat.zero_le j) (by omega)
  have hn0y : ab_zD Z 0 4 y 0 < ab_zD Z (j + 1) 4 y 0 := by omega
  have hbT : ab_bn Z N y (ab_zD Z (j + 1) 4 y 0) (ab_zn Z j) := ⟨j, hj, rfl, by omega, Nat.le_refl _⟩
  have hnx : ab_zD Z (j + 1) 4 y 0 ≤ ab_zD Z (mT + 1) 3 x y := by
    obtain ⟨_, f6⟩ := ax_frt hW htb mf
    have := ab_hnr (u := ab_zu Z) (ac := ab_za Z) (s := x) (p := ab_zp Z mT) (x := ab_zX Z mT) (D := ab_zD Z mT) (Or.inr mf.2.2.1) (by rw [mf.2.2.2.2.2.1]; exact hxy)
    rw [mf.2.2.2.2.2.1, f6] at this
    rw [h.1 mT mN]
    unfold ab_zY
    rw [mk, ab_do1, ms]
    exact this
  have cls : ∀ i v, i ≤ N → ab_zn Z i ≤ ab_zn Z a + 21 → v ≠ y → ab_zD Z (j + 1) 4 y 0 ≤ ab_zD Z i 3 v y → (ab_zD Z i 3 v y = ab_zD Z (j + 1) 4 y 0 ∧ d x v ≤ 1) ∨
      (∃ j' a', j' < N ∧ ab_tb Z d j' a' y w ∧ ab_zD Z i 3 v y = ab_zD Z (j' + 1) 4 y 0 ∧ ab_zn Z j ≤ ab_zn Z j' ∧ ab_zn Z j' ≤ ab_zn Z i ∧ ab_zD Z (j + 1) 4 y 0 < ab_zD Z i 3 v y) := by
    intro i v hi hti hv hn
    obtain ⟨b, hbi, s1, s2, s3, s4, s5, s6, s7, s8⟩ := ab_srcI h i hi v y (by omega)
    have mrb : ab_rc Z (ab_zX Z b) := ⟨by rcases s3 with ⟨y, _⟩ | y <;> omega, Or.inl (by rw [s4]; omega)⟩
    have hbt := ab_nowm h (show b ≤ i by omega) hi
    rcases s3 with ⟨x30, _⟩ | x31
    · obtain ⟨b', hb'm, hba, hb6, hb8, hbt'⟩ := ab_hask h (by omega) s1 x30 mrb
      rw [s4] at hba
      exact absurd hba.2.2.1 (hy _)
    · obtain ⟨j', a', z', r', c1, c2, c3, c4, c5, c6, c7, c8, c9, c10, c11, c12⟩ := ax_hT1 hW (show b < N by omega) s1 s4 x31 hn0y hbT (by omega) (by omega)
      rcases hz z' c2.2.1.2.2.1 with e | e
      · rw [e] at c2 c4
        have ej := ab_tone h c1 hj c2 htb (by omega) (by omega)
        have c4' := c4
        rw [ej] at c4'
        obtain ⟨_, _, dd⟩ := ax_g2T hW h0 hx hg hj htb (by omega) hd _ r' _ c4' rfl
        rw [c5, s2] at dd
        exact Or.inl ⟨by rw [← s5, ← c11, ej], dd⟩
      · rw [e] at c2
        refine Or.inr ⟨j', a', c1, c2, by omega, c10, by omega, ?_⟩
        by_cases en : ab_zD Z (j + 1) 4 y 0 < ab_zD Z i 3 v y
        · exact en
        · exfalso
          have ej := ab_bone h c1 hj (show ab_zD Z j' 4 y 0 + 1 = ab_zX Z b 6 from c12) c11 (show ab_zD Z j 4 y 0 + 1 = ab_zX Z b 6 by omega) (show ab_zD Z (j + 1) 4 y 0 = ab_zX Z b 6 by omega)
          have e1 := c2.2.2.2.2.2.1
          have e2 := htb.2.2.2.2.2.1
          rw [ej] at e1
          exact hwx (e1.symm.trans e2)
  have nvy : ∀ v q, v < N → ab_zn Z v ≤ ab_zn Z a + 21 → ab_vv Z v q y → ab_zD Z v 3 q y < ab_zD Z (j + 1) 4 y 0 := by
    intro v q hvN hvt hv
    by_cases e : ab_zD Z v 3 q y < ab_zD Z (j + 1) 4 y 0
    · exact e
    · exfalso
      have s1 := (ab_san h v (by omega)).1 q y
      have hjv : j < v := by
        by_cases e : j < v
        · exact e
        · have := ab_ownm (c := y) h (show v ≤ j by omega) (by omega)
          omega
      have haj := htb.1
      rcases hz q hv.2.2.2.2 with e1 | e1
      · rw [e1] at hv
        have := ab_vsp h hL h0 (show a < v by omega) hvN hv ha
        omega
      · rw [e1] at hv e s1
        rcases cls v w (by omega) hvt hwy (by omega) with z | ⟨j', a', z1, z2, z3, z4, z5, z6⟩
        · omega
        · have hjv' : j' < v := by
            by_cases e : j' < v
            · exact e
            · have := ab_ownm (c := y) h (show v ≤ j' by omega) (by omega)
              have := ax_tgrow h z2 z1
              omega
          have := ab_vsp h hL h0 (show a' < v by have := z2.1; omega) hvN hv z2.2.1
          have jd' := z2.2.2.2.2.2.2.2.2.1
          have d7' := z2.2.2.2.2.2.2.2.2.2.1
          omega
  obtain ⟨kU, hkU, kn, kk, ks, kp, kall⟩ := hL.2.1 (ab_zn Z mT) x y (by omega) (by omega) ha.2.2.1
  have hmk := kall mT mN rfl mk
  have go : ∃ k, a < k ∧ k < N ∧ ab_go Z k x y ∧ ab_zn Z a < ab_zn Z k ∧ ab_zn Z k ≤ ab_zn Z mT := by
    rcases ab_att h hL haN ha kU (by omega) (by omega) (by omega) with ⟨k', b1, b2, b3, b4⟩ | ⟨z7, z6⟩
    · have := ab_nowm h (show k' ≤ kU by omega) (by omega)
      exact ⟨k', b1, by omega, b3, b4, by omega⟩
    · have hnr : ab_zD Z (j + 1) 4 y 0 ≤ ab_zD Z kU 3 x y := Nat.le_trans hnx (ab_nrm h (by omega) (by omega))
      have h8 : ab_zD Z kU 1 x y ≠ 8 := ax_pres h hn0y kU (by omega) (fun v q hv hvv => nvy v q (by omega) (by have := ab_nowm h (show v ≤ kU by omega) (by omega); omega) hvv) x hxy hnr
      obtain ⟨_, _, _, _, _, _, _, hpp⟩ := ab_wcI h kU (by omega) x y (by omega)
      have v1 := (hpp h8).1
      exact ⟨kU, by omega, hkU, ax_goI ha.2.2.1 kk ks kp z7 h8 v1, by omega, by omega⟩
  obtain ⟨k, hak, hkN, hgo, hk1, hk2⟩ := go
  have num : ab_zD Z k 3 x y = ab_zD Z (j + 1) 4 y 0 ∧ ab_zn Z a + 4 ≤ ab_zn Z k := by
    obtain ⟨m, m1, m2, m3, m4, m5, m6, m7, m8⟩ := ax_ll h (show ab_zD Z (a + 1) 1 x y = 8 from ha.2.2.2.2.1) k (by omega) (by omega) hgo.2.2.2.1
    have hmn := ab_nowm h (show m ≤ k by omega) (by omega)
    have hlat := ab_urg h hL h0 (show m < N by omega) (show a < m by omega) m3 ha.2.2.2.1 (by rw [ha.1, ha.2.1]; exact ha.2.2.1) (by omega)
    have mo := ab_nrm (v := x) (c := y) h (show a ≤ k by omega) (by omega)
    have mrb : ab_rc Z (ab_zX Z m) := ⟨by rcases m6 with ⟨y, _⟩ | y <;> omega, Or.inl (by rw [m5]; omega)⟩
    rcases m6 with ⟨x30, _⟩ | x31
    · obtain ⟨b', hb'm, hba, hb6, hb8, hbt'⟩ := ab_hask h (by omega) m3 x30 mrb
      rw [m5] at hba
      exact absurd hba.2.2.1 (hy _)
    · obtain ⟨j', a', z', r', c1, c2, c3, c4, c5, c6, c7, c8, c9, c10, c11, c12⟩ := ax_hT1 hW (show m < N by omega) m3 m5 x31 hb0 hbn (by omega) (by omega)
      have jd' := c2.2.2.2.2.2.2.2.2.1
      have d7' := c2.2.2.2.2.2.2.2.2.2.1
      rcases hz z' c2.2.1.2.2.1 with e | e
      · rw [e] at c2 c4 jd'
        rw [hd] at jd'
        have a'N : a' < N := by have := c2.1; omega
        obtain ⟨k2, dd, _⟩ := ax_g2T hW h0 hx hg c1 c2 (by omega) hd _ r' _ c4 rfl
        have ea : a' = a := by
          rcases Nat.lt_trichotomy a' a with q | q | q
          · have := ab_sp h q haN c2.2.1 ha
            omega
          · exact q
          · have := ab_sp h q a'N ha c2.2.1
            omega
        have ej : j' = j := ab_tone h c1 hj c2 htb (by rw [ea] at jd'; omega) (by rw [ea] at jd'; omega)
        refine ⟨by rw [m8, ← c11, ej], ?_⟩
        -- not by the first frame
        have : 1 ≤ ab_zX Z m 7 := by
          rcases Nat.eq_zero_or_pos (ab_zX Z m 7) with q | q
          · exfalso
            have xy := c9 q
            have lk := (h.2.2.2.2.2.1 m (by omega) m3).1
            rw [← c6, xy, m4] at lk
            have := hG.2.1 x x y (h.2.1 _ _ lk).1
            rw [hG.1, hd] at this
            omega
          · exact q
        rw [ea] at jd'
        omega
      · rw [e] at c2 c4
        exfalso
        refine hNE j' a' r' _ c1 c2 (by omega) c4 ?_
        rw [c5, m4]
  obtain ⟨num1, num3⟩ := num
  have age : ab_zD Z k 2 x y ≤ rho := by
    obtain ⟨t', hb', _, ht', _⟩ := ab_wcI h k (by omega) x y (by omega)
    rw [num1] at hb'
    have := ab_bnu h hb' hbT
    omega
  obtain ⟨p, hkp, hpN, p3, p4, p5, p6, p7, p8, p9⟩ := ax_Pr (R := rho) (B := 3 * rho - 2) (E := ab_zn Z a + 21) (T0 := ab_zn Z k) (k := 3) (f := x) (nn := ab_zc Z x y) (l := 0) hW hn0y hbT (by omega) nvy (fun i1 v1 i2 v2 h1 h2 t1 t2 g1 g2 => by
    have ne : ∀ i v, i ≤ N → ab_zD Z (j + 1) 4 y 0 < ab_zD Z i 3 v y → v ≠ y := by
      intro i v hi hg e
      rw [e] at hg
      have := ab_self h y i hi
      omega
    rcases cls i1 v1 h1 t1 (ne i1 v1 h1 g1) (by omega) with z | ⟨j1, a1, z1, z2, z3, z4, z5, z6⟩
    · omega
    · rcases cls i2 v2 h2 t2 (ne i2 v2 h2 g2) (by omega) with z | ⟨j2, a2, y1, y2, y3, y4, y5, y6⟩
      · omega
      · have ej := ab_tone h z1 y1 z2 y2 (by omega) (by omega)
        rw [z3, y3, ej]) (by omega) (by omega) (by omega) (by omega) (by omega) (3 * rho - 2) 0 k x (by omega) hkN hxy (by omega) (by omega) (fun _ => by omega) (fun _ => by omega) (by rw [show 8 - 0 = 8 from rfl]; exact hgo.2.2.2.2.2.1)
  have hkp' := ab_nowm h (show k ≤ p by omega) (by omega)
  have hjp : j < p := by
    by_cases e : j < p
    · exact e
    · have := ab_nowm h (show p ≤ j by omega) (by omega)
      omega
  exact ⟨p, by omega, hpN, p3, p4, p5, p6, p7, p8, by omega, by omega, hjp, k, hak, hkN, hgo, num3, by omega⟩
