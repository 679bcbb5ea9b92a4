/-! ## an attempt in thin surroundings: the first piece arrives -/
theorem ax_thP {Z : ab_Z} {d : Nat → Nat → Nat} {N a x y w r nb t0 : Nat} (hW : ax_W Z d N) (h0 : ab_t0 Z N) (hd : d x y = r) (r2 : 2 ≤ r) (r3 : r ≤ 3) (haN : a < N) (ha : ab_ask Z a x y) (ht : ab_zn Z 0 + 24 ≤ ab_zn Z a) (hN : ab_zn Z a + 22 ≤ ab_zn Z N)
    (hx : ∀ q, ab_zl Z q x → q = w) (hw : ∀ q, ab_zl Z q w → q = x) (hg : ∀ g, ab_zl Z x g → r ≤ d x g) (hth : ∀ v v', d x v = d x v' → d x v < r → v = v') (hwd : r ≤ d x w) (hwy : w ≠ y)
    (hy : ∀ q, ¬ ab_zl Z y q) (hz : ∀ q, ab_zl Z q y → q = x ∨ q = w) (hb0 : ab_zD Z 0 4 y 0 < nb) (hbn : ab_bn Z N y nb t0) (ht0 : ab_zn Z 0 + 28 ≤ t0) (hrx : nb ≤ ab_zD Z a 3 x y) :
    ∃ p j, a < p ∧ p < N ∧ ab_zK Z p = 1 ∧ ab_zs Z p = y ∧ ab_zX Z p 3 = 3 ∧ ab_zX Z p 4 = x ∧ ab_zX Z p 5 = y ∧ ab_zX Z p 6 = ab_zc Z x y ∧ ab_zn Z a + 2 * r ≤ ab_zn Z p ∧ ab_zn Z p + 2 ≤ ab_zn Z a + 5 * r ∧ j < p ∧ ab_zD Z (a + 1) 4 x 0 ≤ ab_zD Z (j + 1) 3 y x ∧ ∃ k, a < k ∧ k < N ∧ ab_go Z k x y ∧ ab_zn Z k = ab_zn Z a + 2 * r := by
  have hW' := hW
  obtain ⟨h, hL, hG, hl8, hq⟩ := hW'
  have hl : ∀ a b, ab_zl Z a b → a ≠ b := fun a b z => (hl8 a b z).1
  obtain ⟨hxy, x8, y8⟩ := hl8 _ _ ha.2.2.1
  obtain ⟨q1, q2, q3⟩ := ab_qf h haN ha
  have hbq : ab_bn Z N x (ab_zD Z (a + 1) 4 x 0) (ab_zn Z a) := ⟨a, haN, rfl, by omega, Nat.le_refl _⟩
  have hE := ax_thE hW h0 r2 r3 hx hw hg hth hwd haN ha ht
  have hs : ∀ z, ab_zl Z z x → r - 1 < d x z := fun z hz => by rw [hx z hz]; omega
  have hyl : ¬ ab_zl Z y x := fun z => hwy (hx y z).symm
  have hwx : w ≠ x := fun e => by rw [e, hG.1] at hwd; omega
  obtain ⟨j, mT, iT, hj, htb, mN, amT, mk, ms, mf, mt, hny, hnx⟩ := ax_thG hW h0 hd r2 r3 haN ha ht (by omega) hx hw hg hth hwd hwy
  have gr := ax_tgrow h htb hj
  have jd := htb.2.2.2.2.2.2.2.2.1
  rw [hd] at jd
  have y00 := ab_ownm (c := y) h (Nat.zero_le j) (by omega)
  have hn0y : ab_zD Z 0 4 y 0 < ab_zD Z (j + 1) 4 y 0 := by omega
  have hbT : ab_bn Z N y (ab_zD Z (j + 1) 4 y 0) (ab_zn Z j) := ⟨j, hj, rfl, by omega, Nat.le_refl _⟩
  have far : ∀ s, ab_zu Z s x → d x s = 1 := by
    intro s hs
    have h1 := hG.2.1 x x s (h.2.1 _ _ hs).1
    rw [hG.1] at h1
    have := ax_d1 hW (x := x) (z := s) (fun e => (h.2.1 _ _ hs).2.2.2 e.symm)
    omega
  have lkT : ab_zu Z (ab_zp Z mT) x := by
    have := (h.2.2.2.2.2.1 mT mN mk).1
    rw [ms] at this
    exact this
  have hleaf : ∀ s, ab_zu Z s x → s = ab_zp Z mT := fun s hs => hth _ _ (by rw [far s hs, far _ lkT]) (by rw [far s hs]; omega)
  have hwl : w ≠ ab_zp Z mT := fun e => by rw [e, far _ lkT] at hwd; omega
  -- the numbers of y from T on
  have cls : ∀ i v, i ≤ N → ab_zn Z i ≤ ab_zn Z a + 21 → v ≠ y → ab_zD Z (j + 1) 4 y 0 ≤ ab_zD Z i 3 v y → (ab_zD Z i 3 v y = ab_zD Z (j + 1) 4 y 0 ∧ d x v ≤ r - 1 ∧ (v = x → ab_zD Z i 2 v y = r)) ∨
      (∃ j' a', j' < N ∧ ab_tb Z d j' a' y w ∧ ab_zD Z i 3 v y = ab_zD Z (j' + 1) 4 y 0 ∧ ab_zn Z j ≤ ab_zn Z j' ∧ ab_zn Z j' ≤ ab_zn Z i ∧ ab_zD Z (j + 1) 4 y 0 < ab_zD Z i 3 v y) := by
    intro i v hi hti hv hn
    obtain ⟨b, hbi, s1, s2, s3, s4, s5, s6, s7, s8⟩ := ab_srcI h i hi v y (by omega)
    have mrb : ab_rc Z (ab_zX Z b) := ⟨by rcases s3 with ⟨y, _⟩ | y <;> omega, Or.inl (by rw [s4]; omega)⟩
    have hbt := ab_nowm h (show b ≤ i by omega) hi
    rcases s3 with ⟨x30, _⟩ | x31
    · obtain ⟨b', hb'm, hba, hb6, hb8, hbt'⟩ := ab_hask h (by omega) s1 x30 mrb
      rw [s4] at hba
      exact absurd hba.2.2.1 (hy _)
    · obtain ⟨j', a', z', r', c1, c2, c3, c4, c5, c6, c7, c8, c9, c10, c11, c12⟩ := ax_hT1 hW (show b < N by omega) s1 s4 x31 hn0y hbT (by omega) (by omega)
      rcases hz z' c2.2.1.2.2.1 with e | e
      · rw [e] at c2 c4
        have ej := ab_tone h c1 hj c2 htb (by omega) (by omega)
        have c4' := c4
        rw [ej] at c4'
        have dd := ax_thT hW r2 r3 hE hd hj htb _ r' _ c4' rfl
        rw [c5, s2] at dd
        refine Or.inl ⟨by rw [← s5, ← c11, ej], by omega, fun ev => ?_⟩
        rw [ev, hG.1] at dd
        omega
      · rw [e] at c2
        refine Or.inr ⟨j', a', c1, c2, by omega, c10, by omega, ?_⟩
        by_cases en : ab_zD Z (j + 1) 4 y 0 < ab_zD Z i 3 v y
        · exact en
        · exfalso
          have ej := ab_bone h c1 hj (show ab_zD Z j' 4 y 0 + 1 = ab_zX Z b 6 from c12) c11 (show ab_zD Z j 4 y 0 + 1 = ab_zX Z b 6 by omega) (show ab_zD Z (j + 1) 4 y 0 = ab_zX Z b 6 by omega)
          have e1 := c2.2.2.2.2.2.1
          have e2 := htb.2.2.2.2.2.1
          rw [ej] at e1
          exact hwx (e1.symm.trans e2)
  have nvy : ∀ v q, v < N → ab_zn Z v ≤ ab_zn Z a + 21 → ab_vv Z v q y → ab_zD Z v 3 q y < ab_zD Z (j + 1) 4 y 0 := by
    intro v q hvN hvt hv
    by_cases e : ab_zD Z v 3 q y < ab_zD Z (j + 1) 4 y 0
    · exact e
    · exfalso
      have s1 := (ab_san h v (by omega)).1 q y
      have hjv : j < v := by
        by_cases e : j < v
        · exact e
        · have := ab_ownm (c := y) h (show v ≤ j by omega) (by omega)
          omega
      have haj := htb.1
      rcases hz q hv.2.2.2.2 with e1 | e1
      · rw [e1] at hv
        have := ab_vsp h hL h0 (show a < v by omega) hvN hv ha
        omega
      · rw [e1] at hv e s1
        have hqy : w ≠ y := hwy
        rcases cls v w (by omega) hvt hwy (by omega) with z | ⟨j', a', z1, z2, z3, z4, z5, z6⟩
        · omega
        · have hjv' : j' < v := by
            by_cases e : j' < v
            · exact e
            · have := ab_ownm (c := y) h (show v ≤ j' by omega) (by omega)
              have := ax_tgrow h z2 z1
              omega
          have := ab_vsp h hL h0 (show a' < v by have := z2.1; omega) hvN hv z2.2.1
          have jd' := z2.2.2.2.2.2.2.2.2.1
          have d7' := z2.2.2.2.2.2.2.2.2.2.1
          omega
  -- the first piece goes off
  obtain ⟨kU, hkU, kn, kk, ks, kp, kall⟩ := hL.2.1 (ab_zn Z a + 2 * r) x y (by omega) (by omega) ha.2.2.1
  have hmk := kall mT mN mt mk
  have go : ∃ k, a < k ∧ k < N ∧ ab_go Z k x y ∧ ab_zn Z a < ab_zn Z k ∧ ab_zn Z k ≤ ab_zn Z a + 2 * r := by
    rcases ab_att h hL haN ha kU (by omega) (by omega) (by omega) with ⟨k', b1, b2, b3, b4⟩ | ⟨z7, z6⟩
    · have := ab_nowm h (show k' ≤ kU by omega) (by omega)
      exact ⟨k', b1, by omega, b3, b4, by omega⟩
    · have hnr : ab_zD Z (j + 1) 4 y 0 ≤ ab_zD Z kU 3 x y := Nat.le_trans hnx (ab_nrm h (by omega) (by omega))
      have h8 : ab_zD Z kU 1 x y ≠ 8 := ax_pres h hn0y kU (by omega) (fun v q hv hvv => nvy v q (by omega) (by have := ab_nowm h (show v ≤ kU by omega) (by omega); omega) hvv) x hxy hnr
      obtain ⟨_, _, _, _, _, _, _, hpp⟩ := ab_wcI h kU (by omega) x y (by omega)
      have v1 := (hpp h8).1
      exact ⟨kU, by omega, hkU, ax_goI ha.2.2.1 kk ks kp z7 h8 v1, by omega, by omega⟩
  obtain ⟨k, hak, hkN, hgo, hk1, hk2⟩ := go
  have num : ab_zD Z k 3 x y = ab_zD Z (j + 1) 4 y 0 ∧ ab_zD Z k 2 x y = r ∧ ab_zn Z k = ab_zn Z a + 2 * r := by
    obtain ⟨m, m1, m2, m3, m4, m5, m6, m7, m8⟩ := ax_ll h (show ab_zD Z (a + 1) 1 x y = 8 from ha.2.2.2.2.1) k (by omega) (by omega) hgo.2.2.2.1
    have hmn := ab_nowm h (show m ≤ k by omega) (by omega)
    have hlat := ab_urg h hL h0 (show m < N by omega) (show a < m by omega) m3 ha.2.2.2.1 (by rw [ha.1, ha.2.1]; exact ha.2.2.1) (by omega)
    have mo := ab_nrm (v := x) (c := y) h (show a ≤ k by omega) (by omega)
    have mrb : ab_rc Z (ab_zX Z m) := ⟨by rcases m6 with ⟨y, _⟩ | y <;> omega, Or.inl (by rw [m5]; omega)⟩
    rcases m6 with ⟨x30, _⟩ | x31
    · obtain ⟨b', hb'm, hba, hb6, hb8, hbt'⟩ := ab_hask h (by omega) m3 x30 mrb
      rw [m5] at hba
      exact absurd hba.2.2.1 (hy _)
    · obtain ⟨j', a', z', r', c1, c2, c3, c4, c5, c6, c7, c8, c9, c10, c11, c12⟩ := ax_hT1 hW (show m < N by omega) m3 m5 x31 hb0 hbn (by omega) (by omega)
      have jd' := c2.2.2.2.2.2.2.2.2.1
      have d7' := c2.2.2.2.2.2.2.2.2.2.1
      rcases hz z' c2.2.1.2.2.1 with e | e
      · rw [e] at c2 c4 jd'
        rw [hd] at jd'
        have a'N : a' < N := by have := c2.1; omega
        have hE' := ax_thE hW h0 r2 r3 hx hw hg hth hwd a'N c2.2.1 (by omega)
        have dd := ax_thT hW r2 r3 hE' hd c1 c2 _ r' _ c4 rfl
        rw [c5, m4, hG.1] at dd
        have ea : a' = a := by
          rcases Nat.lt_trichotomy a' a with q | q | q
          · have := ab_sp h q haN c2.2.1 ha
            omega
          · exact q
          · have := ab_sp h q a'N ha c2.2.1
            omega
        have ej : j' = j := ab_tone h c1 hj c2 htb (by rw [ea] at jd'; omega) (by rw [ea] at jd'; omega)
        have en : ab_zD Z k 3 x y = ab_zD Z (j + 1) 4 y 0 := by rw [m8, ← c11, ej]
        refine ⟨en, ?_, by rw [ea] at jd'; omega⟩
        rcases cls k x (by omega) (by omega) hxy (by omega) with z | ⟨j', a', z1, z2, z3, z4, z5, z6⟩
        · exact z.2.2 rfl
        · omega
      · rw [e] at c2 c4
        exfalso
        refine ax_neL hW hleaf x8 hw hwl hwx c1 c2 (by omega) c4 ?_
        rw [c5, m4]
  obtain ⟨num1, num2, num3⟩ := num
  obtain ⟨p, hkp, hpN, p3, p4, p5, p6, p7, p8, p9⟩ := ax_Pr (R := r) (B := 3 * r - 2) (E := ab_zn Z a + 21) (T0 := ab_zn Z a + 2 * r) (k := 3) (f := x) (nn := ab_zc Z x y) (l := 0) hW hn0y hbT (by omega) nvy (fun i1 v1 i2 v2 h1 h2 t1 t2 g1 g2 => by
    have ne : ∀ i v, i ≤ N → ab_zD Z (j + 1) 4 y 0 < ab_zD Z i 3 v y → v ≠ y := by
      intro i v hi hg e
      rw [e] at hg
      have := ab_self h y i hi
      omega
    rcases cls i1 v1 h1 t1 (ne i1 v1 h1 g1) (by omega) with z | ⟨j1, a1, z1, z2, z3, z4, z5, z6⟩
    · omega
    · rcases cls i2 v2 h2 t2 (ne i2 v2 h2 g2) (by omega) with z | ⟨j2, a2, y1, y2, y3, y4, y5, y6⟩
      · omega
      · have ej := ab_tone h z1 y1 z2 y2 (by omega) (by omega)
        rw [z3, y3, ej]) (by omega) (by omega) (by omega) (by omega) (by omega) (3 * r - 2) 0 k x (by omega) hkN hxy (by omega) (by omega) (fun _ => by omega) (fun _ => by omega) (by rw [show 8 - 0 = 8 from rfl]; exact hgo.2.2.2.2.2.1)
  have hkp' := ab_nowm h (show k ≤ p by omega) (by omega)
  have hjp : j < p := by
    by_cases e : j < p
    · exact e
    · have := ab_nowm h (show p ≤ j by omega) (by omega)
      omega
  exact ⟨p, j, by omega, hpN, p3, p4, p5, p6, p7, p8, by omega, by omega, hjp, hny, k, hak, hkN, hgo, by omega⟩
/-- the answer: it comes, or another goal at the same distance is asked -/
theorem ax_thQ {Z : ab_Z} {d : Nat → Nat → Nat} {N a x y w r p j : Nat} (hW : ax_W Z d N) (h0 : ab_t0 Z N) (hU : ax_U Z N) (hnp : ab_np Z N) (hd : d x y = r) (r2 : 2 ≤ r) (r3 : r ≤ 3) (haN : a < N) (ha : ab_ask Z a x y) (ht : ab_zn Z 0 + 24 ≤ ab_zn Z a) (hN : ab_zn Z a + 22 ≤ ab_zn Z N)
    (hx : ∀ q, ab_zl Z q x → q = w) (hg : ∀ g, ab_zl Z x g → r ≤ d x g) (hE : ax_E Z d N x (r - 1) (ab_zD Z (a + 1) 4 x 0) (ab_zn Z a + 40)) (hwd : r ≤ d x w) (hwy : w ≠ y)
    (hap : a < p) (hpN : p < N) (p3 : ab_zK Z p = 1) (p4 : ab_zs Z p = y) (p5 : ab_zX Z p 3 = 3) (p6 : ab_zX Z p 4 = x) (p7 : ab_zX Z p 5 = y) (p8 : ab_zX Z p 6 = ab_zc Z x y) (hkp' : ab_zn Z a + 2 * r ≤ ab_zn Z p) (p9 : ab_zn Z p + 2 ≤ ab_zn Z a + 5 * r) (hjp : j < p) (hny : ab_zD Z (a + 1) 4 x 0 ≤ ab_zD Z (j + 1) 3 y x) :
    ∃ b g, b < N ∧ ab_ask Z b x g ∧ d x g = r ∧ ab_zn Z a < ab_zn Z b ∧ ab_zn Z b ≤ ab_zn Z a + 3 * r + 1 ∧ ∃ jj aw, jj < N ∧ ab_tb Z d jj aw x w := by
  have hW' := hW
  obtain ⟨h, hL, hG, hl8, hq⟩ := hW'
  have hl : ∀ a b, ab_zl Z a b → a ≠ b := fun a b z => (hl8 a b z).1
  obtain ⟨hxy, x8, y8⟩ := hl8 _ _ ha.2.2.1
  obtain ⟨q1, q2, q3⟩ := ab_qf h haN ha
  have hbq : ab_bn Z N x (ab_zD Z (a + 1) 4 x 0) (ab_zn Z a) := ⟨a, haN, rfl, by omega, Nat.le_refl _⟩
  have hs : ∀ z, ab_zl Z z x → r - 1 < d x z := fun z hz => by rw [hx z hz]; omega
  have hyl : ¬ ab_zl Z y x := fun z => hwy (hx y z).symm
  have hwx : w ≠ x := fun e => by rw [e, hG.1] at hwd; omega
  -- the answer
  have hac := hnp.1 p hpN p3 p5 (by rw [p7, p4])
  rw [p6, p8, p4] at hac
  have hac2 : ab_za Z x y = ab_zc Z x y + 1 := by
    rcases hnp.2.2 x y ha.2.2.1 with z | z
    · exact absurd z.symm hac
    · exact z
  have news : ∀ f, f < N → ab_zK Z f = 1 → ab_zs Z f = x → ab_zX Z f 3 = 4 → ab_zX Z f 4 = y → ab_zX Z f 5 = x → ab_zX Z f 6 = ab_za Z x y → False := by
    intro f f2 f3 f4 f5 f6 f7 f8
    have := hnp.2.1 f f2 f3 f5 (by rw [f7, f4])
    rw [f4, f6, f8] at this
    exact this hac2
  have hnyp : ab_zD Z (a + 1) 4 x 0 ≤ ab_zD Z p 3 y x := Nat.le_trans hny (ab_nrm h (by omega) (by omega))
  have send0 : ab_zD Z p 1 y x ≠ 8 → ab_zO Z p (ab_pt (ab_zn Z p) y (ab_zD Z p 1 y x) (ab_fr 4 y x (ab_za Z x y) 0 8)) := by
    intro h8
    obtain ⟨_, _, _, _, _, _, _, hpp⟩ := ab_wcI h p (by omega) y x (by omega)
    have v1 := (hpp h8).1
    unfold ab_zO ab_zY
    rw [p3, ab_do1, p4]
    have := ab_ano (u := ab_zu Z) (ac := ab_za Z) (s := y) (p := ab_zp Z p) (x := ab_zX Z p) (D := ab_zD Z p) p5 p7 (by rw [p6]; exact h8) (by rw [p6]; exact v1)
    rw [p6] at this
    exact this
  obtain ⟨b, hbp, s1, s2, s3, s4, s5, s6, s7, s8⟩ := ab_srcI h p (by omega) y x (by omega)
  have mrb : ab_rc Z (ab_zX Z b) := ⟨by rcases s3 with ⟨y, _⟩ | y <;> omega, Or.inl (by rw [s4]; omega)⟩
  rcases s3 with ⟨x30, _⟩ | x31
  · exfalso
    obtain ⟨b', hb'm, hba, hb6, hb8, hbt'⟩ := ab_hask h (by omega) s1 x30 mrb
    rw [s4] at hba hb6
    have qx := ab_qx h hL (show b' < N by omega) hba (show p ≤ N by omega) (by rw [← s5, hb6]) (ab_gdb hG _ x r y hd (by omega) (hg _ hba.2.2.1))
    have h8 := ax_dl2 hW hE hs (fun e => hxy e.symm) hyl p (by omega) (by omega) hnyp (by omega)
    have so := send0 h8
    obtain ⟨_, _, _, _, _, _, _, hpp⟩ := ab_wcI h p (by omega) y x (by omega)
    obtain ⟨v1, v2, v3⟩ := hpp h8
    have li := hG.2.1 x _ y (h.2.1 _ _ v1).1
    rw [hd] at li
    obtain ⟨m1, hm1, hmN, k1, kx, kn1, ks1, kp1⟩ := hL.1 p _ hpN so (by show ab_zn Z p + 2 ≤ _; omega)
    have kn' : ab_zn Z m1 = ab_zn Z p + 1 := kn1
    have ks' : ab_zs Z m1 = ab_zD Z p 1 y x := ks1
    generalize hv' : ab_zD Z p 1 y x = v' at *
    have hc : v' ≠ x := fun e => by rw [e, hG.1] at li; omega
    have num' : ab_zD Z (a + 1) 4 x 0 ≤ ab_zD Z m1 3 v' x := by
      rcases v3 with z | z
      · exact absurd z hc
      · exact Nat.le_trans hnyp (Nat.le_trans z (ab_nrm h (by omega) (by omega)))
    have h82 : ab_zD Z m1 1 v' x ≠ 8 := by
      rcases ax_nl hW hE (fun z hz => Nat.le_of_lt (hs z hz)) m1 (by omega) (by omega) v' hc (by omega) num' with z | ⟨z1, b, z2, z3, _⟩
      · exact z
      · have := hs _ z3.2.2.2.2
        omega
    obtain ⟨_, _, _, _, _, _, _, hpn2⟩ := ab_wcI h m1 (by omega) v' x (by omega)
    obtain ⟨b1, _, _⟩ := hpn2 h82
    have ho2 : ab_zO Z m1 (ab_pt (ab_zn Z m1) v' (ab_zD Z m1 1 v' x) (ab_fr 4 y x (ab_za Z x y) 0 7)) := by
      unfold ab_zO ab_zY
      rw [k1, ab_do1, ks', kx]
      exact ab_cyo (x := ab_pt (ab_zn Z p) y v' (ab_fr 4 y x (ab_za Z x y) 0 8)) (s := v') (show 3 ≤ 4 by omega) (fun z => hc z.symm) (show 1 < 8 by omega) h82 b1
    obtain ⟨f, f1, f2, f3, f4, f5, f6, f7, f8, f9⟩ := ax_ride hW hE (fun z hz => Nat.le_of_lt (hs z hz)) (show 3 ≤ 4 by omega) (d x v') m1 v' 7 hmN rfl (by omega) (by omega) (by omega) num' h82 ho2 (by omega) (by omega)
    exact news f f2 f3 f4 f5 f6 f7 f8
  · obtain ⟨jj, aw, w', r', c1, c2, c3, c4, c5, c6, c7, c8, c9, c10, c11, c12⟩ := ax_hT1 hW (show b < N by omega) s1 s4 x31 q2 hbq (by omega) (by omega)
    have ww := hx w' c2.2.1.2.2.1
    rw [ww] at c2 c4
    obtain ⟨_, w8, _⟩ := hl8 _ _ c2.2.1.2.2.1
    have hjn : ab_zD Z (a + 1) 4 x 0 ≤ ab_zD Z (jj + 1) 4 x 0 := by omega
    have hpn : ab_zD Z p 3 y x = ab_zD Z (jj + 1) 4 x 0 := by omega
    have jjd := c2.2.2.2.2.2.2.2.2.1
    have d7 := c2.2.2.2.2.2.2.2.2.2.1
    obtain ⟨t1, t2, t3, tb, tr, u1, u2, u3, u4, u5⟩ := ax_Hp (i := p) (p := y) hW haN ha (by omega) c1 c2 rfl hjn (by omega) (ax_nrI hW h0 hx haN ha (by omega) p (by omega) (by omega)) hpn
    have nw : ¬ ax_H Z N (ab_zD Z (jj + 1) 4 x 0) x (ab_zD Z p 2 y x) w := by
      intro ⟨_, _, q, y1, y2, y3, y4, y5, y6, y7⟩
      obtain ⟨r1, hr1, hf1, _, _, _, _⟩ := ax_Hf hW haN ha (by omega) c1 c2 hjn y1 y2 y4 y5 y6
      have en := ax_end hW hU c1 c2 y1 y2 y3 hf1 tr _ u4
      obtain ⟨_, ee⟩ := ax_uq hW hU c1 c2 (ab_zX Z q 7) tr r1 _ _ u4 hf1 (by omega) rfl
      have := hU tb q (by omega) y1 u2 y2 u4.2.2.1 (ax_frn u4) ee
      rw [this, y3] at u3
      exact hwy u3
    have six : ax_cn (ax_H Z N (ab_zD Z (jj + 1) 4 x 0) x (ab_zD Z p 2 y x)) ≤ 6 := by
      have a1 := ax_add (P := fun v => v = x) (Q := ax_H Z N (ab_zD Z (jj + 1) 4 x 0) x (ab_zD Z p 2 y x)) (fun v p q => q.1 p) 8
      have a2 := ax_add (P := fun v => v = w) (Q := fun v => v = x ∨ ax_H Z N (ab_zD Z (jj + 1) 4 x 0) x (ab_zD Z p 2 y x) v) (fun v p q => by
        rcases q with q | q
        · exact hwx (by rw [← p, q])
        · rw [p] at q; exact nw q) 8
      have k1 : 1 ≤ ax_cn (fun v => v = x) := ax_cn1 x8 rfl
      have k2 : 1 ≤ ax_cn (fun v => v = w) := ax_cn1 w8 rfl
      have l8 := ax_le (P := fun v => v = w ∨ (v = x ∨ ax_H Z N (ab_zD Z (jj + 1) 4 x 0) x (ab_zD Z p 2 y x) v)) 8
      simp only [ax_cn] at *
      omega
    have h8p : ab_zD Z p 1 y x ≠ 8 := by
      have grj := ax_tgrow h c2 c1
      refine ax_pres h (show ab_zD Z 0 4 x 0 < ab_zD Z (jj + 1) 4 x 0 by omega) p (by omega) (fun k q hk hv => ?_) y (fun e => hxy e.symm) (by omega)
      have hkt := ab_nowm h (show k ≤ p by omega) (by omega)
      by_cases e : ab_zD Z k 3 q x < ab_zD Z (jj + 1) 4 x 0
      · exact e
      · exfalso
        have qw := hx q hv.2.2.2.2
        have s1 := (ab_san h k (by omega)).1 q x
        have hjk : jj < k := by
          by_cases e : jj < k
          · exact e
          · have := ab_ownm (c := x) h (show k ≤ jj by omega) (by omega)
            omega
        rw [qw] at hv
        have := ab_vsp h hL h0 (show aw < k by have := c2.1; omega) (by omega) hv c2.2.1
        omega
    rcases ax_AR (B := 6) (p := p) (k := 4) (nn := ab_za Z x y) (l := 0) hW h0 hx hg hd (by omega) haN ha (by omega) c1 c2 hjn hpN (by omega) (by omega) (by omega) (by omega) (by omega) (by omega) 6 0 p y (by omega) hpN (fun e => hxy e.symm) (by omega) (by omega) (Or.inl (by omega)) (fun _ => by omega) (fun z => by omega) (by rw [show 8 - 0 = 8 from rfl]; exact send0 h8p) with ⟨f, f1, f2, f3, f4, f5, f6, f7, f8, f9⟩ | ⟨b, g, g1, g2, g3, g4, g5⟩
    · exact absurd (news f f2 f3 f4 f5 f6 f7 f8) (fun z => z)
    · exact ⟨b, g, g1, g2, g3, by omega, by omega, jj, aw, c1, c2⟩
/-- AN ATTEMPT in thin surroundings -/
theorem ax_thA {Z : ab_Z} {d : Nat → Nat → Nat} {N a x y w r nb t0 : Nat} (hW : ax_W Z d N) (h0 : ab_t0 Z N) (hU : ax_U Z N) (hnp : ab_np Z N) (hd : d x y = r) (r2 : 2 ≤ r) (r3 : r ≤ 3) (haN : a < N) (ha : ab_ask Z a x y) (ht : ab_zn Z 0 + 24 ≤ ab_zn Z a) (hN : ab_zn Z a + 22 ≤ ab_zn Z N)
    (hx : ∀ q, ab_zl Z q x → q = w) (hw : ∀ q, ab_zl Z q w → q = x) (hg : ∀ g, ab_zl Z x g → r ≤ d x g) (hth : ∀ v v', d x v = d x v' → d x v < r → v = v') (hwd : r ≤ d x w) (hwy : w ≠ y)
    (hy : ∀ q, ¬ ab_zl Z y q) (hz : ∀ q, ab_zl Z q y → q = x ∨ q = w) (hb0 : ab_zD Z 0 4 y 0 < nb) (hbn : ab_bn Z N y nb t0) (ht0 : ab_zn Z 0 + 28 ≤ t0) (hrx : nb ≤ ab_zD Z a 3 x y) :
    ∃ b g, b < N ∧ ab_ask Z b x g ∧ d x g = r ∧ ab_zn Z a < ab_zn Z b ∧ ab_zn Z b ≤ ab_zn Z a + 3 * r + 1 ∧ ∃ jj aw, jj < N ∧ ab_tb Z d jj aw x w := by
  obtain ⟨p, j, c1, c2, c3, c4, c5, c6, c7, c8, c9, c10, c11, c12, _⟩ := ax_thP hW h0 hd r2 r3 haN ha ht hN hx hw hg hth hwd hwy hy hz hb0 hbn ht0 hrx
  exact ax_thQ hW h0 hU hnp hd r2 r3 haN ha ht hN hx hg (ax_thE hW h0 r2 r3 hx hw hg hth hwd haN ha ht) hwd hwy c1 c2 c3 c4 c5 c6 c7 c8 c9 c10 c11 c12
