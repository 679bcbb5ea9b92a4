/-! ## x nobody's goal: the second try gets through -/
/-- a TELL to a neighbour is direct: no frame of it is sent on -/
theorem ax_dirT {Z : ab_Z} {d : Nat → Nat → Nat} {N j a c z : Nat} (hW : ax_W Z d N) (hj : j < N) (ht : ab_tb Z d j a c z) (h1 : d z c = 1) :
    ∀ i, i < N → ∀ w, ab_zO Z i w → w 3 = 1 → ab_rc Z w → ab_bth Z j w → w 4 = c → w 5 = z → w 7 = 0 ∧ w 2 = z := by
  obtain ⟨h, hL, hG, hl8, hq⟩ := hW
  have hl : ∀ a b, ab_zl Z a b → a ≠ b := fun a b z => (hl8 a b z).1
  have haN : a < N := by have := ht.1; omega
  obtain ⟨q1, q2, q3⟩ := ab_qf h haN ht.2.1
  have hbq : ab_bn Z N z (ab_zD Z (a + 1) 4 z 0) (ab_zn Z a) := ⟨a, haN, rfl, by omega, Nat.le_refl _⟩
  intro i
  induction i using Nat.strongRecOn with
  | ind i ih =>
    intro hi w ho h3 hr hb e4c e5z
    obtain ⟨g2, gn, gz, gu, g0⟩ := ab_tnr h hl hj ht i hi w ho h3 hr hb e4c e5z
    obtain ⟨e0, e1, hu, y⟩ := ab_d1 ho hr.1
    rcases y with ⟨hk, e3, e4, e5, e6, e7, eg, y0, y1⟩ | ⟨e4, e7, e6, es, y⟩
    · exfalso
      have hx3 : ab_zX Z i 3 = 1 := by omega
      have hx : ab_rc Z (ab_zX Z i) := by
        unfold ab_rc at hr ⊢
        rw [e3, ← e4, ← e6]
        refine ⟨hr.1, ?_⟩
        rcases hr.2 with z | z
        · exact Or.inl z
        · omega
      obtain ⟨m, hm, hom, t0, t1, t2, tu⟩ := ab_hrc h hi hk hx
      have hbx : ab_bth Z j (ab_zX Z i) := by
        obtain ⟨b, hbm, hbb⟩ := ab_fbI h m (by omega) _ hom hx
        have : b = j := by
          refine ab_bone (n := w 6) (c := w 4) h (by omega) hj ?_ ?_ hb.2.2.1 hb.2.2.2.1
          · rw [e4, e6]; exact hbb.2.2.1
          · rw [e4, e6]; exact hbb.2.2.2.1
        rw [← this]; exact hbb
      have x5 : ab_zX Z i 5 = z := by rw [← e5]; exact e5z
      have I := ih m hm (by omega) _ hom hx3 hx hbx (by rw [← e4]; exact e4c) x5
      rw [t2] at I
      exact eg (by rw [x5, I.2])
    · refine ⟨e7, ?_⟩
      have eij := g0 e7
      subst eij
      have k1 := ht.2.2.1
      have hni : ab_zn Z (i + 1) = ab_zn Z i := by rw [ab_now1 h hi, if_neg (by omega)]
      obtain ⟨t', hb', _, ht', _, _, _, hp⟩ := ab_wcI h (i + 1) (by omega) (w 1) z (by omega)
      have := ab_bnl h hbq hb' gn
      have hjd := ht.2.2.2.2.2.2.2.2.1
      have p28 : ab_zD Z (i + 1) 1 (w 1) z ≠ 8 := by
        rw [← g2]
        have := (h.2.1 _ _ gu).2.2.1
        omega
      obtain ⟨_, r2, _⟩ := hp p28
      rw [← g2] at r2
      exact (hG.2.2.2.1 _ _ (show d z (w 2) = 0 by omega)).symm
/-- z, nobody's goal, gets its TELL and sends its first piece within 22 moments behind its question -/
theorem ax_gz {Z : ab_Z} {d : Nat → Nat → Nat} {N j a c z i : Nat} {w : ab_F} (hW : ax_W Z d N) (h0 : ab_t0 Z N) (hp : ∀ q, ¬ ab_zl Z q z) (hj : j < N) (ht : ab_tb Z d j a c z) (h10 : ab_zn Z 0 + 10 ≤ ab_zn Z a)
    (hi : i < N) (ho : ab_zO Z i w) (h3 : w 3 = 1) (hr : ab_rc Z w) (hb : ab_bth Z j w) (e4 : w 4 = c) (e5 : w 5 = z) (hti : ab_zn Z i ≤ ab_zn Z a + 23) (hN : ab_zn Z a + 26 ≤ ab_zn Z N)
    (hnv : ∀ jj q, jj < N → ab_zn Z jj ≤ ab_zn Z a + 22 → ab_vv Z jj q c → ab_zD Z jj 3 q c < w 6) : ∃ k m, a < k ∧ k < N ∧ ab_go Z k z c ∧ ab_zn Z a < ab_zn Z k ∧ ab_zn Z k ≤ ab_zn Z a + 22 ∧ m < N ∧ ab_zn Z m ≤ ab_zn Z a + 22 ∧ w 6 ≤ ab_zD Z (m + 1) 3 z c := by
  have hW' := hW
  obtain ⟨h, hL, hG, hl8, hq⟩ := hW'
  have haN : a < N := by have := ht.1; omega
  have hzc := hl8 _ _ ht.2.1.2.2.1
  have hd7 := ht.2.2.2.2.2.2.2.2.2.1
  have hjd := ht.2.2.2.2.2.2.2.2.1
  have hE := ax_XI (z := z) hW hzc.2.1
  have GB := ax_GB hG hzc.2.1 hzc.2.2 hd7
  have pot := ax_pot hW hp hj ht h10 hE i hi w ho h3 hr hb e4 e5 hti
  have sm := ax_smm (P := ax_C Z N a z (ab_zD Z (i + 1) 3 (w 1) z)) (Q := fun _ => True) (E := ax_Eh (ab_zu Z) d z) (fun _ _ => trivial) 8
  have hni : ab_zn Z i = ab_zn Z j + w 7 := by
    have h1 : w 0 = ab_zn Z i := (ab_d1 ho hr.1).1
    have := hb.2.1
    omega
  have d1 : 1 ≤ d z c := ax_d1 hW hzc.1
  obtain ⟨m, m1, m2, m3, m4, m5, m6, m7, m8, m9⟩ := ax_rT (P := d z c + ax_sm (fun _ => True) (ax_Eh (ab_zu Z) d z) 8) hW hp hj ht h10 hE (Nat.le_refl _) (by omega) (by omega) (d z c + ax_sm (fun _ => True) (ax_Eh (ab_zu Z) d z) 8 - w 7) i w hi ho h3 hr hb e4 e5 (by omega) hni
  have hjn := ab_nowm h (show j ≤ i by
    by_cases e : j ≤ i
    · exact e
    · exfalso
      have := ab_nowm h (show i ≤ j by omega) (by omega)
      -- a frame is not sent before it is born
      have hw6 := hb.2.2.2.1
      have hw5 := hb.2.2.1
      obtain ⟨_, _, _, _, _, cc⟩ := ab_fcI h i hi w ho hr.1 (by
        rcases hr.2 with q | q
        · exact q
        · omega)
      have := ab_ownm (c := w 4) h (show i + 1 ≤ j by omega) (by omega)
      omega) (by omega)
  have hmi := ab_nowm h (show i ≤ m by omega) (by omega)
  have hnum : w 6 ≤ ab_zD Z (m + 1) 3 z c := by
    have := ab_hnr (u := ab_zu Z) (ac := ab_za Z) (s := z) (p := ab_zp Z m) (x := ab_zX Z m) (D := ab_zD Z m) (Or.inr m5) (by rw [m6]; exact hzc.1)
    rw [h.1 m m2, ← m8]
    unfold ab_zY
    rw [m3, ab_do1, m4]
    rw [m6] at this
    exact this
  have hn0 := ab_nowm h (Nat.zero_le a) (by omega)
  obtain ⟨u, hu, un, uk, us, up, uall⟩ := hL.2.1 (ab_zn Z m) z c (by omega) (by omega) ht.2.1.2.2.1
  have hmu := uall m m2 rfl m3
  have hau : a < u := by
    by_cases e : a < u
    · exact e
    · have := ab_nowm h (show u ≤ a by omega) (by omega)
      omega
  have hc0 : ab_zD Z 0 4 c 0 < w 6 := by
    rcases hr.2 with q | q
    · rw [← e4]; exact q
    · omega
  have hnu : w 6 ≤ ab_zD Z u 3 z c := Nat.le_trans hnum (ab_nrm h (by omega) (by omega))
  have h8 := ax_pres h hc0 u (by omega) (fun jj q hjj hv => hnv jj q (by omega) (by
    have := ab_nowm h (show jj ≤ u by omega) (by omega)
    omega) hv) z hzc.1 hnu
  obtain ⟨_, _, _, _, _, _, _, hpp⟩ := ab_wcI h u (by omega) z c (by omega)
  obtain ⟨g1, _, _⟩ := hpp h8
  have fin : ∃ k, a < k ∧ k ≤ u ∧ ab_go Z k z c ∧ ab_zn Z a < ab_zn Z k := by
    rcases ab_att h hL haN ht.2.1 u (by omega) (by omega) (by omega) with ⟨k', b1, b2, b3, b4⟩ | ⟨z7, z6⟩
    · exact ⟨k', b1, by omega, b3, b4⟩
    · refine ⟨u, hau, Nat.le_refl _, ?_, by omega⟩
      rcases ab_uc (u := ab_zu Z) (lv := ab_zl Z) (cf := ab_zc Z) (a := z) (b := c) (D := ab_zD Z u) with ⟨_, q⟩ | ⟨_, _, ⟨q, q2, q0, q1, yy⟩ | ⟨q, yy⟩⟩
      · exact absurd ⟨ht.2.1.2.2.1, Or.inl z7⟩ q
      · refine ⟨uk, us, up, h8, g1, ?_, z7⟩
        unfold ab_zO ab_zY
        rw [uk, ab_do2, us, up, yy.2]
        show ab_pt (ab_zn Z u) z (ab_zD Z u 1 z c) (ab_fr 3 z c (ab_zc Z z c) 0 8) = ab_pt (ab_w (ab_w (ab_w (ab_zD Z u) 9 z c q) 7 z c 1) 8 z c (ab_zD Z u 0 0 0) 0 0 0) z (ab_zD Z u 1 z c) (ab_fr 3 z c (ab_zc Z z c) 0 8)
        rw [ab_wf (by decide), ab_wf (by decide), ab_wf (by decide)]
      · rcases q with q | q
        · exact absurd ⟨h8, g1⟩ q
        · exact absurd z7 q.1
  obtain ⟨k, k1, k2, k3, k4⟩ := fin
  have hku := ab_nowm h k2 (by omega)
  exact ⟨k, m, k1, by omega, k3, k4, by omega, m2, by omega, hnum⟩
/-- the question reaches its goal, the TELL comes back -/
theorem ax_qt5 {Z : ab_Z} {d : Nat → Nat → Nat} {N a x y r E : Nat} (hW : ax_W Z d N) (h0 : ab_t0 Z N) (hE : ax_E Z d N x r (ab_zD Z (a + 1) 4 x 0) E) (hs : ∀ z, ab_zl Z z x → r ≤ d x z) (hd : d x y = r) (h7 : r ≤ 7) (haN : a < N) (ha : ab_ask Z a x y) (hN : ab_zn Z a + 2 * r + 2 ≤ ab_zn Z N) (hEe : ab_zn Z a + 2 * r ≤ E + 1) :
    ∃ j m, a < j ∧ j < m ∧ m < N ∧ ab_zn Z j = ab_zn Z a + r ∧ ab_zD Z (a + 1) 4 x 0 ≤ ab_zD Z (j + 1) 3 y x ∧ ab_zK Z m = 1 ∧ ab_zs Z m = x ∧ ab_zX Z m 3 = 1 ∧ ab_zX Z m 4 = y ∧ ab_zn Z m = ab_zn Z a + 2 * r ∧
      ab_zX Z m 5 = x ∧ ab_tb Z d j a y x ∧ ab_zD Z j 4 y 0 + 1 = ab_zX Z m 6 ∧ ab_zD Z (j + 1) 4 y 0 = ab_zX Z m 6 := by
  have hW' := hW
  obtain ⟨h, hL, hG, hl8, hq⟩ := hW'
  have hxy : x ≠ y := (hl8 _ _ ha.2.2.1).1
  have r1 : 1 ≤ r := by
    rcases Nat.eq_zero_or_pos r with e | e
    · exact absurd (hG.2.2.2.1 x y (by omega)) hxy
    · exact e
  obtain ⟨q1, q2, q3⟩ := ab_qf h haN ha
  have hgd : ab_gd (ab_zu Z) y x r y := ab_gdb hG y x r y hd h7 (by omega)
  obtain ⟨j, haj, hjN, hf, hjn, x5, x6⟩ := ab_flood h hL haN ha.1 ha.2.1 ha.2.2.2 r y hgd (fun e => hxy e.symm) (by omega)
  obtain ⟨f1, f2, f3, f4, f5, f6⟩ := hf
  have hbq : ab_bn Z N x (ab_zD Z (a + 1) 4 x 0) (ab_zn Z a) := ⟨a, haN, rfl, by omega, Nat.le_refl _⟩
  have hjn2 : ab_zn Z j = ab_zn Z a + r := by
    obtain ⟨b, hb1, hb2, hb3, hb4, hb5, hb6⟩ := ab_hrd h hjN f1 (by omega) (by rw [f4, x6]; exact q2)
    obtain ⟨c1, c2, c3, c4, c5, c6⟩ := ab_fcI h b (by omega) _ hb2 (by omega) (by rw [f4, x6]; exact q2)
    rw [f4, x6] at c1
    rw [f4] at c4
    have e := ab_bnu h c1 hbq
    have hlip := hG.2.1 x _ _ hb6
    rw [← hb4, f2] at hlip
    omega
  have hDj := h.1 j hjN
  have hnj : ab_zn Z (j + 1) = ab_zn Z j := by
    rw [ab_now1 h hjN, if_neg (by omega)]
  have hnr : ab_zD Z (a + 1) 4 x 0 ≤ ab_zD Z (j + 1) 3 y x := by
    have := ab_hnr (u := ab_zu Z) (ac := ab_za Z) (s := y) (p := ab_zp Z j) (x := ab_zX Z j) (D := ab_zD Z j) (Or.inl ⟨f3, by rw [f4, f5]; exact f6⟩) (by rw [f4]; exact fun e => hxy e.symm)
    rw [hDj, ← x6]
    unfold ab_zY
    rw [f1, ab_do1, f2]
    rw [f4] at this
    exact this
  have h8 : ab_zD Z (j + 1) 1 y x ≠ 8 := by
    rcases ax_nl hW hE hs (j + 1) (by omega) (by omega) y (fun e => hxy e.symm) (by omega) hnr with z | ⟨_, b, hb1, hb2, _, t, hbt, hb3⟩
    · exact z
    · exfalso
      have hta := ab_bnl h hbq hbt hnr
      have hbj : b < j := by
        by_cases e : b = j
        · have := hb2.1
          rw [e] at this
          omega
        · omega
      have := ab_urg h hL h0 hjN hbj f1 hb2.1 (by rw [hb2.2.1, hb2.2.2.1]; exact hb2.2.2.2.2) (by omega)
      omega
  have ho : ab_zO Z j (ab_pt (ab_zn Z j) y (ab_zD Z (j + 1) 1 y x) (ab_fr 1 y x (ab_zD Z (j + 1) 4 y 0) 0 0)) := by
    rw [hDj] at h8 ⊢
    unfold ab_zO
    unfold ab_zY at h8 ⊢
    rw [f1, ab_do1, f2] at h8 ⊢
    have := ab_tlo (u := ab_zu Z) (ac := ab_za Z) (s := y) (p := ab_zp Z j) (x := ab_zX Z j) (D := ab_zD Z j) f3 (by rw [f4, f5]; exact f6) x5 (by rw [f4]; exact h8)
    rw [f4] at this
    exact this
  obtain ⟨m, m1, m2, m3, m4, m5, m6, m7, m8, m9⟩ := ax_ridt hW hE hs r j y 0 hjN hd r1 (Nat.le_refl _) hnr h8 f1 ho (by omega) (by omega)
  refine ⟨j, m, haj, m1, m2, hjn2, hnr, m3, m4, m5, m6, by omega, m7, ⟨haj, ha, f1, f2, f3, f4, x5, x6, by rw [hd]; exact hjn2, by omega, by rw [f5]; exact f6⟩, ?_, m8.symm⟩
  rw [m8]
  have := (ab_d1 ho (show (1 : Nat) ≤ 1 by omega)).2.2.2
  rcases this with ⟨_, z, _⟩ | ⟨_, _, _, z, _⟩
  · rw [f3] at z
    have z' : (0 : Nat) = 1 := z
    omega
  · have z' : (ab_zY Z j).1 4 (ab_zs Z j) 0 = ab_zD Z j 4 (ab_zs Z j) 0 + 1 := z
    rw [← hDj, f2] at z'
    exact z'.symm
/-- frames of a TELL to a station that is nobody's goal: gone 22 moments behind the question -/
theorem ax_lifeT {Z : ab_Z} {d : Nat → Nat → Nat} {N j a c z : Nat} (hW : ax_W Z d N) (hp : ∀ q, ¬ ab_zl Z q z) (hj : j < N) (ht : ab_tb Z d j a c z) (h10 : ab_zn Z 0 + 10 ≤ ab_zn Z a) :
    ∀ i, i < N → ∀ w, ab_zO Z i w → w 3 = 1 → ab_rc Z w → ab_bth Z j w → w 4 = c → w 5 = z → ab_zn Z i ≤ ab_zn Z a + 21 := by
  have hW' := hW
  obtain ⟨h, hL, hG, hl8, hq⟩ := hW'
  have hl : ∀ a b, ab_zl Z a b → a ≠ b := fun a b z => (hl8 a b z).1
  have hzc := hl8 _ _ ht.2.1.2.2.1
  have hd7 := ht.2.2.2.2.2.2.2.2.2.1
  have hjd := ht.2.2.2.2.2.2.2.2.1
  have hE := ax_XI (z := z) hW hzc.2.1
  have GB := ax_GB hG hzc.2.1 hzc.2.2 hd7
  have haN : a < N := by have := ht.1; omega
  obtain ⟨q1, q2, q3⟩ := ab_qf h haN ht.2.1
  intro i
  induction i using Nat.strongRecOn with
  | ind i ih =>
    intro hi w ho h3 hr hb e4 e5
    have hni : ab_zn Z i = ab_zn Z j + w 7 := by
      have h1 : w 0 = ab_zn Z i := (ab_d1 ho hr.1).1
      have := hb.2.1
      omega
    obtain ⟨g2, gn, gz, gu, g0⟩ := ab_tnr h hl hj ht i hi w ho h3 hr hb e4 e5
    by_cases e : ab_zn Z i ≤ ab_zn Z a + 23
    · have pot := ax_pot hW hp hj ht h10 hE i hi w ho h3 hr hb e4 e5 e
      have sm := ax_smm (P := ax_C Z N a z (ab_zD Z (i + 1) 3 (w 1) z)) (Q := fun _ => True) (E := ax_Eh (ab_zu Z) d z) (fun _ _ => trivial) 8
      obtain ⟨_, _, _, _, hl1, _⟩ := ab_wcI h (i + 1) (by omega) (w 1) z (by omega)
      omega
    · exfalso
      obtain ⟨e0, e1, hu, y⟩ := ab_d1 ho hr.1
      rcases y with ⟨hk, e3', e4', e5', e6', e7', eg, y0, y1⟩ | ⟨_, e7', _⟩
      · have hx3 : ab_zX Z i 3 = 1 := by omega
        have hx : ab_rc Z (ab_zX Z i) := by
          unfold ab_rc at hr ⊢
          rw [e3', ← e4', ← e6']
          refine ⟨hr.1, ?_⟩
          rcases hr.2 with z | z
          · exact Or.inl z
          · omega
        obtain ⟨m, hm, hom, t0, t1, t2, tu⟩ := ab_hrc h hi hk hx
        have hbx : ab_bth Z j (ab_zX Z i) := by
          obtain ⟨b, hbm, hbb⟩ := ab_fbI h m (by omega) _ hom hx
          have : b = j := by
            refine ab_bone (n := w 6) (c := w 4) h (by omega) hj ?_ ?_ hb.2.2.1 hb.2.2.2.1
            · rw [e4', e6']; exact hbb.2.2.1
            · rw [e4', e6']; exact hbb.2.2.2.1
          rw [← this]; exact hbb
        have I := ih m hm (by omega) _ hom hx3 hx hbx (by rw [← e4']; exact e4) (by rw [← e5']; exact e5)
        have : ab_zX Z i 0 = ab_zn Z m := (ab_d1 hom hx.1).1
        omega
      · omega
/-- where a number of y comes from, if y asks nothing: a TELL of y -/
theorem ax_cls {Z : ab_Z} {d : Nat → Nat → Nat} {N i v y n t : Nat} (hW : ax_W Z d N) (hy : ∀ q, ¬ ab_zl Z y q) (hi : i ≤ N) (hn0 : ab_zD Z 0 4 y 0 < n) (hn : n ≤ ab_zD Z i 3 v y) (hbn : ab_bn Z N y n t) (ht : ab_zn Z 0 + 10 ≤ t) :
    ∃ b r j a z, b < i ∧ r < b ∧ j < N ∧ ab_zs Z b = v ∧ ab_zK Z b = 1 ∧ ab_zO Z r (ab_zX Z b) ∧ ab_zX Z b 3 = 1 ∧ ab_rc Z (ab_zX Z b) ∧ ab_bth Z j (ab_zX Z b) ∧ ab_zX Z b 4 = y ∧ ab_zX Z b 5 = z ∧ ab_tb Z d j a y z ∧ ab_zX Z b 6 = ab_zD Z i 3 v y ∧ t ≤ ab_zn Z j ∧
      ab_zX Z b 2 = v ∧ ab_zX Z b 1 = ab_zp Z b ∧ (ab_zD Z i 1 v y = 8 ∨ ab_zD Z i 1 v y = ab_zp Z b) ∧ ab_zX Z b 0 + 1 = ab_zn Z b := by
  obtain ⟨h, hL, hG, hl8, hq⟩ := hW
  have hl : ∀ a b, ab_zl Z a b → a ≠ b := fun a b z => (hl8 a b z).1
  obtain ⟨b, hbm, s1, s2, s3, s4, s5, s6, s7, s8⟩ := ab_srcI h i hi v y (by omega)
  have m3 : ab_zX Z b 3 ≤ 1 := by rcases s3 with ⟨y, _⟩ | y <;> omega
  have mr : ab_rc Z (ab_zX Z b) := ⟨m3, Or.inl (by rw [s4]; omega)⟩
  rcases s3 with ⟨x30, xs⟩ | x31
  · exfalso
    obtain ⟨b', hb'm, hba, _⟩ := ab_hask h (by omega) s1 x30 mr
    rw [s4] at hba
    exact hy _ hba.2.2.1
  · obtain ⟨r', hrm, hor, r0, r1, r2', ru⟩ := ab_hrc h (show b < N by omega) s1 mr
    obtain ⟨j', hj', hbj⟩ := ab_fbI h r' (by omega) _ hor mr
    have hbj' := hbj
    obtain ⟨b1, b2, b3, b4, b5⟩ := hbj
    rw [s4] at b1 b3 b4
    have hbn2 : ab_bn Z N y (ab_zD Z i 3 v y) (ab_zn Z j') := ⟨j', by omega, rfl, by omega, by omega⟩
    have htt := ab_bnl h hbn hbn2 hn
    obtain ⟨a', ha'⟩ := ab_tbI h hL hG hl hq (show j' < N by omega) hbj' x31 (by omega)
    rw [s4] at ha'
    exact ⟨b, r', j', a', _, hbm, hrm, by omega, s2, s1, hor, x31, mr, hbj', s4, rfl, ha', s5, htt, by rw [r2', s2], r1, s7, r0⟩
/-- NEIGHBOURS, x nobody's goal, y nobody's source and the goal of x and of z alone, z nobody's goal: the second try gets through -/
theorem ax_In0 {Z : ab_Z} {d : Nat → Nat → Nat} {N a x y z : Nat} (hW : ax_W Z d N) (h0 : ab_t0 Z N) (hnp : ab_np Z N) (hd : d x y = 1) (haN : a < N) (ha : ab_ask Z a x y) (ht : ab_zn Z 0 + 20 ≤ ab_zn Z a)
    (hN : ab_zn Z a + 70 ≤ ab_zn Z N) (hx : ∀ q, ¬ ab_zl Z q x) (hy : ∀ q, ¬ ab_zl Z y q) (hz : ∀ q, ab_zl Z q y → q = x ∨ q = z) (hzp : ∀ q, ¬ ab_zl Z q z) : False := by
  have hW' := hW
  obtain ⟨h, hL, hG, hl8, hq⟩ := hW'
  obtain ⟨hxy, x8, y8⟩ := hl8 _ _ ha.2.2.1
  obtain ⟨q1, q2, q3⟩ := ab_qf h haN ha
  have hEx : ax_E Z d N x 1 (ab_zD Z (a + 1) 4 x 0) (ab_zn Z a + 50) := by
    refine ax_q hW q2 (fun g hg => ax_d1 hW (hl8 _ _ hg).1) (fun j z a' hj hjn hje htb => hx z htb.2.1.2.2.1) (fun m t hm hb => ?_)
    have := ax_bge h (show a ≤ N by omega) (show ab_zD Z a 4 x 0 < m by omega) hb
    omega
  have hsx : ∀ z, ab_zl Z z x → 1 ≤ d x z := fun z hz => absurd hz (hx z)
  obtain ⟨jT, m, o1, o2, o3, o4, o5, o6, o7, o8, o9, o10, o13, o14, o11, o12⟩ := ax_qt5 hW h0 hEx hsx hd (by omega) haN ha (by omega) (by omega)
  have hbt : ab_bn Z N y (ab_zX Z m 6) (ab_zn Z a + 1) := ⟨jT, by omega, o4, by omega, by omega⟩
  generalize hT : ab_zX Z m 6 = nT at *
  have hy0 := ab_ownm (c := y) h (Nat.zero_le jT) (by omega)
  have hT0 : ab_zD Z 0 4 y 0 < nT := by omega
  -- numbers of y from the TELL on
  have cls : ∀ i v, i ≤ N → nT ≤ ab_zD Z i 3 v y → _ := fun i v hi hn => ax_cls hW hy hi hT0 hn hbt (by omega)
  -- no V on y with such a number
  have nvY : ∀ jj q, jj < N → ab_zn Z jj ≤ ab_zn Z a + 44 → ab_vv Z jj q y → ab_zD Z jj 3 q y < nT := by
    intro jj q hjj hjt hv
    by_cases e : ab_zD Z jj 3 q y < nT
    · exact e
    · exfalso
      obtain ⟨b, r, j1, a1, z1, c1, c2, c3, c4, c5, c6, c7, c8, c9, c10, c11, c12, c13, c14, c15, c16, c17, c18⟩ := cls jj q (by omega) (by omega)
      by_cases hjn : jj ≤ a
      · have s1 := (ab_san h jj (by omega)).1 q y
        have s2 := ab_ownm (c := y) h (show jj ≤ jT by omega) (by omega)
        omega
      · rcases hz q hv.2.2.2.2 with e1 | e1
        · rw [e1] at hv
          have := ab_vsp h hL h0 (show a < jj by omega) hjj hv ha
          omega
        · -- z knows the number by a TELL of its own
          rcases hz z1 c12.2.1.2.2.1 with e2 | e2
          · rw [e2] at c12
            have := (ax_dirT hW c3 c12 (by rw [hd]) r (by omega) _ c6 c7 c8 c9 c10 (by rw [c11, e2])).2
            rw [c15] at this
            rw [this] at hv
            have := ab_vsp h hL h0 (show a < jj by omega) hjj hv ha
            omega
          · rw [e2] at c12
            rw [e1] at hv
            have a1j := c12.1
            have jd := c12.2.2.2.2.2.2.2.2.1
            have d7 := c12.2.2.2.2.2.2.2.2.2.1
            have jb : j1 ≤ r := by
              by_cases e : j1 ≤ r
              · exact e
              · exfalso
                obtain ⟨_, _, _, _, _, cc⟩ := ab_fcI h r (by omega) _ c6 (by omega) (by rw [c10]; omega)
                rw [c10] at cc
                have := ab_ownm (c := y) h (show r + 1 ≤ j1 by omega) (by omega)
                have := c9.2.2.1
                rw [c10] at this
                omega
            have := ab_vsp h hL h0 (show a1 < jj by omega) hjj hv c12.2.1
            omega
  have nvx : ∀ i, i ≤ N → ab_zn Z i ≤ ab_zn Z a + 44 → ax_nv Z y nT i := by
    intro i hi hin jj q hjj hv
    have := ab_nowm h (show jj ≤ i by omega) hi
    exact nvY jj q (by omega) (by omega) hv
  -- the first piece and the second try
  obtain ⟨k, k1, k2, k3, k4, hgo, k6⟩ := ax_near2 hW h0 hnp hd haN ha (by omega) (by omega) hx
  have w0 : ax_wt Z (k + 1) x y (ab_zn Z k) 0 := ax_t0 h k2 hgo
  have hn0 := ab_nowm h (Nat.zero_le a) (by omega)
  obtain ⟨u, hu, un, uk, us, up, _⟩ := hL.2.1 (ab_zn Z k + 26) x y (by omega) (by omega) ha.2.2.1
  have hku : k < u := by
    by_cases e : k < u
    · exact e
    · have := ab_nowm h (show u ≤ k by omega) (by omega)
      omega
  have hmu : m < u := by
    by_cases e : m < u
    · exact e
    · have := ab_nowm h (show u ≤ m by omega) (by omega)
      omega
  have wu : ax_wt Z u x y (ab_zn Z k) 0 := ax_wt1 h w0 u (by omega) (by omega) (fun j j1 j2 j3 j4 j5 => by
    have h1 := ab_nowm h (show j ≤ u by omega) (by omega)
    by_cases e : ab_zn Z j = ab_zn Z k + 26
    · have := hL.2.2 j u (by omega) hu j3 uk (by omega) (by rw [j4, us]) (by rw [j5, up])
      omega
    · omega)
  have hnu : nT ≤ ab_zD Z u 3 x y := by
    have := ab_hnr (u := ab_zu Z) (ac := ab_za Z) (s := x) (p := ab_zp Z m) (x := ab_zX Z m) (D := ab_zD Z m) (Or.inr o8) (by rw [o9]; exact hxy)
    refine Nat.le_trans ?_ (ab_nrm h (show m + 1 ≤ u by omega) (by omega))
    rw [h.1 m o3, ← hT]
    unfold ab_zY
    rw [o6, ab_do1, o7]
    rw [o9] at this
    exact this
  have h8 := ax_pres h hT0 u (by omega) (nvx u (by omega) (by omega)) x hxy hnu
  obtain ⟨_, _, _, _, _, _, _, hpp⟩ := ab_wcI h u (by omega) x y (by omega)
  obtain ⟨g1, _, _⟩ := hpp h8
  have ho : ab_zO Z u (ab_pt (ab_zn Z u) x (ab_zD Z u 1 x y) (ab_fr 3 x y (ab_zc Z x y) 0 8)) := by
    rcases ab_uc (u := ab_zu Z) (lv := ab_zl Z) (cf := ab_zc Z) (a := x) (b := y) (D := ab_zD Z u) with ⟨_, q⟩ | ⟨_, _, ⟨q, q2, q0, q1, yy⟩ | ⟨q, yy⟩⟩
    · exfalso
      refine q ⟨ha.2.2.1, Or.inr ?_⟩
      rw [wu.2.1]
      show ab_zn Z k + 26 ≤ ab_zn Z u
      omega
    · unfold ab_zO ab_zY
      rw [uk, ab_do2, us, up, yy.2]
      show ab_pt (ab_zn Z u) x (ab_zD Z u 1 x y) (ab_fr 3 x y (ab_zc Z x y) 0 8) = ab_pt (ab_w (ab_w (ab_w (ab_zD Z u) 9 x y q) 7 x y 1) 8 x y (ab_zD Z u 0 0 0) 0 0 0) x (ab_zD Z u 1 x y) (ab_fr 3 x y (ab_zc Z x y) 0 8)
      rw [ab_wf (by decide), ab_wf (by decide), ab_wf (by decide)]
    · exfalso
      rcases q with q | ⟨_, q⟩
      · exact q ⟨h8, g1⟩
      · rw [wu.2.2] at q
        omega
  -- it arrives
  have arr : ∃ p, u < p ∧ p < N ∧ ab_zK Z p = 1 ∧ ab_zs Z p = y ∧ ab_zX Z p 3 = 3 ∧ ab_zX Z p 4 = x ∧ ab_zX Z p 5 = y ∧ ab_zX Z p 6 = ab_zc Z x y ∧ ab_zn Z p ≤ ab_zn Z u + 9 := by
    by_cases hdir : ab_zD Z u 1 x y = y
    · rw [hdir] at ho
      obtain ⟨p, pk, pN, p1, px, pn, ps, pp⟩ := hL.1 u _ hu ho (by show ab_zn Z u + 2 ≤ _; omega)
      have pn' : ab_zn Z p = ab_zn Z u + 1 := pn
      exact ⟨p, pk, pN, p1, by rw [ps]; rfl, by rw [px]; rfl, by rw [px]; rfl, by rw [px]; rfl, by rw [px]; rfl, by omega⟩
    · -- x's number is a TELL of y to z
      obtain ⟨b, r, j1, a1, z1, c1, c2, c3, c4, c5, c6, c7, c8, c9, c10, c11, c12, c13, c14, c15, c16, c17, c18⟩ := cls u x (by omega) hnu
      have hz1 : z1 = z := by
        rcases hz z1 c12.2.1.2.2.1 with e2 | e2
        · exfalso
          rw [e2] at c12
          have D := (ax_dirT hW c3 c12 (by rw [hd]) r (by omega) _ c6 c7 c8 c9 c10 (by rw [c11, e2])).1
          obtain ⟨_, _, _, _, g0⟩ := ab_tnr h (fun a b z => (hl8 a b z).1) c3 c12 r (by omega) _ c6 c7 c8 c9 c10 (by rw [c11, e2])
          have rj := g0 D
          have e1 := (ab_d1 c6 (by omega)).2.1
          rw [rj, c12.2.2.2.1] at e1
          rcases c17 with q | q
          · exact h8 q
          · exact hdir (by rw [q, ← c16, e1])
        · exact e2
      rw [hz1] at c12 c11
      have jd := c12.2.2.2.2.2.2.2.2.1
      have d7 := c12.2.2.2.2.2.2.2.2.2.1
      have rn : ab_zX Z b 0 = ab_zn Z r := (ab_d1 c6 (by omega)).1
      have hbu := ab_nowm h (show b ≤ u by omega) (by omega)
      refine (fun H => ?_) (ax_r1 (m := ab_zD Z u 3 x y) (E := ab_zn Z a + 37) (f := x) (nn := ab_zc Z x y) (l := 0) hW y8 hT0 hnu (show 3 ≤ 3 by omega) (fun jj q hjj hje hv => nvY jj q hjj (by omega) hv) (fun jj v hjj hje hv => ?_) 8 0 u x (fun _ => 0) hu hxy x8 rfl (fun a ha => absurd ha (by omega)) (fun a b _ hb => absurd hb (by omega)) (by omega) ho (by omega) (by omega))
      · obtain ⟨p, p1, p2, p3, p4, p5, p6, p7, p8, p9⟩ := H
        exact ⟨p, p1, p2, p3, p4, p5, p6, p7, p8, by omega⟩
      · -- no newer number
        by_cases e : ab_zD Z jj 3 v y ≤ ab_zD Z u 3 x y
        · exact e
        · exfalso
          obtain ⟨b', r', j3, a3, z3, e1, e2, e3, e4, e5, e6, e7, e8, e9, e10, e11, e12, e13, e14, e15, e16, e17, e18⟩ := cls jj v hjj (by omega)
          have j3n : ab_zn Z j3 ≤ ab_zn Z jj := by
            have h1 := e9.2.1
            have h2 := ab_nowm h (show b' ≤ jj by omega) hjj
            omega
          have jd3 := e12.2.2.2.2.2.2.2.2.1
          have num1 : ab_zD Z (j1 + 1) 4 y 0 = ab_zD Z u 3 x y := by
            have := c9.2.2.2.1
            rw [c10] at this
            rw [this, c13]
          have num3 : ab_zD Z (j3 + 1) 4 y 0 = ab_zD Z jj 3 v y := by
            have := e9.2.2.2.1
            rw [e10] at this
            rw [this, e13]
          have j13 : j1 < j3 := by
            by_cases q : j1 < j3
            · exact q
            · exfalso
              have := ab_ownm (c := y) h (show j3 + 1 ≤ j1 + 1 by omega) (by omega)
              omega
          have jTn : ab_zD Z (jT + 1) 4 y 0 = nT := o12
          rcases hz z3 e12.2.1.2.2.1 with f2 | f2
          · -- a question of x
            rw [f2, hd] at jd3
            rw [f2] at e12
            have a3N : a3 < N := by have := e12.1; omega
            rcases Nat.lt_trichotomy a3 a with q | q | q
            · have := ab_sp h q haN e12.2.1 ha
              omega
            · have : j3 = jT := ab_tone h e3 (by omega) e12 o14 (by rw [q] at jd3; omega) (by rw [q] at jd3; omega)
              rw [this] at num3
              omega
            · have k3' : k < a3 := by
                by_cases y' : k < a3
                · exact y'
                · exfalso
                  have := ab_sp h q a3N ha e12.2.1
                  have := ab_nowm h (show a3 ≤ k by omega) (by omega)
                  omega
              have := ax_n52 h hL ha.2.2.1 k2 hgo k3' a3N e12.2.1 (by omega) (fun i hi hin => by
                have hmi : m < i := by
                  by_cases e : m < i
                  · exact e
                  · have := ab_nowm h (show i ≤ m by omega) (by omega)
                    omega
                have hni : nT ≤ ab_zD Z i 3 x y := by
                  have := ab_hnr (u := ab_zu Z) (ac := ab_za Z) (s := x) (p := ab_zp Z m) (x := ab_zX Z m) (D := ab_zD Z m) (Or.inr o8) (by rw [o9]; exact hxy)
                  refine Nat.le_trans ?_ (ab_nrm h (show m + 1 ≤ i by omega) (by omega))
                  rw [h.1 m o3, ← hT]
                  unfold ab_zY
                  rw [o6, ab_do1, o7]
                  rw [o9] at this
                  exact this
                have h8' := ax_pres h hT0 i (by omega) (nvx i (by omega) (by omega)) x hxy hni
                obtain ⟨_, _, _, _, _, _, _, hpp'⟩ := ab_wcI h i (by omega) x y (by omega)
                exact ⟨h8', (hpp' h8').1⟩)
              omega
          · rw [f2] at e12 jd3
            have a3N : a3 < N := by have := e12.1; omega
            have d1 : 1 ≤ d z y := ax_d1 hW (hl8 _ _ e12.2.1.2.2.1).1
            have a13 : a1 < a3 := by
              rcases Nat.lt_trichotomy a1 a3 with q | q | q
              · exact q
              · exfalso
                have : j1 = j3 := ab_tone h c3 e3 c12 e12 (by rw [q] at jd; omega) (by rw [q] at jd; omega)
                omega
              · exfalso
                have := ab_sp h q (by have := c12.1; omega) e12.2.1 c12.2.1
                have := ab_nowm h (show j1 ≤ j3 by omega) (by omega)
                omega
            have sp := ab_sp h a13 a3N c12.2.1 e12.2.1
            have w6n : ab_zX Z b 6 = ab_zD Z u 3 x y := c13
            obtain ⟨kz, mz, z1', z2', z3', z4', z5', z6', z7', z8'⟩ := ax_gz (w := ab_zX Z b) hW h0 hzp c3 c12 (by omega) (show r < N by omega) c6 c7 c8 c9 c10 c11 (by
              have h1 := c9.2.1
              have h2 := ab_nowm h (show r ≤ u by omega) (by omega)
              -- the frame is in time: it was heard before u; use the bound of the potential
              have := ax_lifeT hW hzp c3 c12 (by omega) r (by omega) _ c6 c7 c8 c9 c10 c11
              omega) (by omega) (fun jj' q hjj' hjt hv => by
              have := nvY jj' q hjj' (by omega) hv
              omega)
            have ka3 : kz < a3 := by
              by_cases y' : kz < a3
              · exact y'
              · have := ab_nowm h (show a3 ≤ kz by omega) (by omega)
                omega
            have n26 := ax_n26 h z2' z3' ka3 a3N e12.2.1
            have n52 := ax_n52 h hL c12.2.1.2.2.1 z2' z3' ka3 a3N e12.2.1 (by omega) (fun i hi hin => by
              have hmi : mz < i := by
                by_cases e : mz < i
                · exact e
                · have := ab_nowm h (show i ≤ mz by omega) (by omega)
                  omega
              have hni : ab_zD Z u 3 x y ≤ ab_zD Z i 3 z y := by
                rw [w6n] at z8'
                exact Nat.le_trans z8' (ab_nrm h (by omega) (by omega))
              have h8' := ax_pres h hT0 i (by omega) (nvx i (by omega) (by omega)) z (hl8 _ _ e12.2.1.2.2.1).1 (by omega)
              obtain ⟨_, _, _, _, _, _, _, hpp'⟩ := ab_wcI h i (by omega) z y (by omega)
              exact ⟨h8', (hpp' h8').1⟩)
            omega
  obtain ⟨p, p1, p2, p3, p4, p5, p6, p7, p8, p9⟩ := arr
  obtain ⟨b, _, _, hv, _⟩ := ax_ans hW hnp hEx hsx hd haN ha o5 (show jT < p by omega) p2 p3 p4 p5 p6 p7 p8 (by omega) (by omega) (by omega)
  exact hx y hv.2.2.2.2
