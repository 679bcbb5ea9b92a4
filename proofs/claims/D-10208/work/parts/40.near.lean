/-! ## attempts with local exactness: what is needed of the ways to x and to y alone -/
def ax_W (Z : ab_Z) (d : Nat → Nat → Nat) (N : Nat) : Prop := ab_R Z d N ∧ ab_L Z N ∧ ab_G (ab_zu Z) d ∧ (∀ a b, ab_zl Z a b → a ≠ b ∧ a < 8 ∧ b < 8) ∧ ab_q20 Z N
/-- until moment E the ways to c of number n or newer are exact within radius r -/
def ax_E (Z : ab_Z) (d : Nat → Nat → Nat) (N c r n E : Nat) : Prop := ab_zD Z 0 4 c 0 < n ∧ ∀ i, i ≤ N → ab_zn Z i ≤ E → ∀ v, v ≠ c → d c v ≤ r → n ≤ ab_zD Z i 3 v c → ab_zD Z i 2 v c = d c v ∧ d c v ≤ 7
theorem ax_nl {Z : ab_Z} {d : Nat → Nat → Nat} {N c r n E : Nat} (hW : ax_W Z d N) (hE : ax_E Z d N c r n E) (hs : ∀ z, ab_zl Z z c → r ≤ d c z) :
    ∀ i, i ≤ N → ab_zn Z i ≤ E → ∀ v, v ≠ c → d c v ≤ r → n ≤ ab_zD Z i 3 v c → ab_zD Z i 1 v c ≠ 8 ∨
      (d c v = r ∧ ∃ j, j < i ∧ ab_vv Z j v c ∧ ab_zD Z j 3 v c = ab_zD Z i 3 v c ∧ ∃ t, ab_bn Z N c (ab_zD Z i 3 v c) t ∧ t + d c v ≤ ab_zn Z j) := by
  obtain ⟨h, hL, hG, hl8, hq⟩ := hW
  intro i
  induction i using Nat.strongRecOn with
  | ind i ih =>
    cases i with
    | zero =>
      intro _ _ v _ _ hn
      have := h.2.2.2.2.1 v c
      have := hE.1
      omega
    | succ i =>
      intro hi hEi v hv hr hn
      have hi' : i < N := by omega
      have hD := h.1 i hi'
      have hEi' : ab_zn Z i ≤ E := Nat.le_trans (ab_nowm h (Nat.le_succ i) hi) hEi
      rcases ab_Ry h hi' v c with ⟨s1, s2, s3⟩ | ⟨hk, ev, ec, hs', hl, l1, l2, l3⟩ | ⟨ev, ⟨y0, y1, y2, y3, _⟩, y⟩
      · rw [← hD] at s1 s2 s3
        rw [s1, s3]
        rw [s3] at hn
        rcases ih i (by omega) (by omega) hEi' v hv hr hn with z | ⟨z1, j, z2, z3⟩
        · exact Or.inl z
        · exact Or.inr ⟨z1, j, by omega, z3⟩
      · rw [← hD] at l1
        refine Or.inl ?_
        rw [l1]
        have := (h.2.1 _ _ (h.2.2.2.2.2.1 i hi' hk).1).2.1
        omega
      · rw [← hD] at y1 y2 y3
        rw [y3] at hn
        have h0 := hE.1
        have hst := hE.2 i (by omega) hEi' v hv hr hn
        obtain ⟨t', hb', _, ht', _, _, _, hp⟩ := ab_wcI h i (by omega) v c (by omega)
        obtain ⟨p1, p2, p3⟩ := hp y0
        rcases y with y | ⟨k1, x3, x5, xv, xb, xn⟩ | ⟨k2, kc, kV, kl⟩
        · exact absurd p1 y
        · exfalso
          obtain ⟨hu, e1, e2, ho⟩ := h.2.2.2.2.2.1 i hi' k1
          rcases ho with ⟨⟨j, hj, ho⟩, e0⟩ | ho
          · obtain ⟨f1, f0, f8, f6⟩ := ab_d2 ho x3
            have hjN : j < N := by omega
            have hDj := h.1 j hjN
            have f8' : ab_zD Z (j + 1) 1 (ab_zs Z j) c = 8 := by rw [hDj, x5]; exact f8
            have f6' : ab_zX Z i 6 = ab_zD Z (j + 1) 3 (ab_zs Z j) c := by rw [hDj, x5]; exact f6
            have ep : ab_zs Z j = ab_zD Z i 1 v c := by rw [xb, ← e1, f1]
            rw [ep] at f8' f6'
            have hne : ab_zD Z i 1 v c ≠ c := by
              intro e
              rw [e] at f6'
              have := ab_self h c (j + 1) (by omega)
              omega
            have hdp : d c (ab_zD Z i 1 v c) + 1 ≤ d c v := by omega
            have hEj : ab_zn Z (j + 1) ≤ E := Nat.le_trans (ab_nowm h (show j + 1 ≤ i by omega) (by omega)) hEi'
            rcases ih (j + 1) (by omega) (by omega) hEj (ab_zD Z i 1 v c) hne (by omega) (by omega) with z | ⟨z, _⟩
            · exact z f8'
            · omega
          · have := ho.1.2.1 x3
            rw [← x5] at this
            omega
        · refine Or.inr ⟨?_, i, by omega, ⟨k2, ev.symm, kc.symm, kV, kl⟩, by rw [y3], t', by rw [y3]; exact hb', by omega⟩
          have := hs v kl
          omega
/-- a way that is there leads straight on -/
theorem ax_gws {Z : ab_Z} {d : Nat → Nat → Nat} {N i v c r n E : Nat} (hW : ax_W Z d N) (hE : ax_E Z d N c r n E) (hi : i ≤ N) (hEi : ab_zn Z i ≤ E) (hvc : v ≠ c) (hv : d c v ≤ r) (hg : n ≤ ab_zD Z i 3 v c) (h8 : ab_zD Z i 1 v c ≠ 8) :
    ab_zu Z v (ab_zD Z i 1 v c) ∧ d c (ab_zD Z i 1 v c) + 1 = d c v ∧ d c v ≤ 7 ∧ (ab_zD Z i 1 v c ≠ c → ∀ j, i ≤ j → j ≤ N → n ≤ ab_zD Z j 3 (ab_zD Z i 1 v c) c) := by
  have hst := hE.2 i hi hEi v hvc hv hg
  have h0 := hE.1
  obtain ⟨_, _, _, _, _, _, _, hp⟩ := ab_wcI hW.1 i hi v c (by omega)
  obtain ⟨p1, p2, p3⟩ := hp h8
  have hlip := hW.2.2.1.2.1 c _ _ (hW.1.2.1 _ _ p1).1
  refine ⟨p1, by omega, hst.2, fun hne j hij hj => ?_⟩
  rcases p3 with p3 | p3
  · exact absurd p3 hne
  · have := ab_nrm (v := ab_zD Z i 1 v c) (c := c) hW.1 hij hj
    omega
theorem ax_gwi {Z : ab_Z} {d : Nat → Nat → Nat} {N i v c r n E : Nat} (hW : ax_W Z d N) (hE : ax_E Z d N c r n E) (hs : ∀ z, ab_zl Z z c → r ≤ d c z) (hi : i ≤ N) (hEi : ab_zn Z i ≤ E) (hv : d c v < r) (hvc : v ≠ c) (hg : n ≤ ab_zD Z i 3 v c) : ab_zD Z i 1 v c ≠ 8 := by
  rcases ax_nl hW hE hs i hi hEi v hvc (by omega) hg with z | z
  · exact z
  · omega
theorem ax_ride {Z : ab_Z} {d : Nat → Nat → Nat} {N c r k f nn l n E : Nat} (hW : ax_W Z d N) (hE : ax_E Z d N c r n E) (hs : ∀ z, ab_zl Z z c → r ≤ d c z) (hk : 3 ≤ k) : ∀ e i p q, i < N → d c p = e → 1 ≤ e → e ≤ r → e ≤ q → n ≤ ab_zD Z i 3 p c → ab_zD Z i 1 p c ≠ 8 →
    ab_zO Z i (ab_pt (ab_zn Z i) p (ab_zD Z i 1 p c) (ab_fr k f c nn l q)) → ab_zn Z i + e + 1 ≤ ab_zn Z N → ab_zn Z i + e ≤ E + 1 →
    ∃ m, i < m ∧ m < N ∧ ab_zK Z m = 1 ∧ ab_zs Z m = c ∧ ab_zX Z m 3 = k ∧ ab_zX Z m 4 = f ∧ ab_zX Z m 5 = c ∧ ab_zX Z m 6 = nn ∧ ab_zn Z m = ab_zn Z i + e := by
  intro e
  induction e with
  | zero => intro i p q _ _ h1; omega
  | succ e ih =>
    intro i p q hi hd _ hr hq hg h8 ho ht hEe
    have hpc : p ≠ c := by
      intro z
      have := hW.2.2.1.1 c
      rw [z] at hd
      omega
    obtain ⟨a1, a2, a3, a4⟩ := ax_gws hW hE (by omega) (by omega) hpc (by omega) hg h8
    obtain ⟨m, hm, hmN, k1, kx, kn, ks, kp⟩ := hW.2.1.1 i _ hi ho (by show ab_zn Z i + 2 ≤ _; omega)
    have kn' : ab_zn Z m = ab_zn Z i + 1 := kn
    have ks' : ab_zs Z m = ab_zD Z i 1 p c := ks
    by_cases hc : ab_zD Z i 1 p c = c
    · rw [hc] at a2
      have := hW.2.2.1.1 c
      refine ⟨m, hm, hmN, k1, by rw [ks', hc], by rw [kx]; rfl, by rw [kx]; rfl, by rw [kx]; rfl, by rw [kx]; rfl, by omega⟩
    · have hg2 := a4 hc m (by omega) (by omega)
      have he : 1 ≤ e := by
        rcases Nat.eq_zero_or_pos e with y | y
        · have : d c (ab_zD Z i 1 p c) = 0 := by omega
          exact absurd (hW.2.2.1.2.2.2.1 _ _ this).symm hc
        · exact y
      have h82 := ax_gwi hW hE hs (show m ≤ N by omega) (by omega) (by omega) hc hg2
      obtain ⟨b1, b2, _, _⟩ := ax_gws hW hE (show m ≤ N by omega) (by omega) hc (by omega) hg2 h82
      have ho2 : ab_zO Z m (ab_pt (ab_zn Z m) (ab_zD Z i 1 p c) (ab_zD Z m 1 (ab_zD Z i 1 p c) c) (ab_fr k f c nn l (q - 1))) := by
        unfold ab_zO ab_zY
        rw [k1, ab_do1, ks', kx]
        exact ab_cyo (x := ab_pt (ab_zn Z i) p (ab_zD Z i 1 p c) (ab_fr k f c nn l q)) (s := ab_zD Z i 1 p c) hk (fun z => hc z.symm) (by show 1 < q; omega) h82 b1
      obtain ⟨m2, c1, c2, c3, c4, c5, c6, c7, c8, c9⟩ := ih m _ (q - 1) hmN (by omega) he (by omega) (by omega) hg2 h82 ho2 (by omega) (by omega)
      exact ⟨m2, by omega, c2, c3, c4, c5, c6, c7, c8, by omega⟩
theorem ax_ridt {Z : ab_Z} {d : Nat → Nat → Nat} {N c r f nn n E : Nat} (hW : ax_W Z d N) (hE : ax_E Z d N c r n E) (hs : ∀ z, ab_zl Z z c → r ≤ d c z) : ∀ e i p l, i < N → d c p = e → 1 ≤ e → e ≤ r → n ≤ ab_zD Z (i + 1) 3 p c → ab_zD Z (i + 1) 1 p c ≠ 8 → ab_zK Z i = 1 →
    ab_zO Z i (ab_pt (ab_zn Z i) p (ab_zD Z (i + 1) 1 p c) (ab_fr 1 f c nn l 0)) → ab_zn Z i + e + 1 ≤ ab_zn Z N → ab_zn Z i + e ≤ E + 1 →
    ∃ m, i < m ∧ m < N ∧ ab_zK Z m = 1 ∧ ab_zs Z m = c ∧ ab_zX Z m 3 = 1 ∧ ab_zX Z m 4 = f ∧ ab_zX Z m 5 = c ∧ ab_zX Z m 6 = nn ∧ ab_zn Z m = ab_zn Z i + e := by
  intro e
  induction e with
  | zero => intro i p q _ _ h1; omega
  | succ e ih =>
    intro i p l hi hd _ hr hg h8 hk1 ho ht hEe
    have hpc : p ≠ c := by
      intro z
      have := hW.2.2.1.1 c
      rw [z] at hd
      omega
    have hni : ab_zn Z (i + 1) = ab_zn Z i := by
      rw [ab_now1 hW.1 hi, if_neg (by omega)]
    obtain ⟨a1, a2, a3, a4⟩ := ax_gws hW hE (show i + 1 ≤ N by omega) (by omega) hpc (by omega) hg h8
    obtain ⟨m, hm, hmN, k1, kx, kn, ks, kp⟩ := hW.2.1.1 i _ hi ho (by show ab_zn Z i + 2 ≤ _; omega)
    have kn' : ab_zn Z m = ab_zn Z i + 1 := kn
    have ks' : ab_zs Z m = ab_zD Z (i + 1) 1 p c := ks
    have hnm : ab_zn Z (m + 1) = ab_zn Z m := by
      rw [ab_now1 hW.1 hmN, if_neg (by omega)]
    by_cases hc : ab_zD Z (i + 1) 1 p c = c
    · rw [hc] at a2
      have := hW.2.2.1.1 c
      refine ⟨m, hm, hmN, k1, by rw [ks', hc], by rw [kx]; rfl, by rw [kx]; rfl, by rw [kx]; rfl, by rw [kx]; rfl, by omega⟩
    · have hg2 := a4 hc (m + 1) (by omega) (by omega)
      have he : 1 ≤ e := by
        rcases Nat.eq_zero_or_pos e with y | y
        · have : d c (ab_zD Z (i + 1) 1 p c) = 0 := by omega
          exact absurd (hW.2.2.1.2.2.2.1 _ _ this).symm hc
        · exact y
      have h82 := ax_gwi hW hE hs (show m + 1 ≤ N by omega) (by omega) (by omega) hc hg2
      have ho2 : ab_zO Z m (ab_pt (ab_zn Z m) (ab_zD Z (i + 1) 1 p c) (ab_zD Z (m + 1) 1 (ab_zD Z (i + 1) 1 p c) c) (ab_fr 1 f c nn (l + 1) 0)) := by
        have hY := hW.1.1 m hmN
        rw [hY] at h82 ⊢
        unfold ab_zO
        unfold ab_zY at h82 ⊢
        rw [k1, ab_do1, ks', kx] at h82 ⊢
        exact ab_tfo (x := ab_pt (ab_zn Z i) p (ab_zD Z (i + 1) 1 p c) (ab_fr 1 f c nn l 0)) (s := ab_zD Z (i + 1) 1 p c) rfl (fun z => hc z.symm) h82
      obtain ⟨m2, c1, c2, c3, c4, c5, c6, c7, c8, c9⟩ := ih m _ (l + 1) hmN (by omega) he (by omega) hg2 h82 k1 ho2 (by omega) (by omega)
      exact ⟨m2, by omega, c2, c3, c4, c5, c6, c7, c8, by omega⟩
/-- the question reaches its goal, the TELL comes back -/
theorem ax_qt {Z : ab_Z} {d : Nat → Nat → Nat} {N a x y r E : Nat} (hW : ax_W Z d N) (h0 : ab_t0 Z N) (hE : ax_E Z d N x r (ab_zD Z (a + 1) 4 x 0) E) (hs : ∀ z, ab_zl Z z x → r ≤ d x z) (hd : d x y = r) (h7 : r ≤ 7) (haN : a < N) (ha : ab_ask Z a x y) (hN : ab_zn Z a + 2 * r + 2 ≤ ab_zn Z N) (hEe : ab_zn Z a + 2 * r ≤ E + 1) :
    ∃ j m, a < j ∧ j < m ∧ m < N ∧ ab_zn Z j = ab_zn Z a + r ∧ ab_zD Z (a + 1) 4 x 0 ≤ ab_zD Z (j + 1) 3 y x ∧ ab_zK Z m = 1 ∧ ab_zs Z m = x ∧ ab_zX Z m 3 = 1 ∧ ab_zX Z m 4 = y ∧ ab_zn Z m = ab_zn Z a + 2 * r ∧
      ab_zD Z j 4 y 0 + 1 = ab_zX Z m 6 ∧ ab_zD Z (j + 1) 4 y 0 = ab_zX Z m 6 := by
  have hW' := hW
  obtain ⟨h, hL, hG, hl8, hq⟩ := hW'
  have hxy : x ≠ y := (hl8 _ _ ha.2.2.1).1
  have r1 : 1 ≤ r := by
    rcases Nat.eq_zero_or_pos r with e | e
    · exact absurd (hG.2.2.2.1 x y (by omega)) hxy
    · exact e
  obtain ⟨q1, q2, q3⟩ := ab_qf h haN ha
  have hgd : ab_gd (ab_zu Z) y x r y := ab_gdb hG y x r y hd h7 (by omega)
  obtain ⟨j, haj, hjN, hf, hjn, x5, x6⟩ := ab_flood h hL haN ha.1 ha.2.1 ha.2.2.2 r y hgd (fun e => hxy e.symm) (by omega)
  obtain ⟨f1, f2, f3, f4, f5, f6⟩ := hf
  have hbq : ab_bn Z N x (ab_zD Z (a + 1) 4 x 0) (ab_zn Z a) := ⟨a, haN, rfl, by omega, Nat.le_refl _⟩
  have hjn2 : ab_zn Z j = ab_zn Z a + r := by
    obtain ⟨b, hb1, hb2, hb3, hb4, hb5, hb6⟩ := ab_hrd h hjN f1 (by omega) (by rw [f4, x6]; exact q2)
    obtain ⟨c1, c2, c3, c4, c5, c6⟩ := ab_fcI h b (by omega) _ hb2 (by omega) (by rw [f4, x6]; exact q2)
    rw [f4, x6] at c1
    rw [f4] at c4
    have e := ab_bnu h c1 hbq
    have hlip := hG.2.1 x _ _ hb6
    rw [← hb4, f2] at hlip
    omega
  have hDj := h.1 j hjN
  have hnj : ab_zn Z (j + 1) = ab_zn Z j := by
    rw [ab_now1 h hjN, if_neg (by omega)]
  have hnr : ab_zD Z (a + 1) 4 x 0 ≤ ab_zD Z (j + 1) 3 y x := by
    have := ab_hnr (u := ab_zu Z) (ac := ab_za Z) (s := y) (p := ab_zp Z j) (x := ab_zX Z j) (D := ab_zD Z j) (Or.inl ⟨f3, by rw [f4, f5]; exact f6⟩) (by rw [f4]; exact fun e => hxy e.symm)
    rw [hDj, ← x6]
    unfold ab_zY
    rw [f1, ab_do1, f2]
    rw [f4] at this
    exact this
  have h8 : ab_zD Z (j + 1) 1 y x ≠ 8 := by
    rcases ax_nl hW hE hs (j + 1) (by omega) (by omega) y (fun e => hxy e.symm) (by omega) hnr with z | ⟨_, b, hb1, hb2, _, t, hbt, hb3⟩
    · exact z
    · exfalso
      have hta := ab_bnl h hbq hbt hnr
      have hbj : b < j := by
        by_cases e : b = j
        · have := hb2.1
          rw [e] at this
          omega
        · omega
      have := ab_urg h hL h0 hjN hbj f1 hb2.1 (by rw [hb2.2.1, hb2.2.2.1]; exact hb2.2.2.2.2) (by omega)
      omega
  have ho : ab_zO Z j (ab_pt (ab_zn Z j) y (ab_zD Z (j + 1) 1 y x) (ab_fr 1 y x (ab_zD Z (j + 1) 4 y 0) 0 0)) := by
    rw [hDj] at h8 ⊢
    unfold ab_zO
    unfold ab_zY at h8 ⊢
    rw [f1, ab_do1, f2] at h8 ⊢
    have := ab_tlo (u := ab_zu Z) (ac := ab_za Z) (s := y) (p := ab_zp Z j) (x := ab_zX Z j) (D := ab_zD Z j) f3 (by rw [f4, f5]; exact f6) x5 (by rw [f4]; exact h8)
    rw [f4] at this
    exact this
  obtain ⟨m, m1, m2, m3, m4, m5, m6, m7, m8, m9⟩ := ax_ridt hW hE hs r j y 0 hjN hd r1 (Nat.le_refl _) hnr h8 f1 ho (by omega) (by omega)
  refine ⟨j, m, haj, m1, m2, hjn2, hnr, m3, m4, m5, m6, by omega, ?_, m8.symm⟩
  rw [m8]
  have := (ab_d1 ho (show (1 : Nat) ≤ 1 by omega)).2.2.2
  rcases this with ⟨_, z, _⟩ | ⟨_, _, _, z, _⟩
  · rw [f3] at z
    have z' : (0 : Nat) = 1 := z
    omega
  · have z' : (ab_zY Z j).1 4 (ab_zs Z j) 0 = ab_zD Z j 4 (ab_zs Z j) 0 + 1 := z
    rw [← hDj, f2] at z'
    exact z'.symm
/-- the piece goes off, at the latest when the TELL is back -/
theorem ax_go {Z : ab_Z} {d : Nat → Nat → Nat} {N a x y r m Ey ny : Nat} (hW : ax_W Z d N) (h0 : ab_t0 Z N) (hE : ax_E Z d N y r ny Ey) (hs : ∀ z, ab_zl Z z y → r ≤ d y z) (hd : d x y = r) (h7 : r ≤ 7) (haN : a < N) (ha : ab_ask Z a x y) (hN : ab_zn Z a + 2 * r + 2 ≤ ab_zn Z N)
    (o3 : m < N) (o6 : ab_zK Z m = 1) (o7 : ab_zs Z m = x) (o8 : ab_zX Z m 3 = 1) (o9 : ab_zX Z m 4 = y) (o10 : ab_zn Z m = ab_zn Z a + 2 * r) (hbT : ab_bn Z N y (ab_zX Z m 6) (ab_zn Z a + r)) (hny : ny ≤ ab_zX Z m 6) (hEy : ab_zn Z a + 2 * r ≤ Ey) :
    ∃ k, a < k ∧ k < N ∧ ab_go Z k x y ∧ ab_zn Z a < ab_zn Z k ∧ ab_zn Z k ≤ ab_zn Z a + 2 * r := by
  have hW' := hW
  obtain ⟨h, hL, hG, hl8, hq⟩ := hW'
  have hxy : x ≠ y := (hl8 _ _ ha.2.2.1).1
  have hdy : d y x = r := by rw [hG.2.2.1]; exact hd
  have hn0 := ab_nowm h (Nat.zero_le a) (by omega)
  have r1 : 1 ≤ r := by
    rcases Nat.eq_zero_or_pos r with e | e
    · exact absurd (hG.2.2.2.1 x y (by omega)) hxy
    · exact e
  obtain ⟨k, hk, kn, kk, ks, kp, kall⟩ := hL.2.1 (ab_zn Z a + 2 * r) x y (by omega) (by omega) ha.2.2.1
  have hmk := kall m o3 o10 o6
  have hak : a < k := by
    by_cases e : a < k
    · exact e
    · have := ab_nowm h (show k ≤ a by omega) (by omega)
      omega
  rcases ab_att h hL haN ha k (by omega) (by omega) (by omega) with ⟨k', b1, b2, b3, b4⟩ | ⟨z7, z6⟩
  · have := ab_nowm h (show k' ≤ k by omega) (by omega)
    exact ⟨k', b1, by omega, b3, b4, by omega⟩
  · have hDm := h.1 m o3
    have hnr : ab_zX Z m 6 ≤ ab_zD Z k 3 x y := by
      have := ab_hnr (u := ab_zu Z) (ac := ab_za Z) (s := x) (p := ab_zp Z m) (x := ab_zX Z m) (D := ab_zD Z m) (Or.inr o8) (by rw [o9]; exact hxy)
      refine Nat.le_trans ?_ (ab_nrm h (show m + 1 ≤ k by omega) (by omega))
      rw [hDm]
      unfold ab_zY
      rw [o6, ab_do1, o7]
      rw [o9] at this
      exact this
    have h8 : ab_zD Z k 1 x y ≠ 8 := by
      rcases ax_nl hW hE hs k (by omega) (by omega) x hxy (by omega) (by omega) with z | ⟨_, b, hb1, hb2, hbn, t, hbt, hb3⟩
      · exact z
      · exfalso
        -- V(x,y) behind the asking
        have hmb : a < b := by
          by_cases e : a < b
          · exact e
          · have := ab_nowm h (show b ≤ a by omega) (by omega)
            have := ab_bnl h hbT hbt hnr
            omega
        have := ab_vsp h hL h0 hmb (by omega) hb2 ha
        have := ab_nowm h (show b ≤ k by omega) (by omega)
        omega
    obtain ⟨g1, _⟩ := ax_gws hW hE (show k ≤ N by omega) (by omega) hxy (by omega) (by omega) h8
    refine ⟨k, by omega, hk, ?_, by omega, by omega⟩
    rcases ab_uc (u := ab_zu Z) (lv := ab_zl Z) (cf := ab_zc Z) (a := x) (b := y) (D := ab_zD Z k) with ⟨_, z⟩ | ⟨_, _, ⟨z, z2, z0, z1, yy⟩ | ⟨z, yy⟩⟩
    · exact absurd ⟨ha.2.2.1, Or.inl z7⟩ z
    · refine ⟨kk, ks, kp, h8, g1, ?_, z7⟩
      unfold ab_zO ab_zY
      rw [kk, ab_do2, ks, kp, yy.2]
      show ab_pt (ab_zn Z k) x (ab_zD Z k 1 x y) (ab_fr 3 x y (ab_zc Z x y) 0 8) = ab_pt (ab_w (ab_w (ab_w (ab_zD Z k) 9 x y z) 7 x y 1) 8 x y (ab_zD Z k 0 0 0) 0 0 0) x (ab_zD Z k 1 x y) (ab_fr 3 x y (ab_zc Z x y) 0 8)
      rw [ab_wf (by decide), ab_wf (by decide), ab_wf (by decide)]
    · rcases z with z | z
      · exact absurd ⟨h8, g1⟩ z
      · exact absurd z7 z.1
/-- AN ATTEMPT fails only by V(y,x) -/
theorem ax_try {Z : ab_Z} {d : Nat → Nat → Nat} {N a x y r Ex Ey ny : Nat} (hW : ax_W Z d N) (h0 : ab_t0 Z N) (hnp : ab_np Z N) (hEx : ax_E Z d N x r (ab_zD Z (a + 1) 4 x 0) Ex) (hEy : ax_E Z d N y r ny Ey)
    (hsx : ∀ z, ab_zl Z z x → r ≤ d x z) (hsy : ∀ z, ab_zl Z z y → r ≤ d y z) (hd : d x y = r) (h7 : r ≤ 7) (haN : a < N) (ha : ab_ask Z a x y)
    (hN : ab_zn Z a + 4 * r + 2 ≤ ab_zn Z N) (hex : ab_zn Z a + 4 * r ≤ Ex + 1) (hey : ab_zn Z a + 3 * r ≤ Ey + 1) (hny : ∀ n, ab_bn Z N y n (ab_zn Z a + r) → ny ≤ n)
    (hg : ∀ k, a < k → k < N → ab_zn Z k ≤ ab_zn Z a + 2 * r → ab_go Z k x y → ny ≤ ab_zD Z k 3 x y) :
    ∃ j, a < j ∧ j < N ∧ ab_vv Z j y x ∧ ab_zn Z a + r ≤ ab_zn Z j ∧ ab_zn Z j ≤ ab_zn Z a + 3 * r ∧ ab_zD Z (a + 1) 4 x 0 ≤ ab_zD Z j 3 y x := by
  have hW' := hW
  obtain ⟨h, hL, hG, hl8, hq⟩ := hW'
  have hxy : x ≠ y := (hl8 _ _ ha.2.2.1).1
  have hdy : d y x = r := by rw [hG.2.2.1]; exact hd
  have r1 : 1 ≤ r := by
    rcases Nat.eq_zero_or_pos r with e | e
    · exact absurd (hG.2.2.2.1 x y (by omega)) hxy
    · exact e
  obtain ⟨q1, q2, q3⟩ := ab_qf h haN ha
  obtain ⟨jT, m, o1, o2, o3, o4, o5, o6, o7, o8, o9, o10, o11, o12⟩ := ax_qt hW h0 hEx hsx hd h7 haN ha (by omega) (by omega)
  have hbq : ab_bn Z N x (ab_zD Z (a + 1) 4 x 0) (ab_zn Z a) := ⟨a, haN, rfl, by omega, Nat.le_refl _⟩
  have hbt : ab_bn Z N y (ab_zX Z m 6) (ab_zn Z a + r) := ⟨jT, by omega, o4, by omega, by omega⟩
  obtain ⟨k, k1, k2, ⟨g1, g2, g3, g4, g5, g6, g7⟩, k4, k5⟩ := ax_go hW h0 hEy hsy hd h7 haN ha (by omega) o3 o6 o7 o8 o9 o10 hbt (hny _ hbt) (by omega)
  have hgk := hg k k1 k2 k5 ⟨g1, g2, g3, g4, g5, g6, g7⟩
  obtain ⟨p, p1, p2, p3, p4, p5, p6, p7, p8, p9⟩ := ax_ride hW hEy hsy (by omega) r k x 8 k2 hdy r1 (Nat.le_refl _) (by omega) hgk g4 g6 (by omega) (by omega)
  have hac := hnp.1 p p2 p3 p5 (by rw [p7, p4])
  rw [p6, p8, p4] at hac
  have hac2 : ab_za Z x y = ab_zc Z x y + 1 := by
    rcases hnp.2.2 x y ha.2.2.1 with z | z
    · exact absurd z.symm hac
    · exact z
  have hjp : jT < p := by
    by_cases e : jT < p
    · exact e
    · have := ab_nowm h (show p ≤ jT by omega) (by omega)
      omega
  have hnr : ab_zD Z (a + 1) 4 x 0 ≤ ab_zD Z p 3 y x := Nat.le_trans o5 (ab_nrm h (by omega) (by omega))
  rcases ax_nl hW hEx hsx p (by omega) (by omega) y (fun e => hxy e.symm) (by omega) hnr with z | ⟨_, b, hb1, hb2, hb4, t, w2, hb3⟩
  · exfalso
    obtain ⟨v1, _⟩ := ax_gws hW hEx (show p ≤ N by omega) (by omega) (fun e => hxy e.symm) (by omega) hnr z
    have ho : ab_zO Z p (ab_pt (ab_zn Z p) y (ab_zD Z p 1 y x) (ab_fr 4 y x (ab_za Z x y) 0 8)) := by
      unfold ab_zO ab_zY
      rw [p3, ab_do1, p4]
      have := ab_ano (u := ab_zu Z) (ac := ab_za Z) (s := y) (p := ab_zp Z p) (x := ab_zX Z p) (D := ab_zD Z p) p5 p7 (by rw [p6]; exact z) (by rw [p6]; exact v1)
      rw [p6] at this
      exact this
    obtain ⟨f, f1, f2, f3, f4, f5, f6, f7, f8, f9⟩ := ax_ride hW hEx hsx (by omega) r p y 8 p2 hd r1 (Nat.le_refl _) (by omega) hnr z ho (by omega) (by omega)
    have := hnp.2.1 f f2 f3 f5 (by rw [f7, f4])
    rw [f4, f6, f8] at this
    exact this hac2
  · have hta := ab_bnl h hbq w2 hnr
    have hbn := ab_nowm h (show b ≤ p by omega) (by omega)
    refine ⟨b, ?_, by omega, hb2, by omega, by omega, ?_⟩
    · by_cases e : a < b
      · exact e
      · have := ab_nowm h (show b ≤ a by omega) (by omega)
        omega
    · rw [hb4]; exact hnr
/-- QUIET: the numbers of c from n on are exact until E, if no TELL of c that is 2 moments old by then is among them (but for exact ones) -/
theorem ax_q {Z : ab_Z} {d : Nat → Nat → Nat} {N c r n E : Nat} (hW : ax_W Z d N) (hn0 : ab_zD Z 0 4 c 0 < n) (hg : ∀ g, ab_zl Z c g → r ≤ d c g)
    (hqt : ∀ j z a', j < N → n ≤ ab_zD Z (j + 1) 4 c 0 → ab_zn Z j + 2 ≤ E → ¬ ab_tb Z d j a' c z) (ht : ∀ m t, n ≤ m → ab_bn Z N c m t → ab_zn Z 0 + 10 ≤ t) : ax_E Z d N c r n E := by
  obtain ⟨h, hL, hG, hl8, hq⟩ := hW
  have hl : ∀ a b, ab_zl Z a b → a ≠ b := fun a b z => (hl8 a b z).1
  refine ⟨hn0, fun i hi hE v hv hr hn => ?_⟩
  have hnr : ab_zD Z 0 4 c 0 < ab_zD Z i 3 v c := by omega
  obtain ⟨t', hb', hd, ht1, ht2, _⟩ := ab_wcI h i hi v c hnr
  obtain ⟨m, hm, s1, s2, s3, s4, s5, s6, s7, s8⟩ := ab_srcI h i hi v c hnr
  have m3 : ab_zX Z m 3 ≤ 1 := by rcases s3 with ⟨y, _⟩ | y <;> omega
  have mr : ab_rc Z (ab_zX Z m) := ⟨m3, Or.inl (by rw [s4]; omega)⟩
  rcases s3 with ⟨x3, xs⟩ | x3
  · obtain ⟨b, hbm, hba, hb6, hb8, hbt'⟩ := ab_hask h (by omega) s1 x3 mr
    have hwk := ab_hatr h hl (by omega) s1 x3 mr
    rw [s4] at hba hb6 hb8 hwk
    rw [s2] at hwk
    have h7 := ab_gd7 hG _ _ _ _ hwk
    have := ab_qx h hL (show b < N by omega) hba hi (by rw [← s5, hb6]) (ab_gdb hG _ _ _ _ rfl h7 (Nat.le_trans hr (hg _ hba.2.2.1)))
    exact ⟨by omega, h7⟩
  · obtain ⟨r', hrm, hor, r0, r1, r2, ru⟩ := ab_hrc h (show m < N by omega) s1 mr
    obtain ⟨j, hj, hbj⟩ := ab_fbI h r' (by omega) _ hor mr
    have hbj' := hbj
    obtain ⟨b1, b2, b3, b4, b5⟩ := hbj
    rw [s4] at b1 b3 b4
    have hbn : ab_bn Z N c (ab_zD Z i 3 v c) (ab_zn Z j) := ⟨j, by omega, rfl, by omega, by omega⟩
    have ejt : t' = ab_zn Z j := ab_bnu h hb' hbn
    obtain ⟨a, ha⟩ := ab_tbI h hL hG hl hq (show j < N by omega) hbj' x3 (ht _ _ hn hbn)
    rw [s4] at ha
    by_cases e : ab_zn Z j + 2 ≤ E
    · exact absurd ha (hqt j _ a (by omega) (by omega) e)
    · have : 1 ≤ d c v := by
        rcases Nat.eq_zero_or_pos (d c v) with y | y
        · exact absurd (hG.2.2.2.1 _ _ y).symm hv
        · exact y
      exact ⟨by omega, by omega⟩
/-- numbers given out behind a step are born from its moment on -/
theorem ax_bge {Z : ab_Z} {d : Nat → Nat → Nat} {N c k m t : Nat} {lm : Nat} (h : ab_RL lm Z d N) (hk : k ≤ N) (hm : ab_zD Z k 4 c 0 < m) (hb : ab_bn Z N c m t) : ab_zn Z k ≤ t := by
  obtain ⟨j, j1, j2, j3, j4⟩ := hb
  by_cases e : k ≤ j
  · have := ab_nowm h e (by omega)
    omega
  · have := ab_ownm (c := c) h (show j + 1 ≤ k by omega) hk
    omega
theorem ax_d1 {Z : ab_Z} {d : Nat → Nat → Nat} {N x z : Nat} (hW : ax_W Z d N) (h : x ≠ z) : 1 ≤ d x z := by
  rcases Nat.eq_zero_or_pos (d x z) with y | y
  · exact absurd (hW.2.2.1.2.2.2.1 _ _ y) h
  · exact y
/-- an early piece: it goes off on a way whose number is older than the asking -/
def ax_ear (Z : ab_Z) (N a x y : Nat) : Prop := ∃ k, a < k ∧ k < N ∧ ab_zn Z k ≤ ab_zn Z a + 2 * 1 ∧ ab_go Z k x y ∧ ab_zD Z k 3 x y ≤ ab_zD Z (a + 1) 4 y 0
/-- NEIGHBOURS: an attempt fails only by V(y,x), or by an early piece, or if x, as a goal, sends a TELL a moment later -/
theorem ax_near {Z : ab_Z} {d : Nat → Nat → Nat} {N a x y : Nat} (hW : ax_W Z d N) (h0 : ab_t0 Z N) (hnp : ab_np Z N) (hd : d x y = 1) (haN : a < N) (ha : ab_ask Z a x y) (ht : ab_zn Z 0 + 10 ≤ ab_zn Z a)
    (hN : ab_zn Z a + 6 ≤ ab_zn Z N) : ax_ear Z N a x y ∨ (∃ j z a', j < N ∧ a < j ∧ ab_zn Z j = ab_zn Z a + 1 ∧ ab_tb Z d j a' x z) ∨
    ∃ j, a < j ∧ j < N ∧ ab_vv Z j y x ∧ ab_zn Z a + 1 ≤ ab_zn Z j ∧ ab_zn Z j ≤ ab_zn Z a + 3 * 1 ∧ ab_zD Z (a + 1) 4 x 0 ≤ ab_zD Z j 3 y x := by
  have hW' := hW
  obtain ⟨h, hL, hG, hl8, hq⟩ := hW'
  have hxy : x ≠ y := (hl8 _ _ ha.2.2.1).1
  obtain ⟨q1, q2, q3⟩ := ab_qf h haN ha
  by_cases e1 : ax_ear Z N a x y
  · exact Or.inl e1
  refine Or.inr ?_
  by_cases e2 : ∃ j z a', j < N ∧ a < j ∧ ab_zn Z j = ab_zn Z a + 1 ∧ ab_tb Z d j a' x z
  · exact Or.inl e2
  refine Or.inr ?_
  have hna : ab_zn Z (a + 1) = ab_zn Z a := by
    rw [ab_now1 h haN, if_neg (by rw [ha.2.2.2.1]; omega)]
  -- a hearing behind a comes in a later moment
  have later : ∀ j, j < N → a < j → ab_zK Z j = 1 → ab_zn Z j < ab_zn Z N → ab_zn Z a < ab_zn Z j := by
    intro j hj haj k1 hjN
    exact ab_urg h hL h0 hj haj k1 ha.2.2.2.1 (by rw [ha.1, ha.2.1]; exact ha.2.2.1) hjN
  have hEx : ax_E Z d N x 1 (ab_zD Z (a + 1) 4 x 0) (ab_zn Z a + 3) := by
    refine ax_q hW q2 (fun g hg => ax_d1 hW (hl8 _ _ hg).1) (fun j z a' hj hjn hje htb => ?_) (fun m t hm hb => ?_)
    · have haj : a < j := by
        by_cases e : a < j
        · exact e
        · exfalso
          have : j ≠ a := by
            intro z
            have h1 := htb.2.2.1
            have h2 := ha.2.2.2.1
            rw [z] at h1
            omega
          have := ab_ownm (c := x) h (show j + 1 ≤ a by omega) (by omega)
          omega
      have := later j hj haj htb.2.2.1 (by omega)
      exact e2 ⟨j, z, a', hj, haj, by omega, htb⟩
    · have := ax_bge h (show a ≤ N by omega) (show ab_zD Z a 4 x 0 < m by omega) hb
      omega
  have hy0 : ab_zD Z 0 4 y 0 < ab_zD Z (a + 1) 4 y 0 + 1 := by
    have := ab_ownm (c := y) h (Nat.zero_le (a + 1)) (by omega)
    omega
  have hEy : ax_E Z d N y 1 (ab_zD Z (a + 1) 4 y 0 + 1) (ab_zn Z a + 2) := by
    refine ax_q hW hy0 (fun g hg => ax_d1 hW (hl8 _ _ hg).1) (fun j z a' hj hjn hje htb => ?_) (fun m t hm hb => ?_)
    · have haj : a < j := by
        by_cases e : a < j
        · exact e
        · exfalso
          have := ab_ownm (c := y) h (show j + 1 ≤ a + 1 by omega) (by omega)
          omega
      have := later j hj haj htb.2.2.1 (by omega)
      omega
    · have := ax_bge h (show a + 1 ≤ N by omega) (show ab_zD Z (a + 1) 4 y 0 < m by omega) hb
      omega
  refine ax_try hW h0 hnp hEx hEy (fun z hz => ax_d1 hW (fun e => (hl8 _ _ hz).1 e.symm)) (fun z hz => ax_d1 hW (fun e => (hl8 _ _ hz).1 e.symm)) hd (by omega) haN ha (by omega) (by omega) (by omega) (fun n hb => ?_) (fun k k1 k2 k3 k4 => ?_)
  · obtain ⟨j, j1, j2, j3, j4⟩ := hb
    have : a + 1 ≤ j := by
      by_cases e : a + 1 ≤ j
      · exact e
      · have := ab_nowm h (show j ≤ a by omega) (by omega)
        omega
    have := ab_ownm (c := y) h this (by omega)
    omega
  · by_cases e : ab_zD Z (a + 1) 4 y 0 + 1 ≤ ab_zD Z k 3 x y
    · exact e
    · exact absurd ⟨k, k1, k2, k3, k4, by omega⟩ e1
