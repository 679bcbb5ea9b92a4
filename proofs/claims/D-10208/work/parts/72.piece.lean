/-! ## the first piece: on the number of T, or on one newer number -/
theorem ax_Pr {Z : ab_Z} {d : Nat → Nat → Nat} {N y nT tT R B E T0 k f nn l : Nat} (hW : ax_W Z d N) (hn0 : ab_zD Z 0 4 y 0 < nT) (hbT : ab_bn Z N y nT tT) (hk : 3 ≤ k)
    (hnv : ∀ j q, j < N → ab_zn Z j ≤ E → ab_vv Z j q y → ab_zD Z j 3 q y < nT)
    (htwo : ∀ i1 v1 i2 v2, i1 ≤ N → i2 ≤ N → ab_zn Z i1 ≤ E → ab_zn Z i2 ≤ E → nT < ab_zD Z i1 3 v1 y → nT < ab_zD Z i2 3 v2 y → ab_zD Z i1 3 v1 y = ab_zD Z i2 3 v2 y)
    (hB : T0 + 2 * (R - 1) ≤ tT + B) (hRB : R ≤ B) (hB8 : B ≤ 8) (hE : T0 + B ≤ E) (hN : T0 + B + 2 ≤ ab_zn Z N) :
    ∀ q e i v, e + q = B → i < N → v ≠ y → ab_zn Z i = T0 + e → nT ≤ ab_zD Z i 3 v y → (ab_zD Z i 3 v y = nT → e + ab_zD Z i 2 v y ≤ R) → (nT < ab_zD Z i 3 v y → e + ab_zD Z i 2 v y ≤ B) →
      ab_zO Z i (ab_pt (ab_zn Z i) v (ab_zD Z i 1 v y) (ab_fr k f y nn l (8 - e))) →
      ∃ p, i < p ∧ p < N ∧ ab_zK Z p = 1 ∧ ab_zs Z p = y ∧ ab_zX Z p 3 = k ∧ ab_zX Z p 4 = f ∧ ab_zX Z p 5 = y ∧ ab_zX Z p 6 = nn ∧ ab_zn Z p ≤ T0 + B := by
  have h := hW.1
  have hG := hW.2.2.1
  have nv : ∀ i, i ≤ N → ab_zn Z i ≤ E → ax_nv Z y nT i := by
    intro i hi hin j q hj hv
    have := ab_nowm h (show j ≤ i by omega) hi
    exact hnv j q (by omega) (by omega) hv
  intro q
  induction q with
  | zero =>
    intro e i v heq hi hv hin hnum hA hC ho
    exfalso
    obtain ⟨_, _, _, _, d1, _⟩ := ab_wcI h i (by omega) v y (by omega)
    by_cases en : ab_zD Z i 3 v y = nT
    · have := hA en
      omega
    · have := hC (by omega)
      omega
  | succ q ih =>
    intro e i v heq hi hv hin hnum hA hC ho
    have h8 := ax_pres h hn0 i (by omega) (nv i (by omega) (by omega)) v hv hnum
    obtain ⟨_, _, _, _, dv1, _, _, hpn1⟩ := ab_wcI h i (by omega) v y (by omega)
    obtain ⟨lk, r2, _⟩ := hpn1 h8
    obtain ⟨m1, hm1, hmN, k1, kx, kn, ks, kp⟩ := hW.2.1.1 i _ hi ho (by show ab_zn Z i + 2 ≤ _; omega)
    have kn' : ab_zn Z m1 = ab_zn Z i + 1 := kn
    have ks' : ab_zs Z m1 = ab_zD Z i 1 v y := ks
    by_cases hc : ab_zD Z i 1 v y = y
    · exact ⟨m1, hm1, hmN, k1, by rw [ks', hc], by rw [kx]; rfl, by rw [kx]; rfl, by rw [kx]; rfl, by rw [kx]; rfl, by omega⟩
    · generalize hv' : ab_zD Z i 1 v y = v' at *
      have hch := ax_ch h hn0 i (by omega) (nv i (by omega) (by omega)) v hv hnum
      rw [hv'] at hch
      have mono := ab_nrm (v := v') (c := y) h (show i ≤ m1 by omega) (by omega)
      have hnum' : nT ≤ ab_zD Z m1 3 v' y := by
        rcases hch with z | z | z
        · exact absurd z hc
        · omega
        · omega
      have h82 := ax_pres h hn0 m1 (by omega) (nv m1 (by omega) (by omega)) v' hc hnum'
      obtain ⟨t', hb', _, ht', dv2, _, _, hpn2⟩ := ab_wcI h m1 (by omega) v' y (by omega)
      obtain ⟨b1, _, _⟩ := hpn2 h82
      have d1' : 1 ≤ d y v' := ax_d1 hW (fun q => hc q.symm)
      have lb := ab_bnl h hbT hb' hnum'
      have le7 : e < 7 := by
        by_cases en : ab_zD Z i 3 v y = nT
        · have := hA en
          omega
        · have := hC (by omega)
          omega
      have ho2 : ab_zO Z m1 (ab_pt (ab_zn Z m1) v' (ab_zD Z m1 1 v' y) (ab_fr k f y nn l (8 - (e + 1)))) := by
        unfold ab_zO ab_zY
        rw [k1, ab_do1, ks', kx, show 8 - (e + 1) = 8 - e - 1 by omega]
        exact ab_cyo (x := ab_pt (ab_zn Z i) v v' (ab_fr k f y nn l (8 - e))) (s := v') (show 3 ≤ k by omega) (fun z => hc z.symm) (show 1 < 8 - e by omega) h82 b1
      -- with the same number: fewer links
      have same : ab_zD Z m1 3 v' y = ab_zD Z i 3 v y → ab_zD Z m1 2 v' y < ab_zD Z i 2 v y := by
        intro es
        have ei : ab_zD Z i 3 v' y = ab_zD Z i 3 v y ∧ ab_zD Z i 2 v' y < ab_zD Z i 2 v y := by
          rcases hch with z | z | z
          · exact absurd z hc
          · omega
          · exact z
        have cs := ax_cst h hn0 hc (show nT ≤ ab_zD Z i 3 v' y by omega) m1 (by omega) (by omega) (nv m1 (by omega) (by omega)) (by omega)
        omega
      obtain ⟨p, p1, p2⟩ := ih (e + 1) m1 v' (by omega) hmN hc (by omega) hnum' (fun en' => by
        have en : ab_zD Z i 3 v y = nT := by
          rcases hch with z | z | z
          · exact absurd z hc
          · omega
          · omega
        have := same (by omega)
        have := hA en
        omega) (fun gt' => by
        by_cases en : ab_zD Z i 3 v y = nT
        · have := hA en
          omega
        · have es := htwo m1 v' i v (by omega) (by omega) (by omega) (by omega) gt' (by omega)
          have := same es
          have := hC (by omega)
          omega) ho2
      exact ⟨p, by omega, p2⟩
/-- a question reaches its goal, and the TELL goes off -/
theorem ax_birth3 {Z : ab_Z} {d : Nat → Nat → Nat} {N a x y : Nat} (hW : ax_W Z d N) (hk8 : ∀ i, i ≤ N → ab_zn Z i ≤ ab_zn Z a + d x y → ab_zD Z (a + 1) 4 x 0 ≤ ab_zD Z i 3 y x → ab_zD Z i 1 y x ≠ 8) (h7 : d x y ≤ 7) (haN : a < N) (ha : ab_ask Z a x y) (hN : ab_zn Z a + d x y + 2 ≤ ab_zn Z N) :
    ∃ j w, j < N ∧ ab_tb Z d j a y x ∧ ax_fr Z N j y x j w ∧ w 7 = 0 ∧ ab_zD Z (a + 1) 4 x 0 ≤ ab_zD Z (j + 1) 3 y x := by
  have hW' := hW
  obtain ⟨h, hL, hG, hl8, hq⟩ := hW'
  have hxy : x ≠ y := (hl8 _ _ ha.2.2.1).1
  obtain ⟨q1, q2, q3⟩ := ab_qf h haN ha
  have hgd : ab_gd (ab_zu Z) y x (d x y) y := ab_gdb hG y x (d x y) y rfl h7 (Nat.le_refl _)
  obtain ⟨j, haj, hjN, hf, hjn, x5, x6⟩ := ab_flood h hL haN ha.1 ha.2.1 ha.2.2.2 (d x y) y hgd (fun e => hxy e.symm) (by omega)
  obtain ⟨f1, f2, f3, f4, f5, f6⟩ := hf
  have hbq : ab_bn Z N x (ab_zD Z (a + 1) 4 x 0) (ab_zn Z a) := ⟨a, haN, rfl, by omega, Nat.le_refl _⟩
  have hjn2 : ab_zn Z j = ab_zn Z a + d x y := by
    obtain ⟨b, hb1, hb2, hb3, hb4, hb5, hb6⟩ := ab_hrd h hjN f1 (by omega) (by rw [f4, x6]; exact q2)
    obtain ⟨c1, c2, c3, c4, c5, c6⟩ := ab_fcI h b (by omega) _ hb2 (by omega) (by rw [f4, x6]; exact q2)
    rw [f4, x6] at c1
    rw [f4] at c4
    have e := ab_bnu h c1 hbq
    have hlip := hG.2.1 x _ _ hb6
    rw [← hb4, f2] at hlip
    omega
  have hDj := h.1 j hjN
  have hn1 : ab_zn Z (j + 1) = ab_zn Z j := by rw [ab_now1 h hjN, if_neg (by omega)]
  have hnr : ab_zD Z (a + 1) 4 x 0 ≤ ab_zD Z (j + 1) 3 y x := by
    have := ab_hnr (u := ab_zu Z) (ac := ab_za Z) (s := y) (p := ab_zp Z j) (x := ab_zX Z j) (D := ab_zD Z j) (Or.inl ⟨f3, by rw [f4, f5]; exact f6⟩) (by rw [f4]; exact fun e => hxy e.symm)
    rw [hDj, ← x6]
    unfold ab_zY
    rw [f1, ab_do1, f2]
    rw [f4] at this
    exact this
  have h8 : ab_zD Z (j + 1) 1 y x ≠ 8 := hk8 (j + 1) (by omega) (by omega) hnr
  have ho : ab_zO Z j (ab_pt (ab_zn Z j) y (ab_zD Z (j + 1) 1 y x) (ab_fr 1 y x (ab_zD Z (j + 1) 4 y 0) 0 0)) := by
    rw [hDj] at h8 ⊢
    unfold ab_zO
    unfold ab_zY at h8 ⊢
    rw [f1, ab_do1, f2] at h8 ⊢
    have := ab_tlo (u := ab_zu Z) (ac := ab_za Z) (s := y) (p := ab_zp Z j) (x := ab_zX Z j) (D := ab_zD Z j) f3 (by rw [f4, f5]; exact f6) x5 (by rw [f4]; exact h8)
    rw [f4] at this
    exact this
  have htb : ab_tb Z d j a y x := ⟨haj, ha, f1, f2, f3, f4, x5, x6, hjn2, h7, by rw [f5]; exact f6⟩
  have gr := ax_tgrow h htb hjN
  have y0 := ab_ownm (c := y) h (Nat.zero_le j) (by omega)
  refine ⟨j, _, hjN, htb, ⟨hjN, ho, rfl, ⟨by show (1 : Nat) ≤ 1; omega, Or.inl ?_⟩, ?_, rfl, rfl⟩, rfl, hnr⟩
  · show ab_zD Z 0 4 y 0 < ab_zD Z (j + 1) 4 y 0
    omega
  · refine ⟨f2, by show ab_zn Z j + 0 = ab_zn Z j; omega, gr.symm, rfl, Or.inr ⟨rfl, f1, f3, x5, f4, ?_⟩⟩
    show ¬ ab_sn y x (ab_zX Z j 8) (ab_zD Z j)
    rw [f5]
    exact f6
/-- a TELL is sent on, if there is a way -/
theorem ax_fsp {Z : ab_Z} {d : Nat → Nat → Nat} {N j a c z i : Nat} {w : ab_F} (hW : ax_W Z d N) (hj : j < N) (ht : ab_tb Z d j a c z) (hf : ax_fr Z N j c z i w) (hN : ab_zn Z i + 2 ≤ ab_zn Z N) :
    ∃ m1, i < m1 ∧ m1 < N ∧ ab_zK Z m1 = 1 ∧ ab_zX Z m1 = w ∧ ab_zn Z m1 = ab_zn Z i + 1 ∧ ab_zs Z m1 = w 2 ∧
      (w 2 ≠ z → ab_zD Z (a + 1) 4 z 0 ≤ ab_zD Z (m1 + 1) 3 (w 2) z ∧ (ab_zD Z (m1 + 1) 1 (w 2) z ≠ 8 → ∃ w', ax_fr Z N j c z m1 w' ∧ w' 7 = w 7 + 1 ∧ w' 1 = w 2)) := by
  have hW' := hW
  obtain ⟨h, hL, hG, hl8, hq⟩ := hW'
  have hl : ∀ a b, ab_zl Z a b → a ≠ b := fun a b z => (hl8 a b z).1
  have haN : a < N := by have := ht.1; omega
  obtain ⟨q1, q2, q3⟩ := ab_qf h haN ht.2.1
  have hf' := hf
  obtain ⟨hi, ho, h3, hr, hb, e4, e5⟩ := hf'
  obtain ⟨g2, gn, gz, gu, g0⟩ := ab_tnr h hl hj ht i hi w ho h3 hr hb e4 e5
  have e0 : w 0 = ab_zn Z i := (ab_d1 ho (by omega)).1
  obtain ⟨m1, hm1, hmN, k1, kx, kn, ks, kp⟩ := hL.1 i w hi ho (by omega)
  refine ⟨m1, hm1, hmN, k1, kx, by omega, ks, fun hz => ?_⟩
  have hDm := h.1 m1 hmN
  have num : ab_zD Z (a + 1) 4 z 0 ≤ ab_zD Z (m1 + 1) 3 (w 2) z := by
    obtain ⟨_, _, _, _, _, _, _, hpp⟩ := ab_wcI h (i + 1) (by omega) (w 1) z (by omega)
    have p28 : ab_zD Z (i + 1) 1 (w 1) z ≠ 8 := by
      rw [← g2]
      have := (h.2.1 _ _ gu).2.2.1
      omega
    obtain ⟨_, _, r3⟩ := hpp p28
    rw [← g2] at r3
    rcases r3 with r3 | r3
    · exact absurd r3 hz
    · exact Nat.le_trans gn (Nat.le_trans r3 (ab_nrm h (by omega) (by omega)))
  refine ⟨num, fun h82 => ?_⟩
  have ho2 : ab_zO Z m1 (ab_pt (ab_zn Z m1) (w 2) (ab_zD Z (m1 + 1) 1 (w 2) z) (ab_fr 1 c z (w 6) (w 7 + 1) 0)) := by
    rw [hDm] at h82 ⊢
    unfold ab_zO
    unfold ab_zY at h82 ⊢
    rw [k1, ab_do1, ks, kx] at h82 ⊢
    have := ab_tfo (u := ab_zu Z) (ac := ab_za Z) (x := w) (s := w 2) (p := ab_zp Z m1) (D := ab_zD Z m1) h3 (by rw [e5]; exact fun q => hz q.symm) (by rw [e5]; exact h82)
    rw [e4, e5] at this
    exact this
  refine ⟨_, ⟨hmN, ho2, rfl, ?_, ?_, rfl, rfl⟩, rfl, rfl⟩
  · refine ⟨by show (1 : Nat) ≤ 1; omega, Or.inl ?_⟩
    show ab_zD Z 0 4 c 0 < w 6
    rcases hr.2 with y | y
    · rw [← e4]; exact y
    · omega
  · obtain ⟨b1, b2, b3, b4, b5⟩ := hb
    rw [e4] at b1 b3 b4
    refine ⟨b1, ?_, b3, b4, Or.inr ?_⟩
    · show ab_zn Z j + (w 7 + 1) = ab_zn Z m1
      omega
    · rcases b5 with ⟨z3, _⟩ | ⟨_, z4⟩
      · omega
      · rw [e4, e5] at z4
        exact ⟨rfl, z4⟩
theorem ax_frt {Z : ab_Z} {d : Nat → Nat → Nat} {N j a c z i : Nat} {w : ab_F} (hW : ax_W Z d N) (ht : ab_tb Z d j a c z) (hf : ax_fr Z N j c z i w) : ab_zn Z i = ab_zn Z a + d z c + w 7 ∧ w 6 = ab_zD Z (j + 1) 4 c 0 := by
  have e0 : w 0 = ab_zn Z i := (ab_d1 hf.2.1 (by have := hf.2.2.1; omega)).1
  have b := hf.2.2.2.2.1.2.1
  have b4 := hf.2.2.2.2.1.2.2.2.1
  rw [hf.2.2.2.2.2.1] at b4
  have jd := ht.2.2.2.2.2.2.2.2.1
  exact ⟨by omega, b4.symm⟩
/-- thin surroundings: T comes to x on time, and x knows its number -/
theorem ax_thG {Z : ab_Z} {d : Nat → Nat → Nat} {N a x y w r : Nat} (hW : ax_W Z d N) (h0 : ab_t0 Z N) (hd : d x y = r) (r2 : 2 ≤ r) (r3 : r ≤ 3) (haN : a < N) (ha : ab_ask Z a x y) (ht : ab_zn Z 0 + 24 ≤ ab_zn Z a) (hN : ab_zn Z a + 2 * r + 2 ≤ ab_zn Z N)
    (hx : ∀ q, ab_zl Z q x → q = w) (hw : ∀ q, ab_zl Z q w → q = x) (hg : ∀ g, ab_zl Z x g → r ≤ d x g) (hth : ∀ v v', d x v = d x v' → d x v < r → v = v') (hwd : r ≤ d x w) (hwy : w ≠ y) :
    ∃ j m i, j < N ∧ ab_tb Z d j a y x ∧ m < N ∧ a < m ∧ ab_zK Z m = 1 ∧ ab_zs Z m = x ∧ ax_fr Z N j y x i (ab_zX Z m) ∧ ab_zn Z m = ab_zn Z a + 2 * r ∧ ab_zD Z (a + 1) 4 x 0 ≤ ab_zD Z (j + 1) 3 y x ∧ ab_zD Z (j + 1) 4 y 0 ≤ ab_zD Z (m + 1) 3 x y := by
  have hW' := hW
  obtain ⟨h, hL, hG, hl8, hq⟩ := hW'
  obtain ⟨hxy, x8, y8⟩ := hl8 _ _ ha.2.2.1
  obtain ⟨q1, q2, q3⟩ := ab_qf h haN ha
  have hbq : ab_bn Z N x (ab_zD Z (a + 1) 4 x 0) (ab_zn Z a) := ⟨a, haN, rfl, by omega, Nat.le_refl _⟩
  have hE := ax_thE hW h0 r2 r3 hx hw hg hth hwd haN ha ht
  have hs : ∀ z, ab_zl Z z x → r - 1 < d x z := fun z hz => by rw [hx z hz]; omega
  have hyl : ¬ ab_zl Z y x := fun z => hwy (hx y z).symm
  obtain ⟨j, w0, hj, htb, hf0, w07, hny⟩ := ax_birth3 hW (fun i hi hti hn => by
    obtain ⟨t', hb', _, ht', _⟩ := ab_wcI h i hi y x (by omega)
    have := ab_bnl h hbq hb' hn
    exact ax_dl2 hW hE hs (fun e => hxy e.symm) hyl i hi (by omega) hn (by omega)) (by omega) haN ha (by omega)
  have fr : ∀ k, k < r → ∃ i f, ax_fr Z N j y x i f ∧ f 7 = k := by
    intro k
    induction k with
    | zero => exact fun _ => ⟨j, w0, hf0, w07⟩
    | succ k ih =>
      intro hk
      obtain ⟨i, f, hf, e7⟩ := ih (by omega)
      have dd := ax_thT hW r2 r3 hE hd hj htb k i f hf e7
      obtain ⟨tn, _⟩ := ax_frt hW htb hf
      obtain ⟨m1, a1, a2, a3, a4, a5, a6, a7⟩ := ax_fsp hW hj htb hf (by omega)
      have hne : f 2 ≠ x := fun e => by
        rw [e, hG.1] at dd
        omega
      obtain ⟨n1, n2⟩ := a7 hne
      have hm1 : ab_zn Z (m1 + 1) = ab_zn Z m1 := by rw [ab_now1 h a2, if_neg (by omega)]
      have h8 : ab_zD Z (m1 + 1) 1 (f 2) x ≠ 8 := by
        rcases ax_nl hW hE (fun z hz => Nat.le_of_lt (hs z hz)) (m1 + 1) (by omega) (by omega) (f 2) hne (by omega) n1 with z | ⟨z1, b, z2, z3, _⟩
        · exact z
        · have := hs _ z3.2.2.2.2
          omega
      obtain ⟨w', hw', e7', _⟩ := n2 h8
      exact ⟨m1, w', hw', by omega⟩
  obtain ⟨i, f, hf, e7⟩ := fr (r - 1) (by omega)
  have dd := ax_thT hW r2 r3 hE hd hj htb (r - 1) i f hf e7
  have f2x : f 2 = x := (hG.2.2.2.1 x _ (by omega)).symm
  obtain ⟨tn, f6⟩ := ax_frt hW htb hf
  obtain ⟨m1, a1, a2, a3, a4, a5, a6, _⟩ := ax_fsp hW hj htb hf (by omega)
  refine ⟨j, m1, i, hj, htb, a2, ?_, a3, by rw [a6, f2x], by rw [a4]; exact hf, by omega, hny, ?_⟩
  · have := htb.1
    by_cases e : a < m1
    · exact e
    · have := ab_nowm h (show m1 ≤ a by omega) (by omega)
      omega
  · have := ab_hnr (u := ab_zu Z) (ac := ab_za Z) (s := x) (p := ab_zp Z m1) (x := ab_zX Z m1) (D := ab_zD Z m1) (Or.inr (by rw [a4]; exact hf.2.2.1)) (by rw [a4, hf.2.2.2.2.2.1]; exact hxy)
    rw [a4, hf.2.2.2.2.2.1, f6] at this
    rw [h.1 m1 a2]
    unfold ab_zY
    rw [a3, ab_do1, a6, f2x, a4]
    exact this
theorem ax_goI {Z : ab_Z} {k x y : Nat} (hl : ab_zl Z x y) (kk : ab_zK Z k = 2) (ks : ab_zs Z k = x) (kp : ab_zp Z k = y) (z7 : ab_zD Z k 7 x y = 0) (h8 : ab_zD Z k 1 x y ≠ 8) (g1 : ab_zu Z x (ab_zD Z k 1 x y)) : ab_go Z k x y := by
  rcases ab_uc (u := ab_zu Z) (lv := ab_zl Z) (cf := ab_zc Z) (a := x) (b := y) (D := ab_zD Z k) with ⟨_, z⟩ | ⟨_, _, ⟨z, z2, z0, z1, yy⟩ | ⟨z, yy⟩⟩
  · exact absurd ⟨hl, Or.inl z7⟩ z
  · refine ⟨kk, ks, kp, h8, g1, ?_, z7⟩
    unfold ab_zO ab_zY
    rw [kk, ab_do2, ks, kp, yy.2]
    show ab_pt (ab_zn Z k) x (ab_zD Z k 1 x y) (ab_fr 3 x y (ab_zc Z x y) 0 8) = ab_pt (ab_w (ab_w (ab_w (ab_zD Z k) 9 x y z) 7 x y 1) 8 x y (ab_zD Z k 0 0 0) 0 0 0) x (ab_zD Z k 1 x y) (ab_fr 3 x y (ab_zc Z x y) 0 8)
    rw [ab_wf (by decide), ab_wf (by decide), ab_wf (by decide)]
  · rcases z with z | z
    · exact absurd ⟨h8, g1⟩ z
    · exact absurd z7 z.1
