/-! ## a couple over distance 3, x with one neighbour, the other one with goals at distance 2 -/
theorem ax_lfr {Z : ab_Z} {d : Nat → Nat → Nat} {N c x l n E k f nn ll i q : Nat} (hW : ax_W Z d N) (hE : ax_E Z d N c 2 n E) (hs : ∀ z, ab_zl Z z c → 2 ≤ d c z) (hleaf : ∀ v, ab_zu Z v x → v = l) (hcl : d c l = 2) (hxc : x ≠ c) (hll : ¬ ab_zl Z l c) (hk : 3 ≤ k)
    (hi : i < N) (hn : n ≤ ab_zD Z i 3 x c) (h8 : ab_zD Z i 1 x c ≠ 8) (ho : ab_zO Z i (ab_pt (ab_zn Z i) x (ab_zD Z i 1 x c) (ab_fr k f c nn ll q))) (hq : 3 ≤ q) (hN : ab_zn Z i + 5 ≤ ab_zn Z N) (hE' : ab_zn Z i + 3 ≤ E + 1) :
    ∃ m, i < m ∧ m < N ∧ ab_zK Z m = 1 ∧ ab_zs Z m = c ∧ ab_zX Z m 3 = k ∧ ab_zX Z m 4 = f ∧ ab_zX Z m 5 = c ∧ ab_zX Z m 6 = nn ∧ ab_zn Z m = ab_zn Z i + 3 := by
  have hW' := hW
  obtain ⟨h, hL, hG, hl8, hq'⟩ := hW'
  have hn0 := hE.1
  obtain ⟨_, _, _, _, _, _, _, hp⟩ := ab_wcI h i (by omega) x c (by omega)
  obtain ⟨p1, _, p3⟩ := hp h8
  have el := hleaf _ (h.2.1 _ _ p1).1
  rw [el] at ho p3
  have hlc : l ≠ c := fun e => by rw [e, hG.1] at hcl; omega
  obtain ⟨m1, hm1, hmN, k1, kx, kn1, ks1, kp1⟩ := hL.1 i _ hi ho (by show ab_zn Z i + 2 ≤ _; omega)
  have kn' : ab_zn Z m1 = ab_zn Z i + 1 := kn1
  have ks' : ab_zs Z m1 = l := ks1
  have num : n ≤ ab_zD Z m1 3 l c := by
    rcases p3 with z | z
    · exact absurd z hlc
    · exact Nat.le_trans hn (Nat.le_trans z (ab_nrm h (by omega) (by omega)))
  have h82 : ab_zD Z m1 1 l c ≠ 8 := by
    rcases ax_nl hW hE hs m1 (by omega) (by omega) l hlc (by omega) num with z | ⟨_, b, _, z3, _⟩
    · exact z
    · exact absurd z3.2.2.2.2 hll
  obtain ⟨_, _, _, _, _, _, _, hp2⟩ := ab_wcI h m1 (by omega) l c (by omega)
  obtain ⟨b1, _, _⟩ := hp2 h82
  have ho2 : ab_zO Z m1 (ab_pt (ab_zn Z m1) l (ab_zD Z m1 1 l c) (ab_fr k f c nn ll (q - 1))) := by
    unfold ab_zO ab_zY
    rw [k1, ab_do1, ks', kx]
    exact ab_cyo (x := ab_pt (ab_zn Z i) x l (ab_fr k f c nn ll q)) (s := l) (show 3 ≤ k by omega) (fun z => hlc z.symm) (show 1 < q by omega) h82 b1
  obtain ⟨m, a1, a2, a3, a4, a5, a6, a7, a8, a9⟩ := ax_ride hW hE hs hk 2 m1 l (q - 1) hmN hcl (by omega) (by omega) (by omega) num h82 ho2 (by omega) (by omega)
  exact ⟨m, by omega, a2, a3, a4, a5, a6, a7, a8, by omega⟩
theorem ax_lft {Z : ab_Z} {d : Nat → Nat → Nat} {N c x l E j a : Nat} {f0 : ab_F} (hW : ax_W Z d N) (hE : ax_E Z d N c 2 (ab_zD Z (a + 1) 4 c 0) E) (hs : ∀ z, ab_zl Z z c → 2 ≤ d c z) (hleaf : ∀ v, ab_zu Z v x → v = l) (hcl : d c l = 2) (hll : ∀ v, d c v ≤ 2 → ¬ ab_zl Z v c)
    (hj : j < N) (ht : ab_tb Z d j a x c) (hf0 : ax_fr Z N j x c j f0) (f70 : f0 7 = 0) (hN : ab_zn Z j + 5 ≤ ab_zn Z N) (hE' : ab_zn Z j + 3 ≤ E + 1) :
    ∃ m i, m < N ∧ j < m ∧ ab_zK Z m = 1 ∧ ab_zs Z m = c ∧ ax_fr Z N j x c i (ab_zX Z m) ∧ ab_zn Z m = ab_zn Z j + 3 := by
  have hW' := hW
  obtain ⟨h, hL, hG, hl8, hq'⟩ := hW'
  have hl : ∀ a b, ab_zl Z a b → a ≠ b := fun a b z => (hl8 a b z).1
  have jd := ht.2.2.2.2.2.2.2.2.1
  have stp : ∀ i f, ax_fr Z N j x c i f → f 7 ≤ 1 → d c (f 2) + f 7 = 2 → ∃ m1 w', i < m1 ∧ ax_fr Z N j x c m1 w' ∧ w' 7 = f 7 + 1 ∧ d c (w' 2) + w' 7 = 2 := by
    intro i f hf f7 df
    obtain ⟨tn, _⟩ := ax_frt hW ht hf
    obtain ⟨m1, a1, a2, a3, a4, a5, a6, a7⟩ := ax_fsp hW hj ht hf (by omega)
    have hne : f 2 ≠ c := fun e => by rw [e, hG.1] at df; omega
    obtain ⟨n1, n2⟩ := a7 hne
    have hm1 : ab_zn Z (m1 + 1) = ab_zn Z m1 := by rw [ab_now1 h a2, if_neg (by omega)]
    have h82 : ab_zD Z (m1 + 1) 1 (f 2) c ≠ 8 := by
      rcases ax_nl hW hE hs (m1 + 1) (by omega) (by omega) (f 2) hne (by omega) n1 with z | ⟨_, b, _, z3, _⟩
      · exact z
      · exact absurd z3.2.2.2.2 (hll _ (by omega))
    obtain ⟨w', hw', e7, e1⟩ := n2 h82
    obtain ⟨g2, _, _, _, _⟩ := ab_tnr h hl hj ht m1 hw'.1 w' hw'.2.1 hw'.2.2.1 hw'.2.2.2.1 hw'.2.2.2.2.1 hw'.2.2.2.2.2.1 hw'.2.2.2.2.2.2
    obtain ⟨_, b2, _, _⟩ := ax_gws hW hE (show m1 + 1 ≤ N by omega) (by omega) hne (by omega) n1 h82
    rw [e1] at g2
    rw [← g2] at b2
    exact ⟨m1, w', a1, hw', e7, by omega⟩
  have f02 : d c (f0 2) + f0 7 = 2 := by
    obtain ⟨_, _, _, gu, _⟩ := ab_tnr h hl hj ht j hf0.1 f0 hf0.2.1 hf0.2.2.1 hf0.2.2.2.1 hf0.2.2.2.2.1 hf0.2.2.2.2.2.1 hf0.2.2.2.2.2.2
    have f1 : f0 1 = x := by
      have := (ab_d1 hf0.2.1 (by have := hf0.2.2.1; omega)).2.1
      rw [ht.2.2.2.1] at this
      exact this
    rw [f1] at gu
    rw [hleaf _ (h.2.1 _ _ gu).1, hcl, f70]
  obtain ⟨i1, f1, l1, hf1, e1, d1⟩ := stp j f0 hf0 (by omega) f02
  obtain ⟨i2, f2, l2, hf2, e2, d2⟩ := stp i1 f1 hf1 (by omega) d1
  obtain ⟨tn, _⟩ := ax_frt hW ht hf2
  obtain ⟨m1, a1, a2, a3, a4, a5, a6, _⟩ := ax_fsp hW hj ht hf2 (by omega)
  have f2c : f2 2 = c := (hG.2.2.2.1 c _ (by omega)).symm
  exact ⟨m1, i2, a2, by omega, a3, by rw [a6, f2c], by rw [a4]; exact hf2, by omega⟩
theorem ax_cplL {Z : ab_Z} {d : Nat → Nat → Nat} {N a x y l ny t0 : Nat} (hW : ax_W Z d N) (h0 : ab_t0 Z N) (hnp : ab_np Z N) (hd : d x y = 3) (haN : a < N) (ha : ab_ask Z a x y) (ht : ab_zn Z 0 + 34 ≤ ab_zn Z a) (hN : ab_zn Z a + 24 ≤ ab_zn Z N)
    (hleaf : ∀ v, ab_zu Z v x → v = l) (hyl : d y l = 2) (hx : ∀ q, ab_zl Z q x → q = y) (hy : ∀ q, ab_zl Z q y → q = x) (hgx : ∀ g, ab_zl Z x g → 3 ≤ d x g) (hgy : ∀ g, ab_zl Z y g → 2 ≤ d y g) (hn0 : ab_zD Z 0 4 y 0 < ny) (hbn : ab_bn Z N y ny t0) (ht0 : ab_zn Z 0 + 34 ≤ t0) (hta : t0 < ab_zn Z a + 3) (hrec : ny ≤ ab_zD Z a 3 x y) : False := by
  have hW' := hW
  obtain ⟨h, hL, hG, hl8, hq⟩ := hW'
  have sy := hG.2.2.1
  obtain ⟨hxy, x8, y8⟩ := hl8 _ _ ha.2.2.1
  obtain ⟨q1, q2, q3⟩ := ab_qf h haN ha
  have hdy : d y x = 3 := by rw [sy]; exact hd
  have hbq : ab_bn Z N x (ab_zD Z (a + 1) 4 x 0) (ab_zn Z a) := ⟨a, haN, rfl, by omega, Nat.le_refl _⟩
  have hEx : ax_E Z d N x 3 (ab_zD Z (a + 1) 4 x 0) (ab_zn Z N) := ax_cE hW hx hy (fun _ g hg => by have := hgy g hg; omega) (fun _ _ g hg => by have := hgx g hg; omega) hgx q2 hbq (by omega)
  have hEyg : ∀ n t, ab_zD Z 0 4 y 0 < n → ab_bn Z N y n t → ab_zn Z 0 + 34 ≤ t → ax_E Z d N y 2 n (ab_zn Z N) := fun n t h1 h2 h3 => ax_cE hW hy hx (fun _ g hg => by have := hgx g hg; omega) (fun _ _ g hg => by have := hgy g hg; omega) hgy h1 h2 h3
  have hEy := hEyg ny t0 hn0 hbn ht0
  have hsx : ∀ z, ab_zl Z z x → 3 ≤ d x z := fun z hz => by rw [hx z hz, hd]; exact Nat.le_refl _
  have hsy : ∀ z, ab_zl Z z y → 2 ≤ d y z := fun z hz => by rw [hy z hz, hdy]; omega
  have hnl : ∀ v, d y v ≤ 2 → ¬ ab_zl Z v y := fun v hv hz => by
    rw [hy v hz] at hv
    omega
  -- nobody but x gives up a way to y, and that not soon
  have pres : ∀ n i, ab_zD Z 0 4 y 0 < n → i ≤ N → ab_zn Z i ≤ ab_zn Z a + 36 → (∀ v, v ≤ a → ab_zD Z v 3 x y < n) → n ≤ ab_zD Z i 3 x y → ab_zD Z i 1 x y ≠ 8 := by
    intro n i hn hi hti hold hni
    refine ax_pres h hn i hi (fun jj q hjj hv => ?_) x hxy hni
    have qx := hy q hv.2.2.2.2
    rw [qx] at hv ⊢
    by_cases e : jj ≤ a
    · exact hold jj e
    · have := ab_vsp h hL h0 (show a < jj by omega) (by omega) hv ha
      have := ab_nowm h (show jj ≤ i by omega) hi
      omega
  obtain ⟨jT, m, o1, o2, o3, o4, o5, o6, o7, o8, o9, o10, o13, o14, o11, o12⟩ := ax_qt5 hW h0 hEx hsx hd (by omega) haN ha (by omega) (by omega)
  have yT0 := ab_ownm (c := y) h (Nat.zero_le jT) (by omega)
  have hold : ∀ n, ab_zX Z m 6 ≤ n → ∀ v, v ≤ a → ab_zD Z v 3 x y < n := by
    intro n hn v hv
    have s1 := (ab_san h v (by omega)).1 x y
    have s2 := ab_ownm (c := y) h (show v ≤ jT by omega) (by omega)
    omega
  have hnyT : ny ≤ ab_zX Z m 6 := by
    have bT : ab_bn Z N y (ab_zX Z m 6) (ab_zn Z a + 3) := ⟨jT, by omega, o4, by omega, by omega⟩
    by_cases e : ny ≤ ab_zX Z m 6
    · exact e
    · have := ab_bnl h bT hbn (by omega)
      omega
  have hnx : ab_zX Z m 6 ≤ ab_zD Z (m + 1) 3 x y := by
    have := ab_hnr (u := ab_zu Z) (ac := ab_za Z) (s := x) (p := ab_zp Z m) (x := ab_zX Z m) (D := ab_zD Z m) (Or.inr o8) (by rw [o9]; exact hxy)
    rw [o9] at this
    rw [h.1 m o3]
    unfold ab_zY
    rw [o6, ab_do1, o7]
    exact this
  -- the first piece
  obtain ⟨kU, hkU, kn, kk, ks, kp, kall⟩ := hL.2.1 (ab_zn Z a + 6) x y (by omega) (by omega) ha.2.2.1
  have hmk := kall m o3 (by omega) o6
  have ham : a < m := by omega
  have go : ∃ k, a < k ∧ k < N ∧ ab_go Z k x y ∧ ab_zn Z a < ab_zn Z k ∧ ab_zn Z k ≤ ab_zn Z a + 6 := by
    rcases ab_att h hL haN ha kU (by omega) (by omega) (by omega) with ⟨k', b1, b2, b3, b4⟩ | ⟨z7, z6⟩
    · have := ab_nowm h (show k' ≤ kU by omega) (by omega)
      exact ⟨k', b1, by omega, b3, b4, by omega⟩
    · have hnr : ab_zX Z m 6 ≤ ab_zD Z kU 3 x y := Nat.le_trans hnx (ab_nrm h (by omega) (by omega))
      have h8 : ab_zD Z kU 1 x y ≠ 8 := pres _ kU (show ab_zD Z 0 4 y 0 < ab_zX Z m 6 by omega) (by omega) (by omega) (hold _ (Nat.le_refl _)) hnr
      obtain ⟨_, _, _, _, _, _, _, hpp⟩ := ab_wcI h kU (by omega) x y (by omega)
      have v1 := (hpp h8).1
      exact ⟨kU, by omega, hkU, ax_goI ha.2.2.1 kk ks kp z7 h8 v1, by omega, by omega⟩
  obtain ⟨k, hak, hkN, hgo, hk1, hk2⟩ := go
  have hnk := Nat.le_trans hrec (ab_nrm (v := x) (c := y) h (show a ≤ k by omega) (by omega))
  obtain ⟨p, p1, p2, p3, p4, p5, p6, p7, p8, p9⟩ := ax_lfr hW hEy hsy hleaf hyl hxy (hnl l (by omega)) (show 3 ≤ 3 by omega) hkN hnk hgo.2.2.2.1 hgo.2.2.2.2.2.1 (by omega) (by omega) (by omega)
  have hjp : jT < p := by
    by_cases e : jT < p
    · exact e
    · exfalso
      -- the piece is at y before the question: then the way was older
      have := ab_nowm h (show p ≤ jT by omega) (by omega)
      omega
  obtain ⟨b, b1, b2, b3, b4, b5⟩ := ax_ans hW hnp hEx hsx hd haN ha o5 hjp p2 p3 p4 p5 p6 p7 p8 (by omega) (by omega) (by omega)
  have hbp := ab_nowm h (show b ≤ p by omega) (by omega)
  -- V(y,x): its own attempt gets through
  have hask := ax_vask h hL h0 (show b < N by omega) b3 (by omega)
  obtain ⟨r1, r2, r3⟩ := ab_qf h (show b < N by omega) hask
  have hbb : ab_bn Z N y (ab_zD Z (b + 1) 4 y 0) (ab_zn Z b) := ⟨b, by omega, rfl, by omega, Nat.le_refl _⟩
  have hEy2 := hEyg _ _ r2 hbb (by omega)
  have hTb : ab_zX Z m 6 ≤ ab_zD Z (b + 1) 4 y 0 := by
    have : jT < b := by
      by_cases e : jT < b
      · exact e
      · exfalso
        by_cases e2 : b = jT
        · have h1 := b3.1
          rw [e2, o14.2.2.1] at h1
          omega
        · have := ab_urg h hL h0 (show jT < N by omega) (show b < jT by omega) o14.2.2.1 b3.1 (by rw [b3.2.1, b3.2.2.1]; exact b3.2.2.2.2) (by omega)
          omega
    have := ab_ownm (c := y) h (show jT + 1 ≤ b by omega) (by omega)
    omega
  obtain ⟨j', w0, hj', htb', hf0, w07, hny'⟩ := ax_birth3 hW (fun i hi hti hn => pres _ i r2 hi (by omega) (hold _ hTb) hn) (by omega) (show b < N by omega) hask (by omega)
  have jd' := htb'.2.2.2.2.2.2.2.2.1
  rw [hdy] at jd'
  have gr' := ax_tgrow h htb' hj'
  obtain ⟨m', i', s1, s2, s3, s4, s5, s6⟩ := ax_lft hW hEy2 hsy hleaf hyl hnl hj' htb' hf0 w07 (by omega) (by omega)
  obtain ⟨_, f6⟩ := ax_frt hW htb' s5
  have hbT' : ab_bn Z N x (ab_zX Z m' 6) (ab_zn Z b + 3) := ⟨j', hj', jd', by omega, by omega⟩
  obtain ⟨k', k1, k2, ⟨g1, g2, g3, g4, g5, g6, g7⟩, k4, k5⟩ := ax_go hW h0 hEx hsx hdy (by omega) (show b < N by omega) hask (by omega) s1 s3 s4 s5.2.2.1 s5.2.2.2.2.2.1 (by omega) hbT' (by
    by_cases e : ab_zD Z (a + 1) 4 x 0 ≤ ab_zX Z m' 6
    · exact e
    · have := ab_bnl h hbT' hbq (by omega)
      omega) (by omega)
  have hgk := Nat.le_trans b5 (ab_nrm (v := y) (c := x) h (show b ≤ k' by omega) (by omega))
  obtain ⟨p', t1, t2, t3, t4, t5, t6, t7, t8, t9⟩ := ax_ride hW hEx hsx (show 3 ≤ 3 by omega) 3 k' y 8 k2 hd (by omega) (by omega) (by omega) hgk g4 g6 (by omega) (by omega)
  have hac := hnp.1 p' t2 t3 t5 (by rw [t7, t4])
  rw [t6, t8, t4] at hac
  have hac2 : ab_za Z y x = ab_zc Z y x + 1 := by
    rcases hnp.2.2 y x hask.2.2.1 with z | z
    · exact absurd z.symm hac
    · exact z
  have hkp' := ab_nowm h (show k' ≤ p' by omega) (by omega)
  have hbj : j' < p' := by
    by_cases e : j' < p'
    · exact e
    · have := ab_nowm h (show p' ≤ j' by omega) (by omega)
      omega
  have hnp' : ab_zD Z (b + 1) 4 y 0 ≤ ab_zD Z p' 3 x y := Nat.le_trans hny' (ab_nrm h (by omega) (by omega))
  have h8p := pres _ p' r2 (by omega) (by omega) (hold _ hTb) hnp'
  obtain ⟨_, _, _, _, _, _, _, hpp⟩ := ab_wcI h p' (by omega) x y (by omega)
  have v1 := (hpp h8p).1
  have so : ab_zO Z p' (ab_pt (ab_zn Z p') x (ab_zD Z p' 1 x y) (ab_fr 4 x y (ab_za Z y x) 0 8)) := by
    unfold ab_zO ab_zY
    rw [t3, ab_do1, t4]
    have := ab_ano (u := ab_zu Z) (ac := ab_za Z) (s := x) (p := ab_zp Z p') (x := ab_zX Z p') (D := ab_zD Z p') t5 t7 (by rw [t6]; exact h8p) (by rw [t6]; exact v1)
    rw [t6] at this
    exact this
  obtain ⟨f, f1, f2, f3, f4, f5, f6', f7, f8, f9⟩ := ax_lfr hW hEy2 hsy hleaf hyl hxy (hnl l (by omega)) (show 3 ≤ 4 by omega) t2 hnp' h8p so (by omega) (by omega) (by omega)
  have := hnp.2.1 f f2 f3 f5 (by rw [f7, f4])
  rw [f4, f6', f8] at this
  exact this hac2
/-- the same in a long run -/
theorem ax_R0L {Z : ab_Z} {d : Nat → Nat → Nat} {N x y l lm : Nat} (hR : ax_LR lm Z d N) (hd : d x y = 3) (hleaf : ∀ v, ab_zu Z v x → v = l) (hyl : d y l = 2) (hl : ab_zl Z x y) (hx : ∀ q, ab_zl Z q x → q = y) (hy : ∀ q, ab_zl Z q y → q = x) (hgx : ∀ g, ab_zl Z x g → 3 ≤ d x g) (hgy : ∀ g, ab_zl Z y g → 2 ≤ d y g) (hN : ab_zn Z 0 + 250 ≤ ab_zn Z N) : False := by
  have hR' := hR
  obtain ⟨h, hL, hG, hl8, h0, hU, hnp⟩ := hR'
  obtain ⟨a0, s1, s2, s3, s4⟩ := ab_askx h hL h0 hl (show ab_zn Z 0 ≤ ab_zn Z 0 + 40 by omega) (by omega)
  obtain ⟨k, e, k1, e1, e2, k3, e3, hW, h0', hU', hnp'⟩ := ax_wn 36 90 hR s1 (by omega) (by omega) (by omega) (by omega) (by omega)
  have na := ax_shn (Z := Z) (show k ≤ a0 by omega)
  have ne := ax_shn (Z := Z) (show k ≤ e by omega)
  have n0 : ab_zn (ab_sh Z k) 0 = ab_zn Z k := rfl
  have ha := ab_sha (x := x) (y := y) (show k ≤ a0 by omega) s2
  generalize hZ : ab_sh Z k = Y at *
  generalize hM : e - k = M at *
  generalize hA : a0 - k = a at *
  have haM : a < M := by omega
  have lY : ∀ p q, ab_zl Y p q → ab_zl Z p q := by
    intro p q hp
    rw [← hZ] at hp
    exact hp
  have xY : ∀ q, ab_zl Y q x → q = y := fun q hq => hx q (lY _ _ hq)
  have yY : ∀ q, ab_zl Y q y → q = x := fun q hq => hy q (lY _ _ hq)
  have gxY : ∀ g, ab_zl Y x g → 3 ≤ d x g := fun g hg => hgx g (lY _ _ hg)
  have gyY : ∀ g, ab_zl Y y g → 2 ≤ d y g := fun g hg => hgy g (lY _ _ hg)
  have leafY : ∀ v, ab_zu Y v x → v = l := by
    intro v hv
    rw [← hZ] at hv
    exact hleaf v hv
  have hW' := hW
  obtain ⟨h', hL', hG', hl8', hq'⟩ := hW'
  obtain ⟨hxy, x8, y8⟩ := hl8' _ _ ha.2.2.1
  obtain ⟨q1, q2, q3⟩ := ab_qf h' haM ha
  have hdy : d y x = 3 := by rw [hG'.2.2.1]; exact hd
  have hbq : ab_bn Y M x (ab_zD Y (a + 1) 4 x 0) (ab_zn Y a) := ⟨a, haM, rfl, by omega, Nat.le_refl _⟩
  have hEx : ax_E Y d M x 3 (ab_zD Y (a + 1) 4 x 0) (ab_zn Y M) := ax_cE hW xY yY (fun _ g hg => by have := gyY g hg; omega) (fun _ _ g hg => by have := gxY g hg; omega) gxY q2 hbq (by omega)
  have hsx : ∀ z, ab_zl Y z x → 3 ≤ d x z := fun z hz => by rw [xY z hz, hd]; exact Nat.le_refl _
  obtain ⟨jT, m, o1, o2, o3, o4, o5, o6, o7, o8, o9, o10, o13, o14, o11, o12⟩ := ax_qt5 hW h0' hEx hsx hd (by omega) haM ha (by omega) (by omega)
  have hbt : ab_bn Y M y (ab_zX Y m 6) (ab_zn Y a + 3) := ⟨jT, by omega, o4, by omega, by omega⟩
  generalize hT : ab_zX Y m 6 = nT at *
  have hy0 := ab_ownm (c := y) h' (Nat.zero_le jT) (by omega)
  have hT0 : ab_zD Y 0 4 y 0 < nT := by omega
  have xn : ∀ i, m < i → i ≤ M → nT ≤ ab_zD Y i 3 x y := by
    intro i hmi hi
    have := ab_hnr (u := ab_zu Y) (ac := ab_za Y) (s := x) (p := ab_zp Y m) (x := ab_zX Y m) (D := ab_zD Y m) (Or.inr o8) (by rw [o9]; exact hxy)
    refine Nat.le_trans ?_ (ab_nrm h' (show m + 1 ≤ i by omega) (by omega))
    rw [h'.1 m o3, ← hT]
    unfold ab_zY
    rw [o6, ab_do1, o7]
    rw [o9] at this
    exact this
  -- ways of x to y stay
  have pres : ∀ i, m < i → i ≤ M → ab_zn Y i ≤ ab_zn Y a + 50 → ab_hw (ab_zu Y) x y (ab_zD Y i) := by
    intro i hmi hi hit
    have hn := xn i hmi hi
    have h8 := ax_pres h' hT0 i hi (fun jj q hjj hv => by
      have qx := yY q hv.2.2.2.2
      rw [qx] at hv ⊢
      by_cases e : jj ≤ a
      · have s1 := (ab_san h' jj (by omega)).1 x y
        have s2 := ab_ownm (c := y) h' (show jj ≤ jT by omega) (by omega)
        omega
      · have := ab_vsp h' hL' h0' (show a < jj by omega) (by omega) hv ha
        have := ab_nowm h' (show jj ≤ i by omega) hi
        omega) x hxy hn
    obtain ⟨_, _, _, _, _, _, _, hpp⟩ := ab_wcI h' i hi x y (by omega)
    exact ⟨h8, (hpp h8).1⟩
  have hn0' := ab_nowm h' (Nat.zero_le a) (by omega)
  have am : a < m := by omega
  have hma := ab_nowm h' (show a ≤ m by omega) (by omega)
  -- the first piece
  have first : ∃ k, a < k ∧ k < M ∧ ab_go Y k x y ∧ ab_zn Y a < ab_zn Y k ∧ ab_zn Y k ≤ ab_zn Y a + 2 * 3 := by
    have hmt : ab_zn Y a < ab_zn Y m := ab_urg h' hL' h0' o3 am o6 ha.2.2.2.1 (by rw [ha.1, ha.2.1]; exact ha.2.2.1) (by omega)
    obtain ⟨u, hu, un, uk, us, up, uall⟩ := hL'.2.1 (ab_zn Y m) x y (by omega) (by omega) ha.2.2.1
    have hmu := uall m o3 rfl o6
    have hau : a < u := by omega
    obtain ⟨h8, g1⟩ := pres u hmu (by omega) (by omega)
    rcases ab_att h' hL' haM ha u (by omega) (by omega) (by omega) with ⟨k', b1, b2, b3, b4⟩ | ⟨z7, z6⟩
    · have := ab_nowm h' (show k' ≤ u by omega) (by omega)
      exact ⟨k', b1, by omega, b3, b4, by omega⟩
    · refine ⟨u, hau, hu, ?_, by omega, by omega⟩
      rcases ab_uc (u := ab_zu Y) (lv := ab_zl Y) (cf := ab_zc Y) (a := x) (b := y) (D := ab_zD Y u) with ⟨_, q⟩ | ⟨_, _, ⟨q, q2, q0, q1, yy⟩ | ⟨q, yy⟩⟩
      · exact absurd ⟨ha.2.2.1, Or.inl z7⟩ q
      · refine ⟨uk, us, up, h8, g1, ?_, z7⟩
        unfold ab_zO ab_zY
        rw [uk, ab_do2, us, up, yy.2]
        show ab_pt (ab_zn Y u) x (ab_zD Y u 1 x y) (ab_fr 3 x y (ab_zc Y x y) 0 8) = ab_pt (ab_w (ab_w (ab_w (ab_zD Y u) 9 x y q) 7 x y 1) 8 x y (ab_zD Y u 0 0 0) 0 0 0) x (ab_zD Y u 1 x y) (ab_fr 3 x y (ab_zc Y x y) 0 8)
        rw [ab_wf (by decide), ab_wf (by decide), ab_wf (by decide)]
      · rcases q with q | q
        · exact absurd ⟨h8, g1⟩ q
        · exact absurd z7 q.1
  obtain ⟨k', g1, g2, hgo, g3, g4⟩ := first
  have h61 : ab_zD Y (k' + 1) 6 x y ≤ ab_zn Y k' + 26 := by
    have hk1 : ab_zn Y (k' + 1) = ab_zn Y k' := by rw [ab_now1 h' g2, if_neg (by rw [hgo.1]; omega)]
    rcases ab_la (a := x) (b := y) h' (k' + 1) (by omega) with e | ⟨b, b1, b2, b3⟩
    · have := (h0'.1 x y).1
      omega
    · have := ab_nowm h' (show b ≤ k' by omega) (by omega)
      omega
  have done : ∀ s, k' < s → s < M → ab_ask Y s x y → ab_zn Y s ≤ ab_zn Y k' + 52 → ab_zn Y k' + 26 ≤ ab_zn Y s → False := by
    intro s s1 s2 s3 s4 s5
    have ms : m < s := by
      by_cases q : m < s
      · exact q
      · have := ab_nowm h' (show s ≤ m by omega) (by omega)
        omega
    exact ax_cplL hW h0' hnp' hd s2 s3 (by omega) (by omega) leafY hyl xY yY gxY gyY hT0 hbt (by omega) (by omega) (xn s ms (by omega))
  rcases ax_n52x h' hL' ha.2.2.1 g2 hgo (by omega) h61 with ⟨s, s1, s2, s3, s4⟩ | ⟨s, s1, s2, s3, s4⟩
  · exact done s s1 s2 s4 (by omega) (by omega)
  · exact done s s1 s2 s4 (by omega) (by omega)
