/-! ## windows of a long run -/
/-- what is known of a long run without progress -/
def ax_LR (lm : Nat) (Z : ab_Z) (d : Nat → Nat → Nat) (N : Nat) : Prop := ab_RL lm Z d N ∧ ab_L Z N ∧ ab_G (ab_zu Z) d ∧ (∀ a b, ab_zl Z a b → a ≠ b ∧ a < 8 ∧ b < 8) ∧ ab_t0 Z N ∧ ax_U Z N ∧ ab_np Z N
theorem ax_win {Z : ab_Z} {d : Nat → Nat → Nat} {N k e lm : Nat} (hR : ax_LR lm Z d N) (hke : k ≤ e) (he : e ≤ N) (hkN : k < N) (hK : ab_zK Z k = 0) (ht : ab_zn Z e ≤ ab_zn Z k + 126) :
    ax_W (ab_sh Z k) d (e - k) ∧ ab_t0 (ab_sh Z k) (e - k) ∧ ax_U (ab_sh Z k) (e - k) ∧ ab_np (ab_sh Z k) (e - k) := by
  obtain ⟨h, hL, hG, hl8, h0, hU, hnp⟩ := hR
  have hR : ab_R (ab_sh Z k) d (e - k) := by
    refine ab_wR h (by omega) (fun i hi => ?_)
    have := ab_nowm h (show k + i ≤ e by omega) he
    omega
  refine ⟨⟨hR, ab_wL h hL (by omega), hG, hl8, ab_q20I hR⟩, ab_wt0 h hL h0 (by omega) hK hkN, ?_, ?_, ?_, ?_⟩
  · intro i j hi hj ki kj x3 rc ex
    have rc' : ab_zD Z k 4 (ab_zX Z (k + i) 4) 0 < ab_zX Z (k + i) 6 := rc
    have own := ab_ownm (c := ab_zX Z (k + i) 4) h (Nat.zero_le k) (by omega)
    have := hU (k + i) (k + j) (by omega) (by omega) ki kj x3 (by omega) ex
    omega
  · intro i hi
    exact hnp.1 (k + i) (by omega)
  · intro i hi
    exact hnp.2.1 (k + i) (by omega)
  · exact hnp.2.2
/-- the window from t - l to t + r -/
theorem ax_wn {Z : ab_Z} {d : Nat → Nat → Nat} {N a lm : Nat} (l r : Nat) (hR : ax_LR lm Z d N) (haN : a < N) (hl : ab_zn Z 0 + l ≤ ab_zn Z a) (hl1 : 1 ≤ l) (hr1 : 1 ≤ r) (hr : ab_zn Z a + r < ab_zn Z N) (hlr : l + r ≤ 126) :
    ∃ k e, k < a ∧ a < e ∧ e < N ∧ ab_zn Z k + l = ab_zn Z a ∧ ab_zn Z e = ab_zn Z a + r ∧ ax_W (ab_sh Z k) d (e - k) ∧ ab_t0 (ab_sh Z k) (e - k) ∧ ax_U (ab_sh Z k) (e - k) ∧ ab_np (ab_sh Z k) (e - k) := by
  have h := hR.1
  obtain ⟨k, k1, k2, k3⟩ := ab_tick h (show ab_zn Z 0 ≤ ab_zn Z a - l by omega) a (by omega) (by omega)
  obtain ⟨e', e1, e2, e3⟩ := ab_tick h (show ab_zn Z 0 ≤ ab_zn Z a + r by omega) N (Nat.le_refl _) hr
  have ae : a < e' := by
    by_cases q : a < e'
    · exact q
    · have := ab_nowm h (show e' ≤ a by omega) (by omega)
      omega
  exact ⟨k, e', k1, ae, e1, by omega, e3, ax_win hR (by omega) (by omega) (by omega) k2 (by omega)⟩
theorem ax_shn {Z : ab_Z} {k m : Nat} (h : k ≤ m) : ab_zn (ab_sh Z k) (m - k) = ab_zn Z m := by
  show ab_zD (ab_sh Z k) (m - k) 0 0 0 = _
  rw [ab_shD h]
/-- the next attempt, in a long run -/
theorem ax_LN {Z : ab_Z} {d : Nat → Nat → Nat} {N a x y z w lm : Nat} (hR : ax_LR lm Z d N) (hd : d x y = 1) (haN : a < N) (ha : ab_ask Z a x y) (ht : ab_zn Z 0 + 20 ≤ ab_zn Z a) (hN : ab_zn Z a + 56 < ab_zn Z N)
    (hx : ∀ q, ab_zl Z q x → q = w) (hy : ∀ q, ¬ ab_zl Z y q) (hz : ∀ q, ab_zl Z q y → q = x ∨ q = z) :
    ∃ a', a < a' ∧ a' < N ∧ ab_ask Z a' x y ∧ ab_zn Z a' = ab_zn Z a + 53 ∧ (∀ b, a < b → b < a' → ¬ ab_ask Z b x y) ∧ ∃ nT i0 j0, i0 < a' ∧ nT ≤ ab_zD Z (i0 + 1) 3 x y ∧ j0 < N ∧ ab_zn Z j0 = ab_zn Z a + 1 ∧ ab_zD Z j0 4 y 0 < nT ∧ nT ≤ ab_zD Z (j0 + 1) 4 y 0 := by
  have h := hR.1
  obtain ⟨k, e, k1, e1, e2, k3, e3, hW, h0, hU, hnp⟩ := ax_wn 20 56 hR haN ht (by omega) (by omega) hN (by omega)
  have na := ax_shn (Z := Z) (show k ≤ a by omega)
  have ne := ax_shn (Z := Z) (show k ≤ e by omega)
  have n0 : ab_zn (ab_sh Z k) 0 = ab_zn Z k := rfl
  obtain ⟨a', b1, b2, b3, b4, b5, nT, i0, b6, b7, b8, j0, b9, b10, b11, b12⟩ := ax_nx (a := a - k) hW h0 hnp hd (by omega) (ab_sha (by omega) ha) (by omega) (by omega) hx hy hz
  have n' : ab_zn (ab_sh Z k) a' = ab_zn Z (k + a') := rfl
  refine ⟨k + a', by omega, by omega, b3, by omega, fun b c1 c2 hb => b5 (b - k) (by omega) (by omega) (ab_sha (by omega) hb), nT, k + i0, k + j0, by omega, b8, by omega, ?_, b11, b12⟩
  have : ab_zn (ab_sh Z k) j0 = ab_zn Z (k + j0) := rfl
  omega
/-- two TELLs of x to w close to one another -/
def ax_M2 (Z : ab_Z) (d : Nat → Nat → Nat) (N a x y w : Nat) : Prop := (∃ k, ab_gd (ab_zu Z) y x k w) ∧ ∃ j1 a1 j2 a2, j1 < N ∧ j2 < N ∧ ab_tb Z d j1 a1 x w ∧ ab_tb Z d j2 a2 x w ∧ ab_zD Z (a + 1) 4 x 0 ≤ ab_zD Z (j1 + 1) 4 x 0 ∧ ab_zD Z (j1 + 1) 4 x 0 < ab_zD Z (j2 + 1) 4 x 0 ∧ ab_zn Z j2 ≤ ab_zn Z a + 40
/-- what an attempt without progress brings, in a long run -/
theorem ax_LA {Z : ab_Z} {d : Nat → Nat → Nat} {N a a' x y z w u v0 nT i0 j0 lm : Nat} (hR : ax_LR lm Z d N) (hd : d x y = 1) (ha'N : a' < N) (ha' : ab_ask Z a' x y) (h53 : ab_zn Z a' = ab_zn Z a + 53) (ht : ab_zn Z 0 + 27 ≤ ab_zn Z a) (hN : ab_zn Z a' + 46 < ab_zn Z N)
    (hx : ∀ q, ab_zl Z q x → q = w) (hy : ∀ q, ¬ ab_zl Z y q) (hz : ∀ q, ab_zl Z q y → q = x ∨ q = z) (hu : ∀ q, ab_zl Z q z → q = u) (hyu : y ≠ u) (hdu : 2 ≤ d z u) (hzx : z ≠ x) (hv0 : ∀ q, ab_zl Z q w → q = v0) (hdv : 2 ≤ d w v0) (hdw : 3 ≤ d w x)
    (hi0 : i0 < a') (hi : nT ≤ ab_zD Z (i0 + 1) 3 x y) (hj0 : j0 < N) (hj1 : ab_zn Z j0 = ab_zn Z a + 1) (hj2 : ab_zD Z j0 4 y 0 < nT) (hj3 : nT ≤ ab_zD Z (j0 + 1) 4 y 0) :
    ((∃ b g, b < N ∧ ab_ask Z b x g ∧ d x g = 1 ∧ ab_zn Z a' + 27 ≤ ab_zn Z b ∧ ab_zn Z b ≤ ab_zn Z a' + 35) ∧ ∃ s1 s2 s3, s1 < 8 ∧ s2 < 8 ∧ s3 < 8 ∧ s1 ≠ s2 ∧ s1 ≠ s3 ∧ s2 ≠ s3 ∧ 2 ≤ d x s1 ∧ 2 ≤ d x s2 ∧ 2 ≤ d x s3) ∨ ax_M2 Z d N a' x y w := by
  have h := hR.1
  obtain ⟨k, e, k1, e1, e2, k3, e3, hW, h0, hU, hnp⟩ := ax_wn 80 46 hR ha'N (by omega) (by omega) (by omega) hN (by omega)
  have na := ax_shn (Z := Z) (show k ≤ a' by omega)
  have ne := ax_shn (Z := Z) (show k ≤ e by omega)
  have n0 : ab_zn (ab_sh Z k) 0 = ab_zn Z k := rfl
  have kj : k < j0 := by
    by_cases q : k < j0
    · exact q
    · have := ab_nowm h (show j0 ≤ k by omega) (by omega)
      omega
  have je : j0 < e := by
    by_cases q : j0 < e
    · exact q
    · have := ab_nowm h (show e ≤ j0 by omega) (by omega)
      omega
  have own := ab_ownm (c := y) h (show k ≤ j0 by omega) (by omega)
  have hb0 : ab_zD (ab_sh Z k) 0 4 y 0 < nT := by
    show ab_zD Z k 4 y 0 < nT
    omega
  have hbn : ab_bn (ab_sh Z k) (e - k) y nT (ab_zn Z a + 1) := by
    refine ⟨j0 - k, by omega, by rw [ax_shn (by omega)]; exact hj1, by rw [ab_shD (by omega)]; exact hj2, ?_⟩
    rw [ab_shD1 (by omega)]
    exact hj3
  have hrx : nT ≤ ab_zD (ab_sh Z k) (a' - k) 3 x y := by
    rw [ab_shD (by omega)]
    exact Nat.le_trans hi (ab_nrm h (by omega) (by omega))
  have hask := ab_sha (x := x) (y := y) (show k ≤ a' by omega) ha'
  obtain ⟨p, p1, p2, p3, p4, p5, p6, p7, p8, p9, p10, jT, p11, p12⟩ := ax_P21 (a := a' - k) (w := w) hW h0 hU hnp hd (by omega) hask (by omega) (by omega) hx hy hz hu hyu hdu hzx hb0 hbn (by omega) hrx
  have pn : ab_zn (ab_sh Z k) p = ab_zn Z (k + p) := rfl
  rcases ax_AL (a := a' - k) hW h0 hU hnp hd (by omega) hask (by omega) (by omega) hx hy hv0 hdv hdw p1 p2 p3 p4 p5 p6 p7 p8 p9 p10 p11 p12 with ⟨⟨b, g, b1, b2, b3, b4, b5⟩, F⟩ | ⟨j1, a1, j2, a2, c1, c2, c3, c4, c5, c6, c7, c8⟩
  · have bn : ab_zn (ab_sh Z k) b = ab_zn Z (k + b) := rfl
    exact Or.inl ⟨⟨k + b, g, by omega, b2, b3, by omega, by omega⟩, F⟩
  · have jn : ab_zn (ab_sh Z k) j2 = ab_zn Z (k + j2) := rfl
    refine Or.inr ⟨c8, k + j1, k + a1, k + j2, k + a2, by omega, by omega, ⟨by have := c3.1; omega, c3.2⟩, ⟨by have := c4.1; omega, c4.2⟩, ?_, c6, by omega⟩
    rw [ab_shD1 (by omega)] at c5
    exact c5
/-! ## a source with a goal next to it -/
/-- askings of one pair of neighbours are whole periods apart -/
theorem ax_per {Z : ab_Z} {d : Nat → Nat → Nat} {N x y z w lm : Nat} (hR : ax_LR lm Z d N) (hd : d x y = 1) (hx : ∀ q, ab_zl Z q x → q = w) (hy : ∀ q, ¬ ab_zl Z y q) (hz : ∀ q, ab_zl Z q y → q = x ∨ q = z) :
    ∀ n a b, a < N → b < N → ab_ask Z a x y → ab_ask Z b x y → ab_zn Z 0 + 20 ≤ ab_zn Z a → ab_zn Z a ≤ ab_zn Z b → ab_zn Z b ≤ ab_zn Z a + n → ab_zn Z b + 56 < ab_zn Z N → ∃ m, ab_zn Z b = ab_zn Z a + 53 * m := by
  have h := hR.1
  intro n
  induction n using Nat.strongRecOn with
  | ind n ih =>
    intro a b haN hbN ha hb ht hab hn hN
    by_cases e : ab_zn Z a = ab_zn Z b
    · exact ⟨0, by omega⟩
    · have lt : a < b := by
        by_cases q : a < b
        · exact q
        · have := ab_nowm h (show b ≤ a by omega) (by omega)
          omega
      obtain ⟨a', c1, c2, c3, c4, c5, _⟩ := ax_LN hR hd haN ha ht (by omega) hx hy hz
      by_cases q : b < a'
      · exact absurd hb (c5 b lt q)
      · have := ab_nowm h (show a' ≤ b by omega) (by omega)
        obtain ⟨m, hm⟩ := ih (n - 53) (by omega) a' b c2 hbN c3 hb (by omega) this (by omega) hN
        exact ⟨m + 1, by omega⟩
/-- at least n stations of a list -/
def ax_Sl (n : Nat) (l : List Nat) : Prop := ∃ P : Nat → Prop, n ≤ ax_cn P ∧ ∀ v, P v → v ∈ l
theorem ax_S0 {a : Nat} (h : a < 8) : ax_Sl 1 [a] := ⟨fun v => v = a, ax_cn1 h rfl, fun v e => by rw [e]; exact List.mem_singleton.2 rfl⟩
theorem ax_S1 {a n : Nat} {l : List Nat} (h8 : a < 8) (hn : a ∉ l) (h : ax_Sl n l) : ax_Sl (n + 1) (a :: l) := by
  obtain ⟨P, h1, h2⟩ := h
  refine ⟨fun v => v = a ∨ P v, ?_, ?_⟩
  · have := ax_sma (P := P) (Q := fun v => v = a ∨ P v) (E := fun _ => 1) (k := a) (fun k q => Or.inr q) (fun q => hn (h2 a q)) (Or.inl rfl) 8 h8
    exact Nat.le_trans (Nat.add_le_add_right h1 1) this
  · intro v hv
    rcases hv with e | e
    · rw [e]; exact List.mem_cons_self
    · exact List.mem_cons_of_mem _ (h2 v e)
theorem ax_S9 {n : Nat} {l : List Nat} (h : ax_Sl n l) : n ≤ 8 := by
  obtain ⟨P, h1, _⟩ := h
  exact Nat.le_trans h1 (ax_le 8)
theorem ax_nm {a b : Nat} {l : List Nat} (h : a ≠ b) (hl : a ∉ l) : a ∉ b :: l := fun q => by
  rcases List.mem_cons.1 q with e | e
  · exact h e
  · exact hl e
theorem ax_n0 {a : Nat} : a ∉ ([] : List Nat) := fun q => by cases q
/-- nine different stations there are not -/
theorem ax_nine {x t1 t2 t3 y g1 g2 g3 g4 : Nat} (h0 : x < 8) (h1 : t1 < 8) (h2 : t2 < 8) (h3 : t3 < 8) (h4 : y < 8) (h5 : g1 < 8) (h6 : g2 < 8) (h7 : g3 < 8) (h8 : g4 < 8)
    (a1 : t1 ≠ x) (a2 : t2 ≠ x ∧ t2 ≠ t1) (a3 : t3 ≠ x ∧ t3 ≠ t1 ∧ t3 ≠ t2) (a4 : y ≠ x ∧ y ≠ t1 ∧ y ≠ t2 ∧ y ≠ t3) (a5 : g1 ≠ x ∧ g1 ≠ t1 ∧ g1 ≠ t2 ∧ g1 ≠ t3 ∧ g1 ≠ y) (a6 : g2 ≠ x ∧ g2 ≠ t1 ∧ g2 ≠ t2 ∧ g2 ≠ t3 ∧ g2 ≠ y ∧ g2 ≠ g1)
    (a7 : g3 ≠ x ∧ g3 ≠ t1 ∧ g3 ≠ t2 ∧ g3 ≠ t3 ∧ g3 ≠ y ∧ g3 ≠ g1 ∧ g3 ≠ g2) (a8 : g4 ≠ x ∧ g4 ≠ t1 ∧ g4 ≠ t2 ∧ g4 ≠ t3 ∧ g4 ≠ y ∧ g4 ≠ g1 ∧ g4 ≠ g2 ∧ g4 ≠ g3) : False := by
  obtain ⟨a2, b2⟩ := a2
  obtain ⟨a3, b3, c3⟩ := a3
  obtain ⟨a4, b4, c4, d4⟩ := a4
  obtain ⟨a5, b5, c5, d5, e5⟩ := a5
  obtain ⟨a6, b6, c6, d6, e6, f6⟩ := a6
  obtain ⟨a7, b7, c7, d7, e7, f7, i7⟩ := a7
  obtain ⟨a8, b8, c8, d8, e8, f8, i8, j8⟩ := a8
  have k := ax_S1 h8 (ax_nm j8 (ax_nm i8 (ax_nm f8 (ax_nm e8 (ax_nm d8 (ax_nm c8 (ax_nm b8 (ax_nm a8 ax_n0))))))))
    (ax_S1 h7 (ax_nm i7 (ax_nm f7 (ax_nm e7 (ax_nm d7 (ax_nm c7 (ax_nm b7 (ax_nm a7 ax_n0)))))))
    (ax_S1 h6 (ax_nm f6 (ax_nm e6 (ax_nm d6 (ax_nm c6 (ax_nm b6 (ax_nm a6 ax_n0))))))
    (ax_S1 h5 (ax_nm e5 (ax_nm d5 (ax_nm c5 (ax_nm b5 (ax_nm a5 ax_n0)))))
    (ax_S1 h4 (ax_nm d4 (ax_nm c4 (ax_nm b4 (ax_nm a4 ax_n0))))
    (ax_S1 h3 (ax_nm c3 (ax_nm b3 (ax_nm a3 ax_n0)))
    (ax_S1 h2 (ax_nm b2 (ax_nm a2 ax_n0))
    (ax_S1 h1 (ax_nm a1 ax_n0) (ax_S0 h0))))))))
  have := ax_S9 k
  omega
theorem ax_R1 {Z : ab_Z} {d : Nat → Nat → Nat} {N x y w v0 lm : Nat} (hR : ax_LR lm Z d N) (hx : ∀ q, ab_zl Z q x → q = w) (hv0 : ∀ q, ab_zl Z q w → q = v0) (hdv : 2 ≤ d w v0) (hdw : 3 ≤ d w x)
    (hg : ∀ g, ab_zl Z x g → d x g = 1 → (∀ q, ¬ ab_zl Z g q) ∧ ∃ z u, (∀ q, ab_zl Z q g → q = x ∨ q = z) ∧ z ≠ x ∧ (∀ q, ab_zl Z q z → q = u) ∧ g ≠ u ∧ 2 ≤ d z u) (hy : ab_zl Z x y) (hd : d x y = 1) (hN : ab_zn Z 0 + 800 ≤ ab_zn Z N)
    (hM : ∀ a a' g, a < N → a' < N → ab_ask Z a x g → ab_ask Z a' x g → d x g = 1 → ab_zn Z a' = ab_zn Z a + 53 → ab_zn Z 0 + 80 ≤ ab_zn Z a → ab_zn Z a' + 60 ≤ ab_zn Z N → ax_M2 Z d N a x g w → ax_M2 Z d N a' x g w → False) : False := by
  have hR' := hR
  obtain ⟨h, hL, hG, hl8, h0, hU, hnp⟩ := hR'
  have x8 := (hl8 _ _ hy).2.1
  have step : ∀ g a, ab_zl Z x g → d x g = 1 → a < N → ab_ask Z a x g → ab_zn Z 0 + 30 < ab_zn Z a → ab_zn Z a + 170 ≤ ab_zn Z N →
      (∃ g' b e δ, ab_zl Z x g' ∧ d x g' = 1 ∧ b < N ∧ ab_ask Z b x g' ∧ e ≤ 2 ∧ 27 ≤ δ ∧ δ ≤ 35 ∧ ab_zn Z b = ab_zn Z a + 53 * e + δ) ∧ ∃ s1 s2 s3, s1 < 8 ∧ s2 < 8 ∧ s3 < 8 ∧ s1 ≠ s2 ∧ s1 ≠ s3 ∧ s2 ≠ s3 ∧ 2 ≤ d x s1 ∧ 2 ≤ d x s2 ∧ 2 ≤ d x s3 := by
    intro g a hlg hdg haN ha ht hNa
    obtain ⟨hgs, z, u, hz, hzx, hu, hgu, hdu⟩ := hg g hlg hdg
    obtain ⟨a', c1, c2, c3, c4, c5, nT, i0, j0, c6, c7, c8, c9, c10, c11⟩ := ax_LN hR hdg haN ha (by omega) (by omega) hx hgs hz
    rcases ax_LA hR hdg c2 c3 c4 (by omega) (by omega) hx hgs hz hu hgu hdu hzx hv0 hdv hdw c6 c7 c8 c9 c10 c11 with ⟨⟨b, g', b1, b2, b3, b4, b5⟩, F⟩ | M1
    · exact ⟨⟨g', b, 1, ab_zn Z b - (ab_zn Z a + 53), b2.2.2.1, b3, b1, b2, by omega, by omega, by omega, by omega⟩, F⟩
    · obtain ⟨a2, e1, e2, e3, e4, e5, nT2, i2, j2, e6, e7, e8, e9, e10, e11⟩ := ax_LN hR hdg c2 c3 (by omega) (by omega) hx hgs hz
      rcases ax_LA hR hdg e2 e3 e4 (by omega) (by omega) hx hgs hz hu hgu hdu hzx hv0 hdv hdw e6 e7 e8 e9 e10 e11 with ⟨⟨b, g', b1, b2, b3, b4, b5⟩, F⟩ | M2'
      · exact ⟨⟨g', b, 2, ab_zn Z b - (ab_zn Z a + 106), b2.2.2.1, b3, b1, b2, by omega, by omega, by omega, by omega⟩, F⟩
      · exact (hM a' a2 g c2 e2 c3 e3 hdg e4 (by omega) (by omega) M1 M2').elim
  have per : ∀ g a b, ab_zl Z x g → d x g = 1 → a < N → b < N → ab_ask Z a x g → ab_ask Z b x g → ab_zn Z 0 + 20 ≤ ab_zn Z a → ab_zn Z a ≤ ab_zn Z b → ab_zn Z b + 56 < ab_zn Z N → ∃ m, ab_zn Z b = ab_zn Z a + 53 * m := by
    intro g a b hlg hdg haN hbN ha hb h1 h2 h3
    obtain ⟨hgs, z, u, hz, _⟩ := hg g hlg hdg
    exact ax_per hR hdg hx hgs hz (ab_zn Z b) a b haN hbN ha hb h1 h2 (by omega) h3
  obtain ⟨a0, s1, s2, s3, s4⟩ := ab_askx h hL h0 hy (show ab_zn Z 0 ≤ ab_zn Z 0 + 30 by omega) (by omega)
  obtain ⟨⟨g1, a1, e1, d1, p1, p2, p3, p4, p5, p6, p7, p8⟩, t1, t2, t3, u1, u2, u3, u4, u5, u6, u7, u8, u9⟩ := step y a0 hy hd s1 s2 s3 (by omega)
  obtain ⟨⟨g2, a2, e2, d2, q1, q2, q3, q4, q5, q6, q7, q8⟩, _⟩ := step g1 a1 p1 p2 p3 p4 (by omega) (by omega)
  obtain ⟨⟨g3, a3, e3, d3, r1, r2, r3, r4, r5, r6, r7, r8⟩, _⟩ := step g2 a2 q1 q2 q3 q4 (by omega) (by omega)
  obtain ⟨⟨g4, a4, e4, d4, v1, v2, v3, v4, v5, v6, v7, v8⟩, _⟩ := step g3 a3 r1 r2 r3 r4 (by omega) (by omega)
  -- five neighbours, three far stations, x: two of them are one
  have ne : ∀ s g, 2 ≤ d x s → d x g = 1 → g ≠ s := fun s g hs hg e => by rw [e] at hg; omega
  have nx : ∀ s, 2 ≤ d x s → s ≠ x := fun s hs e => by rw [e, hG.1] at hs; omega
  have nx1 : ∀ g, d x g = 1 → g ≠ x := fun s hs e => by rw [e, hG.1] at hs; omega
  by_cases c01 : y = g1
  · rw [← c01] at p4
    obtain ⟨m, hm⟩ := per y a0 a1 hy hd s1 p3 s2 p4 (by omega) (by omega) (by omega)
    omega
  by_cases c02 : y = g2
  · rw [← c02] at q4
    obtain ⟨m, hm⟩ := per y a0 a2 hy hd s1 q3 s2 q4 (by omega) (by omega) (by omega)
    omega
  by_cases c03 : y = g3
  · rw [← c03] at r4
    obtain ⟨m, hm⟩ := per y a0 a3 hy hd s1 r3 s2 r4 (by omega) (by omega) (by omega)
    omega
  by_cases c04 : y = g4
  · rw [← c04] at v4
    obtain ⟨m, hm⟩ := per y a0 a4 hy hd s1 v3 s2 v4 (by omega) (by omega) (by omega)
    omega
  by_cases c12 : g1 = g2
  · rw [← c12] at q4
    obtain ⟨m, hm⟩ := per g1 a1 a2 p1 p2 p3 q3 p4 q4 (by omega) (by omega) (by omega)
    omega
  by_cases c13 : g1 = g3
  · rw [← c13] at r4
    obtain ⟨m, hm⟩ := per g1 a1 a3 p1 p2 p3 r3 p4 r4 (by omega) (by omega) (by omega)
    omega
  by_cases c14 : g1 = g4
  · rw [← c14] at v4
    obtain ⟨m, hm⟩ := per g1 a1 a4 p1 p2 p3 v3 p4 v4 (by omega) (by omega) (by omega)
    omega
  by_cases c23 : g2 = g3
  · rw [← c23] at r4
    obtain ⟨m, hm⟩ := per g2 a2 a3 q1 q2 q3 r3 q4 r4 (by omega) (by omega) (by omega)
    omega
  by_cases c24 : g2 = g4
  · rw [← c24] at v4
    obtain ⟨m, hm⟩ := per g2 a2 a4 q1 q2 q3 v3 q4 v4 (by omega) (by omega) (by omega)
    omega
  by_cases c34 : g3 = g4
  · rw [← c34] at v4
    obtain ⟨m, hm⟩ := per g3 a3 a4 r1 r2 r3 v3 r4 v4 (by omega) (by omega) (by omega)
    omega
  exact ax_nine x8 u1 u2 u3 (hl8 _ _ hy).2.2 (hl8 _ _ p1).2.2 (hl8 _ _ q1).2.2 (hl8 _ _ r1).2.2 (hl8 _ _ v1).2.2 (nx t1 u7) ⟨nx t2 u8, fun q => u4 q.symm⟩ ⟨nx t3 u9, fun q => u5 q.symm, fun q => u6 q.symm⟩
    ⟨nx1 y hd, ne t1 y u7 hd, ne t2 y u8 hd, ne t3 y u9 hd⟩ ⟨nx1 g1 p2, ne t1 g1 u7 p2, ne t2 g1 u8 p2, ne t3 g1 u9 p2, fun q => c01 q.symm⟩ ⟨nx1 g2 q2, ne t1 g2 u7 q2, ne t2 g2 u8 q2, ne t3 g2 u9 q2, fun q => c02 q.symm, fun q => c12 q.symm⟩
    ⟨nx1 g3 r2, ne t1 g3 u7 r2, ne t2 g3 u8 r2, ne t3 g3 u9 r2, fun q => c03 q.symm, fun q => c13 q.symm, fun q => c23 q.symm⟩ ⟨nx1 g4 v2, ne t1 g4 u7 v2, ne t2 g4 u8 v2, ne t3 g4 u9 v2, fun q => c04 q.symm, fun q => c14 q.symm, fun q => c24 q.symm, fun q => c34 q.symm⟩
