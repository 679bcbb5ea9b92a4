/-! ## distance 2 in general surroundings -/
/-- the TELL from a goal at distance 2 makes three links at most -/
theorem ax_g2T {Z : ab_Z} {d : Nat → Nat → Nat} {N j a y x w : Nat} (hW : ax_W Z d N) (h0 : ab_t0 Z N) (hx : ∀ q, ab_zl Z q x → q = w) (hg : ∀ g, ab_zl Z x g → 2 ≤ d x g) (hj : j < N) (ht : ab_tb Z d j a y x) (h20 : ab_zn Z 0 + 20 ≤ ab_zn Z a) (hd : d x y = 2) :
    ∀ k i f, ax_fr Z N j y x i f → f 7 = k → k ≤ 2 ∧ d x (f 2) + k ≤ 2 ∧ d x (f 2) ≤ 1 := by
  have hW' := hW
  obtain ⟨h, hL, hG, hl8, hq⟩ := hW'
  have hl : ∀ a b, ab_zl Z a b → a ≠ b := fun a b z => (hl8 a b z).1
  have haN : a < N := by have := ht.1; omega
  have ha := ht.2.1
  obtain ⟨q1, q2, q3⟩ := ab_qf h haN ha
  have hbq : ab_bn Z N x (ab_zD Z (a + 1) 4 x 0) (ab_zn Z a) := ⟨a, haN, rfl, by omega, Nat.le_refl _⟩
  have jd := ht.2.2.2.2.2.2.2.2.1
  have late : ∀ jm am, jm < N → ab_tb Z d jm am x w → ab_zD Z (a + 1) 4 x 0 ≤ ab_zD Z (jm + 1) 4 x 0 → ab_zn Z jm + 1 ≤ ab_zn Z N → ab_zn Z a + 1 ≤ ab_zn Z jm := by
    intro jm am h1 h2 h3 h4
    have gr := ax_tgrow h h2 h1
    have ne := ax_tq h haN ha h1 h2
    have hlt : a < jm := by
      by_cases e : a < jm
      · exact e
      · by_cases e2 : jm = a
        · exact absurd (by rw [e2]) ne
        · have := ab_ownm (c := x) h (show jm + 1 ≤ a by omega) (by omega)
          omega
    have := ab_urg h hL h0 h1 hlt h2.2.2.1 ha.2.2.2.1 (by rw [ha.1, ha.2.1]; exact ha.2.2.1) (by omega)
    omega
  have src : ∀ i v, i ≤ N → ab_zD Z (a + 1) 4 x 0 ≤ ab_zD Z i 3 v x → (d x v ≤ 2 → ab_zD Z i 2 v x ≤ d x v) ∨ ∃ jm am, jm < N ∧ ab_tb Z d jm am x w ∧ ab_zD Z i 3 v x = ab_zD Z (jm + 1) 4 x 0 ∧ ab_zn Z jm + ab_zD Z i 2 v x ≤ ab_zn Z i := by
    intro i v hi hn
    obtain ⟨b, hbi, s1, s2, s3, s4, s5, s6, s7, s8⟩ := ab_srcI h i hi v x (by omega)
    have mrb : ab_rc Z (ab_zX Z b) := ⟨by rcases s3 with ⟨y, _⟩ | y <;> omega, Or.inl (by rw [s4]; omega)⟩
    rcases s3 with ⟨x30, _⟩ | x31
    · obtain ⟨b', hb'm, hba, hb6, hb8, hbt'⟩ := ab_hask h (by omega) s1 x30 mrb
      rw [s4] at hba hb6
      exact Or.inl (fun dv => ab_qx h hL (show b' < N by omega) hba hi (by rw [← s5, hb6]) (ab_gdb hG _ x (d x v) v rfl (by omega) (by have := hg _ hba.2.2.1; omega)))
    · obtain ⟨jm, am, w', r', c1, c2, c3, c4, c5, c6, c7, c8, c9, c10, c11, c12⟩ := ax_hT1 hW (show b < N by omega) s1 s4 x31 q2 hbq (by omega) (by omega)
      have ww := hx w' c2.2.1.2.2.1
      rw [ww] at c2
      have := ab_nowm h (show b ≤ i by omega) hi
      exact Or.inr ⟨jm, am, c1, c2, by omega, by omega⟩
  have ptr : ∀ i f, ax_fr Z N j y x i f → ab_zD Z (a + 1) 4 x 0 ≤ ab_zD Z (i + 1) 3 (f 1) x ∧ d x (f 2) + 1 ≤ ab_zD Z (i + 1) 2 (f 1) x ∧ f 1 ≠ x := by
    intro i f hf
    obtain ⟨g2, gn, gz, gu, g0⟩ := ab_tnr h hl hj ht i hf.1 f hf.2.1 hf.2.2.1 hf.2.2.2.1 hf.2.2.2.2.1 hf.2.2.2.2.2.1 hf.2.2.2.2.2.2
    have h8 : ab_zD Z (i + 1) 1 (f 1) x ≠ 8 := by
      rw [← g2]
      have := (h.2.1 _ _ gu).2.2.1
      omega
    obtain ⟨_, _, _, _, _, _, _, hp⟩ := ab_wcI h (i + 1) (by have := hf.1; omega) (f 1) x (by omega)
    obtain ⟨_, p2, _⟩ := hp h8
    rw [← g2] at p2
    exact ⟨gn, p2, gz⟩
  -- the first link
  have k0 : ∀ i f, ax_fr Z N j y x i f → f 7 = 0 → d x (f 2) ≤ 1 := by
    intro i f hf e7
    obtain ⟨gn, p2, gz⟩ := ptr i f hf
    obtain ⟨_, _, _, _, g0⟩ := ab_tnr h hl hj ht i hf.1 f hf.2.1 hf.2.2.1 hf.2.2.2.1 hf.2.2.2.2.1 hf.2.2.2.2.2.1 hf.2.2.2.2.2.2
    have ij := g0 e7
    have kK : ab_zK Z i = 1 := by rw [ij]; exact ht.2.2.1
    have hn1 : ab_zn Z (i + 1) = ab_zn Z i := by rw [ab_now1 h hf.1, if_neg (by omega)]
    have eij : ab_zn Z i = ab_zn Z j := by rw [ij]
    obtain ⟨t', hb', _, ht', _⟩ := ab_wcI h (i + 1) (by have := hf.1; omega) (f 1) x (by omega)
    have lb := ab_bnl h hbq hb' gn
    omega
  -- the second
  have k1 : ∀ i f, ax_fr Z N j y x i f → f 7 = 1 → d x (f 1) ≤ 1 ∧ ab_zD Z (i + 1) 2 (f 1) x ≤ 2 ∧ d x (f 2) ≤ 1 := by
    intro i f hf e7
    obtain ⟨gn, p2, gz⟩ := ptr i f hf
    obtain ⟨v1, v2, v3, v4, mm, v5, v6⟩ := ax_prv hW hj ht hf (by omega)
    have dn := k0 mm _ v6 (by omega)
    have z2 : ab_zX Z i 2 = ab_zs Z i := (h.2.2.2.2.2.1 i hf.1 v1).2.2.1
    have f1 : f 1 = ab_zs Z i := (ab_d1 hf.2.1 (by have := hf.2.2.1; omega)).2.1
    have hn1 : ab_zn Z (i + 1) = ab_zn Z i := by rw [ab_now1 h hf.1, if_neg (by omega)]
    obtain ⟨tn, _⟩ := ax_frt hW ht hf
    rw [z2, ← f1] at dn
    have iNt := ab_nowm h (show i + 1 ≤ N by have := hf.1; omega) (Nat.le_refl _)
    have iN := hf.1
    have le2 : ab_zD Z (i + 1) 2 (f 1) x ≤ 2 := by
      rcases src (i + 1) (f 1) (by omega) gn with z | ⟨jm, am, m1, m2, m3, m4⟩
      · have := z (by omega)
        omega
      · have := late jm am m1 m2 (by omega) (by
          obtain ⟨_, _, _, _, dd, _⟩ := ab_wcI h (i + 1) (by omega) (f 1) x (by omega)
          omega)
        omega
    exact ⟨dn, le2, by omega⟩
  have k2 : ∀ i f, ax_fr Z N j y x i f → f 7 = 2 → f 2 = x := by
    intro i f hf e7
    obtain ⟨gn, p2, gz⟩ := ptr i f hf
    obtain ⟨v1, v2, v3, v4, mm, v5, v6⟩ := ax_prv hW hj ht hf (by omega)
    obtain ⟨du, le2, dn⟩ := k1 mm _ v6 (by omega)
    have z2 : ab_zX Z i 2 = ab_zs Z i := (h.2.2.2.2.2.1 i hf.1 v1).2.2.1
    have f1 : f 1 = ab_zs Z i := (ab_d1 hf.2.1 (by have := hf.2.2.1; omega)).2.1
    have hn1 : ab_zn Z (i + 1) = ab_zn Z i := by rw [ab_now1 h hf.1, if_neg (by omega)]
    obtain ⟨tn, _⟩ := ax_frt hW ht hf
    obtain ⟨bn, bp, bz⟩ := ptr mm _ v6
    obtain ⟨b2, _, _, bu, _⟩ := ab_tnr h hl hj ht mm v6.1 _ v6.2.1 v6.2.2.1 v6.2.2.2.1 v6.2.2.2.2.1 v6.2.2.2.2.2.1 v6.2.2.2.2.2.2
    have iN := hf.1
    have hu8 : ab_zD Z (mm + 1) 1 (ab_zX Z i 1) x ≠ 8 := by
      rw [← b2]
      have := (h.2.1 _ _ bu).2.2.1
      omega
    have hnr : ∀ I, I ≤ i + 1 → ax_nr Z x (ab_zD Z (a + 1) 4 x 0) I := fun I hI => ax_nrI hW h0 hx haN ha h20 I (by omega) (by have := ab_nowm h hI (by omega); omega)
    have hch := ax_ch2 h q2 (mm + 1) (by omega) (hnr _ (by omega)) (ab_zX Z i 1) bz bn hu8
    rw [← b2, z2, ← f1] at hch
    rw [z2, ← f1] at dn
    have d1 : 1 ≤ d x (f 1) := ax_d1 hW (fun e => gz e.symm)
    have du1 : 1 ≤ d x (ab_zX Z i 1) := ax_d1 hW (fun e => bz e.symm)
    have mono := ab_nrm (v := f 1) (c := x) h (show mm + 1 ≤ i + 1 by omega) (by omega)
    have iNt := ab_nowm h (show i + 1 ≤ N by omega) (Nat.le_refl _)
    have one : ab_zD Z (i + 1) 2 (f 1) x ≤ 1 := by
      rcases src (i + 1) (f 1) (by omega) gn with z | ⟨jm, am, m1, m2, m3, m4⟩
      · have := z (by omega)
        omega
      · have hl1 := late jm am m1 m2 (by omega) (by
          obtain ⟨_, _, _, _, dd, _⟩ := ab_wcI h (i + 1) (by omega) (f 1) x (by omega)
          omega)
        rcases src (mm + 1) (ab_zX Z i 1) (by omega) bn with y | ⟨jm', am', m1', m2', m3', m4'⟩
        · -- by a question the station before would have had one link left
          exfalso
          rw [z2, ← f1] at bp
          have := y (by omega)
          omega
        · have hnm : ab_zn Z (mm + 1) ≤ ab_zn Z (i + 1) := ab_nowm h (by omega) (by omega)
          have hl2 := late jm' am' m1' m2' (by omega) (by
            obtain ⟨_, _, _, _, dd, _⟩ := ab_wcI h (mm + 1) (by omega) (ab_zX Z i 1) x (by omega)
            omega)
          have e := ab_tone h m1 m1' m2 m2' (by omega) (by omega)
          rw [← e] at m3'
          have ei : ab_zD Z (mm + 1) 3 (f 1) x = ab_zD Z (mm + 1) 3 (ab_zX Z i 1) x ∧ ab_zD Z (mm + 1) 2 (f 1) x < ab_zD Z (mm + 1) 2 (ab_zX Z i 1) x := by
            rcases hch with z | z | z
            · exact absurd z gz
            · omega
            · exact z
          have cs := ax_cst2 h q2 gz (show ab_zD Z (a + 1) 4 x 0 ≤ ab_zD Z (mm + 1) 3 (f 1) x by omega) (i + 1) (by omega) (by omega) (hnr _ (Nat.le_refl _)) (by omega)
          omega
    exact (hG.2.2.2.1 x _ (by omega)).symm
  intro k i f hf e7
  by_cases e0 : k = 0
  · have := k0 i f hf (by omega)
    omega
  · by_cases e1 : k = 1
    · have := (k1 i f hf (by omega)).2.2
      omega
    · by_cases e2 : k = 2
      · have := k2 i f hf (by omega)
        rw [this, hG.1]
        omega
      · exfalso
        obtain ⟨i', f', hf', e'⟩ := ax_dn hW hj ht (k - 3) i f hf (by omega)
        obtain ⟨v1, v2, v3, v4, mm, v5, v6⟩ := ax_prv hW hj ht hf' (by omega)
        have := k2 mm _ v6 (by omega)
        have z2 : ab_zX Z i' 2 = ab_zs Z i' := (h.2.2.2.2.2.1 i' hf'.1 v1).2.2.1
        exact v2 (by rw [← z2, this])
