/-! ## a TELL to w from a station at distance 3 at most stays near w -/
def ax_nI (Z : ab_Z) (d : Nat → Nat → Nat) (N w x nQ k i v : Nat) : Prop :=
  (ab_zD Z i 2 v w + k ≤ 3) ∨
  (ab_zD Z i 2 v w ≤ 2 ∧ ∃ jm am, jm < N ∧ ab_tb Z d jm am w x ∧ nQ ≤ ab_zD Z (jm + 1) 4 w 0 ∧ ab_zD Z (jm + 1) 4 w 0 < ab_zD Z i 3 v w) ∨
  (ab_zD Z i 2 v w ≤ 4 ∧ (ab_zD Z i 2 v w = 4 → d w v ≤ 1) ∧ ∃ jm am, jm < N ∧ ab_tb Z d jm am w x ∧ ab_zD Z i 3 v w = ab_zD Z (jm + 1) 4 w 0)
theorem ax_ne3 {Z : ab_Z} {d : Nat → Nat → Nat} {N j az y w x : Nat} (hW : ax_W Z d N) (h0 : ab_t0 Z N) (hU : ax_U Z N) (hw : ∀ q, ab_zl Z q w → q = x) (hdx : 2 ≤ d w x) (hgw : ∀ g, ab_zl Z w g → 2 ≤ d w g) (hj : j < N) (ht : ab_tb Z d j az y w) (h20 : ab_zn Z 0 + 20 ≤ ab_zn Z az) (h3 : d w y ≤ 3) :
    ∀ k i f, ax_fr Z N j y w i f → f 7 = k → d w (f 2) ≤ 2 ∧ ax_nI Z d N w x (ab_zD Z (az + 1) 4 w 0) k (i + 1) (f 1) := by
  have hW' := hW
  obtain ⟨h, hL, hG, hl8, hq⟩ := hW'
  have hl : ∀ a b, ab_zl Z a b → a ≠ b := fun a b z => (hl8 a b z).1
  have azN : az < N := by have := ht.1; omega
  have haz := ht.2.1
  obtain ⟨q1, q2, q3⟩ := ab_qf h azN haz
  have hbq : ab_bn Z N w (ab_zD Z (az + 1) 4 w 0) (ab_zn Z az) := ⟨az, azN, rfl, by omega, Nat.le_refl _⟩
  have jd := ht.2.2.2.2.2.2.2.2.1
  -- TELLs of w with a number newer than the question are born later
  have late : ∀ jm am, jm < N → ab_tb Z d jm am w x → ab_zD Z (az + 1) 4 w 0 ≤ ab_zD Z (jm + 1) 4 w 0 → ab_zn Z jm + 1 ≤ ab_zn Z N → ab_zn Z az + 1 ≤ ab_zn Z jm := by
    intro jm am h1 h2 h3 h4
    have gr := ax_tgrow h h2 h1
    have ne := ax_tq h azN haz h1 h2
    have hlt : az < jm := by
      by_cases e : az < jm
      · exact e
      · by_cases e2 : jm = az
        · exact absurd (by rw [e2]) ne
        · have := ab_ownm (c := w) h (show jm + 1 ≤ az by omega) (by omega)
          omega
    have := ab_urg h hL h0 h1 hlt h2.2.2.1 haz.2.2.2.1 (by rw [haz.1, haz.2.1]; exact haz.2.2.1) (by omega)
    omega
  have near : ∀ k i f, ax_fr Z N j y w i f → ax_nI Z d N w x (ab_zD Z (az + 1) 4 w 0) k (i + 1) (f 1) → d w (f 2) ≤ 2 := by
    intro k i f hf hI
    obtain ⟨g2, gn, gz, gu, g0⟩ := ab_tnr h hl hj ht i hf.1 f hf.2.1 hf.2.2.1 hf.2.2.2.1 hf.2.2.2.2.1 hf.2.2.2.2.2.1 hf.2.2.2.2.2.2
    have h8 : ab_zD Z (i + 1) 1 (f 1) w ≠ 8 := by
      rw [← g2]
      have := (h.2.1 _ _ gu).2.2.1
      omega
    obtain ⟨_, _, _, _, _, _, _, hp⟩ := ab_wcI h (i + 1) (by have := hf.1; omega) (f 1) w (by omega)
    obtain ⟨_, p2, _⟩ := hp h8
    rw [← g2] at p2
    have li := hG.2.1 w _ _ gu
    rcases hI with z | ⟨z, _⟩ | ⟨z1, z2, _⟩
    · omega
    · omega
    · by_cases e : ab_zD Z (i + 1) 2 (f 1) w = 4
      · have := z2 e
        omega
      · omega
  -- where the way of a station comes from
  have src : ∀ i v, i ≤ N → ab_zD Z (az + 1) 4 w 0 ≤ ab_zD Z i 3 v w → (d w v ≤ 2 → ab_zD Z i 2 v w ≤ d w v) ∨ ∃ jm am, jm < N ∧ ab_tb Z d jm am w x ∧ ab_zD Z i 3 v w = ab_zD Z (jm + 1) 4 w 0 ∧ ab_zn Z jm + ab_zD Z i 2 v w ≤ ab_zn Z i := by
    intro i v hi hn
    obtain ⟨b, hbi, s1, s2, s3, s4, s5, s6, s7, s8⟩ := ab_srcI h i hi v w (by omega)
    have mrb : ab_rc Z (ab_zX Z b) := ⟨by rcases s3 with ⟨y, _⟩ | y <;> omega, Or.inl (by rw [s4]; omega)⟩
    rcases s3 with ⟨x30, _⟩ | x31
    · obtain ⟨b', hb'm, hba, hb6, hb8, hbt'⟩ := ab_hask h (by omega) s1 x30 mrb
      rw [s4] at hba hb6
      exact Or.inl (fun dv => ab_qx h hL (show b' < N by omega) hba hi (by rw [← s5, hb6]) (ab_gdb hG _ w (d w v) v rfl (by omega) (by have := hgw _ hba.2.2.1; omega)))
    · obtain ⟨jm, am, w', r', c1, c2, c3, c4, c5, c6, c7, c8, c9, c10, c11, c12⟩ := ax_hT1 hW (show b < N by omega) s1 s4 x31 q2 hbq (by omega) (by omega)
      have ww := hw w' c2.2.1.2.2.1
      rw [ww] at c2
      have := ab_nowm h (show b ≤ i by omega) hi
      exact Or.inr ⟨jm, am, c1, c2, by omega, by omega⟩
  intro k
  induction k with
  | zero =>
    intro i f hf e7
    have hI : ax_nI Z d N w x (ab_zD Z (az + 1) 4 w 0) 0 (i + 1) (f 1) := by
      obtain ⟨g2, gn, gz, gu, g0⟩ := ab_tnr h hl hj ht i hf.1 f hf.2.1 hf.2.2.1 hf.2.2.2.1 hf.2.2.2.2.1 hf.2.2.2.2.2.1 hf.2.2.2.2.2.2
      have ij := g0 e7
      have kK : ab_zK Z i = 1 := by rw [ij]; exact ht.2.2.1
      have hn1 : ab_zn Z (i + 1) = ab_zn Z i := by rw [ab_now1 h hf.1, if_neg (by omega)]
      have eij : ab_zn Z i = ab_zn Z j := by rw [ij]
      obtain ⟨t', hb', _, ht', _⟩ := ab_wcI h (i + 1) (by have := hf.1; omega) (f 1) w (by omega)
      have lb := ab_bnl h hbq hb' gn
      exact Or.inl (by omega)
    exact ⟨near 0 i f hf hI, hI⟩
  | succ k ih =>
    intro i f hf e7
    have hI : ax_nI Z d N w x (ab_zD Z (az + 1) 4 w 0) (k + 1) (i + 1) (f 1) := by
      obtain ⟨g2, gn, gz, gu, g0⟩ := ab_tnr h hl hj ht i hf.1 f hf.2.1 hf.2.2.1 hf.2.2.2.1 hf.2.2.2.2.1 hf.2.2.2.2.2.1 hf.2.2.2.2.2.2
      obtain ⟨v1, v2, v3, v4, mm, v5, v6⟩ := ax_prv hW hj ht hf (by omega)
      obtain ⟨dn, hIu⟩ := ih mm _ v6 (by omega)
      have z2 : ab_zX Z i 2 = ab_zs Z i := (h.2.2.2.2.2.1 i hf.1 v1).2.2.1
      have f1 : f 1 = ab_zs Z i := (ab_d1 hf.2.1 (by have := hf.2.2.1; omega)).2.1
      have hn1 : ab_zn Z (i + 1) = ab_zn Z i := by rw [ab_now1 h hf.1, if_neg (by omega)]
      obtain ⟨tn, _⟩ := ax_frt hW ht hf
      obtain ⟨lf, _⟩ := ax_life2 hW h0 hU hw hdx hj ht h20 _ i f hf rfl
      obtain ⟨b2, bn, bz, bu, b0⟩ := ab_tnr h hl hj ht mm v6.1 _ v6.2.1 v6.2.2.1 v6.2.2.2.1 v6.2.2.2.2.1 v6.2.2.2.2.2.1 v6.2.2.2.2.2.2
      have iN := hf.1
      have hu8 : ab_zD Z (mm + 1) 1 (ab_zX Z i 1) w ≠ 8 := by
        rw [← b2]
        have := (h.2.1 _ _ bu).2.2.1
        omega
      have hnr : ∀ I, I ≤ i + 1 → ax_nr Z w (ab_zD Z (az + 1) 4 w 0) I := fun I hI => ax_nrI hW h0 hw azN haz h20 I (by omega) (by have := ab_nowm h hI (by omega); omega)
      have hch := ax_ch2 h q2 (mm + 1) (by omega) (hnr _ (by omega)) (ab_zX Z i 1) bz bn hu8
      obtain ⟨_, _, _, _, _, _, _, hpu⟩ := ab_wcI h (mm + 1) (by omega) (ab_zX Z i 1) w (by omega)
      obtain ⟨_, pu2, _⟩ := hpu hu8
      rw [← b2, z2, ← f1] at hch pu2
      rw [z2, ← f1] at dn
      have mono := ab_nrm (v := f 1) (c := w) h (show mm + 1 ≤ i + 1 by omega) (by omega)
      have hge : ab_zD Z (mm + 1) 3 (ab_zX Z i 1) w ≤ ab_zD Z (i + 1) 3 (f 1) w := by
        rcases hch with z | z | z
        · exact absurd z gz
        · omega
        · omega
      have d1 : 1 ≤ d w (f 1) := ax_d1 hW (fun e => gz e.symm)
      have iNt := ab_nowm h (show i + 1 ≤ N by omega) (Nat.le_refl _)
      rcases src (i + 1) (f 1) (by omega) gn with z | ⟨jm, am, m1, m2, m3, m4⟩
      · have z' := z dn
        rcases hIu with y | ⟨y1, jm, am, y2, y3, y4, y5⟩ | ⟨y1, y2, jm, am, y3, y4, y5⟩
        · exact Or.inl (by omega)
        · exact Or.inr (Or.inl ⟨by omega, jm, am, y2, y3, y4, by omega⟩)
        · by_cases e : ab_zD Z (i + 1) 3 (f 1) w = ab_zD Z (jm + 1) 4 w 0
          · refine Or.inr (Or.inr ⟨by omega, fun _ => by omega, jm, am, y3, y4, e⟩)
          · exact Or.inr (Or.inl ⟨by omega, jm, am, y3, y4, by omega, by omega⟩)
      · have hlate : ab_zn Z az + 1 ≤ ab_zn Z jm := late jm am m1 m2 (by omega) (by
          obtain ⟨_, _, _, _, dd, _⟩ := ab_wcI h (i + 1) (by omega) (f 1) w (by omega)
          omega)
        rcases hIu with y | ⟨y1, jm', am', y2, y3, y4, y5⟩ | ⟨y1, y2, jm', am', y3, y4, y5⟩
        · refine Or.inr (Or.inr ⟨by omega, fun e => by omega, jm, am, m1, m2, m3⟩)
        · exfalso
          have hb1 : ab_bn Z N w (ab_zD Z (jm' + 1) 4 w 0) (ab_zn Z jm') := ⟨jm', y2, rfl, by have := ax_tgrow h y3 y2; omega, Nat.le_refl _⟩
          have hb2 : ab_bn Z N w (ab_zD Z (jm + 1) 4 w 0) (ab_zn Z jm) := ⟨jm, m1, rfl, by have := ax_tgrow h m2 m1; omega, Nat.le_refl _⟩
          have l1 := ab_bnl h hbq hb1 y4
          have l2 := ab_bnl h hb1 hb2 (by omega)
          have e := ab_tone h y2 m1 y3 m2 (by omega) (by omega)
          rw [e] at y5
          omega
        · have hb1 : ab_bn Z N w (ab_zD Z (jm' + 1) 4 w 0) (ab_zn Z jm') := ⟨jm', y3, rfl, by have := ax_tgrow h y4 y3; omega, Nat.le_refl _⟩
          have hb2 : ab_bn Z N w (ab_zD Z (jm + 1) 4 w 0) (ab_zn Z jm) := ⟨jm, m1, rfl, by have := ax_tgrow h m2 m1; omega, Nat.le_refl _⟩
          have l1 := ab_bnl h hbq hb1 (by omega)
          have l2 := ab_bnl h hb1 hb2 (by omega)
          have e := ab_tone h y3 m1 y4 m2 (by omega) (by omega)
          rw [e] at y5
          have ei : ab_zD Z (mm + 1) 3 (f 1) w = ab_zD Z (mm + 1) 3 (ab_zX Z i 1) w ∧ ab_zD Z (mm + 1) 2 (f 1) w < ab_zD Z (mm + 1) 2 (ab_zX Z i 1) w := by
            rcases hch with z | z | z
            · exact absurd z gz
            · omega
            · exact z
          have cs := ax_cst2 h q2 gz (show ab_zD Z (az + 1) 4 w 0 ≤ ab_zD Z (mm + 1) 3 (f 1) w by omega) (i + 1) (by omega) (by omega) (hnr _ (Nat.le_refl _)) (by omega)
          exact Or.inr (Or.inr ⟨by omega, fun e => by omega, jm, am, m1, m2, m3⟩)
    exact ⟨near (k + 1) i f hf hI, hI⟩
