/-- THE BOUND for the detours alone -/
theorem ax_GB3 {u : Nat → Nat → Prop} {d : Nat → Nat → Nat} {z : Nat} (h : ab_G u d) (hz : z < 8) : ax_sm (fun _ => True) (ax_E2 u d z) 8 ≤ 12 := by
  have h0 : ∀ g, d z g = 0 → ¬ ax_ef u d z g := by
    intro g hg ⟨v, k, hw, hb⟩
    have e := h.2.2.2.1 z g hg
    cases k with
    | zero =>
      rw [show v = z from hw, h.1] at hb
      exact hb rfl
    | succ k =>
      have : ∀ k p, ab_gd u g z k p → k = 0 ∨ ∃ p', ab_gd u g z 1 p' := by
        intro k
        induction k with
        | zero => intro p _; exact Or.inl rfl
        | succ k ih =>
          intro p ⟨p', q1, q2, q3⟩
          cases k with
          | zero => exact Or.inr ⟨p, p', q1, q2, q3⟩
          | succ k =>
            rcases ih p' q1 with y | y
            · omega
            · exact Or.inr y
      rcases this (k + 1) v hw with y | ⟨p', p'', y1, y2, _⟩
      · omega
      · exact y2 (by rw [show p'' = z from y1]; exact e)
  obtain ⟨a1, a2, a3⟩ := ax_pn (e := 1) (e' := 2) (z := z) rfl h hz
  obtain ⟨b1, b2, b3⟩ := ax_pn (e := 2) (e' := 3) (z := z) rfl h hz
  obtain ⟨c1, c2, c3⟩ := ax_pn (e := 3) (e' := 4) (z := z) rfl h hz
  obtain ⟨d1, d2, d3⟩ := ax_pn (e := 4) (e' := 5) (z := z) rfl h hz
  have L := ax_lvs (d := d) (z := z) 8
  have n0 : 1 ≤ ax_cn (fun v => d z v = 0) := ax_cn1 hz (h.1 z)
  have B : ∀ k, ax_cn (fun v => d z v = 1) = k → ax_sm (fun _ => True) (ax_E2 u d z) 8 ≤ (6 - k) * ax_cn (fun h => ax_ef u d z h ∧ d z h = 1) + (4 - k) * ax_cn (fun h => ax_ef u d z h ∧ d z h = 2) + (3 - k) * ax_cn (fun h => ax_ef u d z h ∧ d z h = 3) + (2 - k) * ax_cn (fun h => ax_ef u d z h ∧ d z h = 4) ∨ k = 0 := by
    intro k hk
    by_cases k0 : k = 0
    · exact Or.inr k0
    · refine Or.inl ?_
      show _ ≤ (6 - k) * ax_sm (fun h => ax_ef u d z h ∧ d z h = 1) (fun _ => 1) 8 + (4 - k) * ax_sm (fun h => ax_ef u d z h ∧ d z h = 2) (fun _ => 1) 8 + (3 - k) * ax_sm (fun h => ax_ef u d z h ∧ d z h = 3) (fun _ => 1) 8 + (2 - k) * ax_sm (fun h => ax_ef u d z h ∧ d z h = 4) (fun _ => 1) 8
      rw [← ax_Ec 8]
      refine ax_smE (fun g => ?_) 8
      unfold ax_E2
      by_cases f : ax_ef u d z g
      · rw [ab_ip f, ab_ip f, hk]
        have hne : d z g ≠ 0 := fun q => h0 g q f
        split
        · omega
        · split
          · omega
          · split
            · omega
            · split <;> omega
      · rw [ab_in f, ab_in f]
        omega
  have n18 := ax_le (P := fun v => d z v = 1) 8
  have hk : ∃ k, ax_cn (fun v => d z v = 1) = k := ⟨_, rfl⟩
  obtain ⟨k, hk⟩ := hk
  have hk8 : k ≤ 8 := by rw [← hk]; exact n18
  have BB := B k hk
  simp only [ax_cn] at *
  have kc : k = 0 ∨ k = 1 ∨ k = 2 ∨ k = 3 ∨ k = 4 ∨ k = 5 ∨ k = 6 ∨ k = 7 ∨ k = 8 := by omega
  rcases kc with e | e | e | e | e | e | e | e | e <;> subst e
  · have noef : ∀ g, ¬ ax_ef u d z g := by
      intro g ⟨v, kk, hw, hb⟩
      have hv7 := ab_gd7 h g z kk v hw
      have hv8 : v < 8 := by
        cases kk with
        | zero => rw [show v = z from hw]; exact hz
        | succ kk => obtain ⟨p, _, _, hu⟩ := hw; exact (h.2.2.2.2.2.1 p v hu).2.2.1
      rcases Nat.eq_zero_or_pos (d z v) with q | q
      · rw [q] at hb
        exact hb (h.2.2.2.1 z v q).symm
      · obtain ⟨p, p1, p2⟩ := ab_lev h z _ v rfl hv7 hv8 1 q
        have := ax_cn1 (P := fun v => d z v = 1) p1 p2
        simp only [ax_cn] at this
        omega
    have z0 : ax_sm (fun _ => True) (ax_E2 u d z) 8 ≤ ax_sm (fun _ => True) (fun _ => 0) 8 := ax_smE (fun g => by
      unfold ax_E2
      rw [ab_in (noef g)]
      omega) 8
    have z1 : ∀ n, ax_sm (fun _ => True) (fun _ => 0) n = 0 := by
      intro n
      induction n with
      | zero => rfl
      | succ n ih =>
        show ax_sm (fun _ => True) (fun _ => 0) n + ab_if True 0 0 = 0
        rw [ih, ab_ip trivial]
    rw [z1 8] at z0
    omega
  all_goals (rcases BB with BB | BB <;> omega)
/-! ## how old a TELL to z gets, z the goal of one station -/
theorem ax_age {Z : ab_Z} {d : Nat → Nat → Nat} {N j a c z u : Nat} {E : Nat → Nat} (hW : ax_W Z d N) (h0 : ab_t0 Z N) (hU : ax_U Z N) (hu : ∀ q, ab_zl Z q z → q = u) (hdu : 2 ≤ d z u) (hj : j < N) (ht : ab_tb Z d j a c z) (h20 : ab_zn Z 0 + 20 ≤ ab_zn Z a) (hE : ax_X Z d z E) {i : Nat} {w : ab_F} (hf : ax_fr Z N j c z i w) (hti : ab_zn Z i ≤ ab_zn Z a + 24) :
    w 7 + 1 + d z (w 2) ≤ d z c + ax_sm (fun _ => True) E 8 + 5 := by
  have hW' := hW
  obtain ⟨h, hL, hG, hl8, hq⟩ := hW'
  have hl : ∀ a b, ab_zl Z a b → a ≠ b := fun a b z => (hl8 a b z).1
  have haN : a < N := by have := ht.1; omega
  have ha := ht.2.1
  obtain ⟨q1, q2, q3⟩ := ab_qf h haN ha
  have P := ax_pot2 hW h0 hU hu hdu hj ht h20 hE i w hf hti
  have hf' := hf
  obtain ⟨hi, ho, h3, hr, hb, e4c, e5z⟩ := hf'
  obtain ⟨g2, gn, gz, gu, g0⟩ := ab_tnr h hl hj ht i hi w ho h3 hr hb e4c e5z
  have w28 : ab_zD Z (i + 1) 1 (w 1) z ≠ 8 := by
    rw [← g2]
    have := (h.2.1 _ _ gu).2.2.1
    omega
  obtain ⟨_, _, _, _, _, _, _, hpp⟩ := ab_wcI h (i + 1) (by omega) (w 1) z (by omega)
  obtain ⟨_, r2, r3⟩ := hpp w28
  rw [← g2] at r2 r3
  have S := ax_smm (P := ax_C Z N a z (ab_zD Z (i + 1) 3 (w 1) z)) (Q := fun _ => True) (E := E) (fun _ _ => trivial) 8
  have ki : ab_zK Z i = 1 := by
    by_cases e : w 7 = 0
    · rw [g0 e]; exact ht.2.2.1
    · exact (ax_prv hW hj ht hf e).1
  have hni : ab_zn Z (i + 1) = ab_zn Z i := by rw [ab_now1 h hi, if_neg (by omega)]
  have hnr : ax_nr Z z (ab_zD Z (a + 1) 4 z 0) (i + 1) := ax_nrI hW h0 hu haN ha h20 (i + 1) (by omega) (by omega)
  rcases P with ⟨_, I⟩ | ⟨jj, aa, q, y1, y2, y3, y4, I⟩ | ⟨jj, aa, q, y1, y2, y3, y4, I⟩
  · omega
  · obtain ⟨x1, x2, x3, _⟩ := ax_Hp (i := i + 1) (p := w 1) hW haN ha h20 y1 y2 rfl y3 (by omega) hnr y4
    by_cases e : w 2 = z
    · have c1 := ax_cn1 x1.2.1 x1
      rw [e, hG.1]
      omega
    · have xx := x3 w28 (by rw [← g2]; exact e)
      rw [← g2] at xx
      have c1 := ax_Hc hW haN ha h20 y1 y2 rfl y3 xx
      obtain ⟨_, _, _, _, d1, _⟩ := ab_wcI h (i + 1) (by omega) (w 1) z (by omega)
      have c2 := ax_sma (P := ax_H Z N (ab_zD Z (jj + 1) 4 z 0) z (ab_zD Z (i + 1) 2 (w 1) z - 1)) (Q := ax_H Z N (ab_zD Z (jj + 1) 4 z 0) z (ab_zD Z (i + 1) 2 (w 1) z)) (E := fun _ => 1) (k := w 1)
          (fun k ⟨b1, b8, b, b2, b3, b4, b5, b6, b7, b9⟩ => ⟨b1, b8, b, b2, b3, b4, b5, b6, b7, by omega⟩) (x2 _ (by omega)) x1 8 x1.2.1
      simp only [ax_cn] at *
      omega
  · omega
theorem ax_life2 {Z : ab_Z} {d : Nat → Nat → Nat} {N j a c z u : Nat} (hW : ax_W Z d N) (h0 : ab_t0 Z N) (hU : ax_U Z N) (hu : ∀ q, ab_zl Z q z → q = u) (hdu : 2 ≤ d z u) (hj : j < N) (ht : ab_tb Z d j a c z) (h20 : ab_zn Z 0 + 20 ≤ ab_zn Z a) :
    ∀ l i w, ax_fr Z N j c z i w → w 7 = l → ab_zn Z i ≤ ab_zn Z a + 24 ∧ ab_zn Z i = ab_zn Z a + d z c + w 7 ∧ w 7 + 1 + d z (w 2) ≤ d z c + 17 ∧ (ab_zn Z i = ab_zn Z a + 24 → w 2 = z) := by
  have hW' := hW
  obtain ⟨h, hL, hG, hl8, hq⟩ := hW'
  obtain ⟨hzc, z8, c8⟩ := hl8 _ _ ht.2.1.2.2.1
  have jd := ht.2.2.2.2.2.2.2.2.1
  have d7 := ht.2.2.2.2.2.2.2.2.2.1
  have B2 := ax_GB2 hG z8 c8 d7
  have B3 := ax_GB3 hG z8
  have fin : ∀ i w, ax_fr Z N j c z i w → ab_zn Z i ≤ ab_zn Z a + 24 → ab_zn Z i = ab_zn Z a + d z c + w 7 ∧ w 7 + 1 + d z (w 2) ≤ d z c + 17 ∧ (ab_zn Z i = ab_zn Z a + 24 → w 2 = z) := by
    intro i w hf hti
    have A := ax_age hW h0 hU hu hdu hj ht h20 (ax_XI2 hW z8) hf hti
    have e0 : w 0 = ab_zn Z i := (ab_d1 hf.2.1 (by have := hf.2.2.1; omega)).1
    have e1 := hf.2.2.2.2.1.2.1
    refine ⟨by omega, by omega, fun e => (hG.2.2.2.1 z (w 2) (by omega)).symm⟩
  intro l
  induction l with
  | zero =>
    intro i w hf e7
    have e0 : w 0 = ab_zn Z i := (ab_d1 hf.2.1 (by have := hf.2.2.1; omega)).1
    have e1 := hf.2.2.2.2.1.2.1
    exact ⟨by omega, fin i w hf (by omega)⟩
  | succ l ih =>
    intro i w hf e7
    obtain ⟨k1, s1, x7, x3, m, hm, hfm⟩ := ax_prv hW hj ht hf (by omega)
    obtain ⟨i1, i2, i3, i4⟩ := ih m _ hfm (by omega)
    have hmi : ab_zn Z i = ab_zn Z m + 1 := by
      have e0 : w 0 = ab_zn Z i := (ab_d1 hf.2.1 (by have := hf.2.2.1; omega)).1
      have e1 := hf.2.2.2.2.1.2.1
      omega
    have t2 : ab_zX Z i 2 = ab_zs Z i := (h.2.2.2.2.2.1 i hf.1 k1).2.2.1
    have : ab_zn Z m ≠ ab_zn Z a + 24 := fun e => s1 (by rw [← t2]; exact i4 e)
    exact ⟨by omega, fin i w hf (by omega)⟩
