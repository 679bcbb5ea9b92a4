/-- the question of a pure z brings forth a TELL -/
theorem ax_birth {Z : ab_Z} {d : Nat → Nat → Nat} {N a x y : Nat} (hW : ax_W Z d N) (hx : ∀ q, ¬ ab_zl Z q x) (h7 : d x y ≤ 7) (haN : a < N) (ha : ab_ask Z a x y) (hN : ab_zn Z a + d x y + 2 ≤ ab_zn Z N) :
    ∃ j w, j < N ∧ ab_tb Z d j a y x ∧ ax_fr Z N j y x j w := by
  have hW' := hW
  obtain ⟨h, hL, hG, hl8, hq⟩ := hW'
  have hxy : x ≠ y := (hl8 _ _ ha.2.2.1).1
  obtain ⟨q1, q2, q3⟩ := ab_qf h haN ha
  have hgd : ab_gd (ab_zu Z) y x (d x y) y := ab_gdb hG y x (d x y) y rfl h7 (Nat.le_refl _)
  obtain ⟨j, haj, hjN, hf, hjn, x5, x6⟩ := ab_flood h hL haN ha.1 ha.2.1 ha.2.2.2 (d x y) y hgd (fun e => hxy e.symm) (by omega)
  obtain ⟨f1, f2, f3, f4, f5, f6⟩ := hf
  have hbq : ab_bn Z N x (ab_zD Z (a + 1) 4 x 0) (ab_zn Z a) := ⟨a, haN, rfl, by omega, Nat.le_refl _⟩
  have hjn2 : ab_zn Z j = ab_zn Z a + d x y := by
    obtain ⟨b, hb1, hb2, hb3, hb4, hb5, hb6⟩ := ab_hrd h hjN f1 (by omega) (by rw [f4, x6]; exact q2)
    obtain ⟨c1, c2, c3, c4, c5, c6⟩ := ab_fcI h b (by omega) _ hb2 (by omega) (by rw [f4, x6]; exact q2)
    rw [f4, x6] at c1
    rw [f4] at c4
    have e := ab_bnu h c1 hbq
    have hlip := hG.2.1 x _ _ hb6
    rw [← hb4, f2] at hlip
    omega
  have hDj := h.1 j hjN
  have hnr : ab_zD Z (a + 1) 4 x 0 ≤ ab_zD Z (j + 1) 3 y x := by
    have := ab_hnr (u := ab_zu Z) (ac := ab_za Z) (s := y) (p := ab_zp Z j) (x := ab_zX Z j) (D := ab_zD Z j) (Or.inl ⟨f3, by rw [f4, f5]; exact f6⟩) (by rw [f4]; exact fun e => hxy e.symm)
    rw [hDj, ← x6]
    unfold ab_zY
    rw [f1, ab_do1, f2]
    rw [f4] at this
    exact this
  have h8 : ab_zD Z (j + 1) 1 y x ≠ 8 := ax_pres h q2 (j + 1) (by omega) (fun jj q _ hv => absurd hv.2.2.2.2 (hx q)) y (fun e => hxy e.symm) hnr
  have ho : ab_zO Z j (ab_pt (ab_zn Z j) y (ab_zD Z (j + 1) 1 y x) (ab_fr 1 y x (ab_zD Z (j + 1) 4 y 0) 0 0)) := by
    rw [hDj] at h8 ⊢
    unfold ab_zO
    unfold ab_zY at h8 ⊢
    rw [f1, ab_do1, f2] at h8 ⊢
    have := ab_tlo (u := ab_zu Z) (ac := ab_za Z) (s := y) (p := ab_zp Z j) (x := ab_zX Z j) (D := ab_zD Z j) f3 (by rw [f4, f5]; exact f6) x5 (by rw [f4]; exact h8)
    rw [f4] at this
    exact this
  have htb : ab_tb Z d j a y x := ⟨haj, ha, f1, f2, f3, f4, x5, x6, hjn2, h7, by rw [f5]; exact f6⟩
  have gr := ax_tgrow h htb hjN
  have y0 := ab_ownm (c := y) h (Nat.zero_le j) (by omega)
  refine ⟨j, _, hjN, htb, hjN, ho, rfl, ⟨by show (1 : Nat) ≤ 1; omega, Or.inl ?_⟩, ?_, rfl, rfl⟩
  · show ab_zD Z 0 4 y 0 < ab_zD Z (j + 1) 4 y 0
    omega
  · refine ⟨f2, by show ab_zn Z j + 0 = ab_zn Z j; omega, gr.symm, rfl, Or.inr ⟨rfl, f1, f3, x5, f4, ?_⟩⟩
    show ¬ ab_sn y x (ab_zX Z j 8) (ab_zD Z j)
    rw [f5]
    exact f6
