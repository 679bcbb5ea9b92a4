/-! ## a tick and an urging in general -/
theorem ri_tick {B : Nat} {T : zz_T} (hB : B + 1 ≤ 2 ^ 29) (h : ri_P B T) : ri_P (B + 1) (mm_tick T) := by
  obtain ⟨pb, pQ, p5, pS, pd⟩ := h
  obtain ⟨t, ht, e4⟩ := id pb.1
  have so : ∀ f, f ≠ 4 → mm_tick T f = T f := fun f hf => zz_sn hf
  have e4' : mm_tick T 4 0 = nI (t + 1) := by
    unfold mm_tick
    rw [zz_se, pk_us, e4, nI_1]
  have ea : rf_a (mm_tick T) = ab_w (rf_a T) 0 0 0 (t + 1) := by
    unfold mm_tick
    rw [rf_4, e4, nI_1, rf_cn (by omega)]
  have ex : ∀ F i j, F ≠ 0 → rf_a (mm_tick T) F i j = rf_a T F i j := fun F i j hF => by rw [ea, ab_wf hF]
  have sl : ∀ i, rf_ss T (mm_tick T) i := fun i => ⟨by rw [so 32 (by decide)], by rw [so 33 (by decide)], by rw [so 34 (by decide)], by rw [so 35 (by decide)], fun k _ => by rw [so 36 (by decide)]⟩
  refine ⟨?_, ?_, zz_5s (by decide) p5, ⟨⟨fun v c => ?_, fun s f q ⟨i, i1, i2, i3⟩ => ?_⟩, fun i hi hu => ?_⟩, fun i hi hu => ?_⟩
  · unfold mm_tick
    exact rf_b4 rfl ⟨t + 1, by omega, by rw [e4, nI_1]⟩ (rf_bm pb (by omega))
  · exact rf_Qm (rf_Qc (fun f hf => so f (by omega)) pQ) (by omega)
  · rw [ex 3 _ _ (by decide), ex 4 _ _ (by decide)]
    exact pS.1.1 v c
  · rw [ex 5 _ _ (by decide)]
    exact pS.1.2 s f q ⟨i, i1, by rw [← ex 13 s i (by decide)]; exact i2, by rw [← ex 14 s i (by decide)]; exact i3⟩
  · rw [rf_sss (sl i)]
    have := pS.2 i hi (by rw [← (sl i).1]; exact hu)
    unfold ri_x
    rw [ex 4 _ _ (by decide), ex 4 _ _ (by decide), ex 5 _ _ (by decide)]
    exact this
  · have := pd i hi (by rw [← (sl i).1]; exact hu)
    rw [(sl i).2.2.2.1, e4', rf_cn (by omega)]
    rw [e4, rf_cn (by omega)] at this
    omega
theorem ri_ub {N B a b : Nat} {Z T : zz_T} (hN : N < B) (hB : B + 1 ≤ 2 ^ 29) (hB2 : 16 ≤ B) (ha : a < 8) (hb : b < 8) (hJ : zz_J N Z T) (hh : rf_h (rf_a T)) (h : ri_P B T) : ri_P (B + 1) (mm_ub a b T) ∧ rf_h (rf_a (mm_ub a b T)) := by
  obtain ⟨pb, pQ, p5, pS, pd⟩ := h
  unfold mm_ub
  by_cases e : a = b
  · rw [if_pos e]
    exact ⟨⟨rf_bm pb (by omega), rf_Qm pQ (by omega), p5, pS, pd⟩, hh⟩
  · rw [if_neg e]
    have hk := rf_bk pb (by omega)
    have h27 : T 28 (a + 8 * b) = nI 1 → ∃ m, m < 2 ∧ T 27 (a + 8 * b) = nI m := by
      intro z
      obtain ⟨m, hm, em⟩ := pb.2.2.2.2.2.2.2.2.2.2.2 (a + 8 * b) (by omega)
      have := hh a b (by rw [rf_7r ha hb, z, rf_cn (by omega)]; omega)
      rw [rf_9r ha hb, em, rf_cn (by omega)] at this
      exact ⟨m, this, em⟩
    obtain ⟨c, d, e14, _, _, _, hd⟩ := hJ.2.1.2.1 a b ha hb
    have g := rf_pgurge (cf := fun _ _ => c) ha hb e p5 hk h27 ⟨e14, by omega, rfl⟩
    have eq := rf_urge (cf := fun _ _ => c) ha hb e hk h27
    refine ⟨⟨rf_burge ha hb h27 pb, rf_Qp g (rf_Qm pQ (by omega)) (fun w hw => rf_ufb (B := B) (by omega) hB2 ha hb pb (show c < B by omega) hw), g.1, ri_urge ha hb e p5 hk h27 e14 (by omega) pS, rf_ddp pb.1 (by omega) g pd⟩, ?_⟩
    rw [eq]
    have := rf_hdo (u := rf_u T) (lv := rf_l T) (cf := fun _ _ => c) (ac := fun _ _ => 0) (k := 2) (a := a) (b := b) (x := fun _ => 0) hh
    rw [ab_do2] at this
    exact this
