theorem rf_pghw {a b : Nat} {S : zz_T} (ha : a < 8) (hb : b < 8) (h5 : zz_5 S) (hk : rf_nw S) (h18 : zz_18 S) (h20 : rf_nn (S 20 (a * 8 + b))) : rf_pg S (mm_hw a b S) (ab_hs (rf_u S) a b (rf_a S)).2 := by
  have hst : rf_st (S 18 (a * 8 + b)) := h18 _ (by omega)
  have hP := rf_hwP (S := S) ha hb h18
  unfold mm_hwP ab_hw at hP
  unfold mm_hw
  unfold ab_hs
  by_cases c : S 18 (a * 8 + b) = -1
  · rw [if_pos c, ab_in (fun z => z.1 (by rw [rf_1r ha hb]; exact (rf_m8 hst).2 c))]
    exact rf_pg0 h5 (fun f _ => rfl)
  · rw [if_neg c]
    have c' : ¬ rf_a S 1 a b = 8 := fun z => c (by rw [rf_1r ha hb] at z; exact (rf_m8 hst).1 z)
    by_cases d : mm_up S a (S 18 (a * 8 + b))
    · rw [if_pos d, ab_in (fun z => z.2 (hP.1 ⟨c, d⟩).2)]
      exact rf_pg0 h5 (fun f _ => rfl)
    · rw [if_neg d]
      rw [ab_ip ⟨c', fun z => d (hP.2 ⟨c', z⟩).2⟩]
      exact rf_pggive ha hb h5 hk h20
theorem rf_pgu142 {a b c : Nat} {m : Option Nat} {S : zz_T} {cf : Nat → Nat → Nat} (ha : a < 8) (hb : b < 8) (h5 : zz_5 S) (hk : rf_k S) (hcf : S 14 (a + 8 * b) = nI c ∧ c < 2 ^ 30 ∧ cf a b = c) :
    rf_pg S (mm_u142 a b m S) (ab_u1 (rf_u S) cf a b (rf_a S)).2 := by
  have h18 := hk.2.2.2.1
  have know := hk.1
  have hP := rf_hwP (S := S) ha hb h18
  unfold mm_u142
  unfold ab_u1
  by_cases cc : mm_hwP a b S
  · rw [if_pos cc]
    rw [ab_ip (hP.1 cc)]
    have eh : mm_hw a b S = S := by
      unfold mm_hw
      rw [if_neg cc.1, if_pos cc.2]
    rw [eh]
    unfold mm_u187
    have hlo : ∀ F, F ≠ 42 → F ≠ 28 → F ≠ 26 → zz_s (zz_s (mm_uW a b m S) 28 (a + 8 * b) 1) 26 (a + 8 * b) (mm_uW a b m S 4 0) F = S F := by
      intro F x y z
      rw [zz_sn z, zz_sn y, zz_uWo x]
    have e1 : rf_a (zz_s (zz_s (mm_uW a b m S) 28 (a + 8 * b) 1) 26 (a + 8 * b) (mm_uW a b m S 4 0)) = ab_w (ab_w (rf_a S) 7 a b 1) 8 a b (rf_a S 0 0 0) := by
      rw [rf_26 ha hb, rf_28 ha hb, rf_uW, zz_uWo (by decide), rf_0r]
      rfl
    have ew : rf_wr (zz_s (zz_s (mm_uW a b m S) 28 (a + 8 * b) 1) 26 (a + 8 * b) (mm_uW a b m S 4 0)) = ab_fr 3 a b (cf a b) 0 8 := by
      rw [rf_wrc (S := mm_uW a b m S) (by rw [zz_sn (by decide), zz_sn (by decide)])]
      exact (rf_uWw ha hb hcf).1
    have ewn : rf_wn (zz_s (zz_s (mm_uW a b m S) 28 (a + 8 * b) 1) 26 (a + 8 * b) (mm_uW a b m S 4 0)) := rf_wnc (S := mm_uW a b m S) (by rw [zz_sn (by decide), zz_sn (by decide)]) (rf_uWw ha hb hcf).2
    obtain ⟨m20, hm20, e20⟩ := hk.2.2.2.2.1 (a * 8 + b) (by omega)
    have e38 := hlo 38 (by decide) (by decide) (by decide)
    have gg := rf_pgpass (g := b) (w := ab_fr 3 a b (cf a b) 0 8) ha hb (zz_5of (hlo 5 (by decide) (by decide) (by decide)) h5) (rf_nwc (hlo 4 (by decide) (by decide) (by decide)) know) (zz_18of (hlo 18 (by decide) (by decide) (by decide)) h18) (by rw [hlo 20 (by decide) (by decide) (by decide)]; exact rf_nx e20 hm20) ewn (by rw [zz_sn (by decide), zz_sn (by decide)]; exact rf_uW2) ew
    rw [e1, rf_uc (hlo 6 (by decide) (by decide) (by decide))] at gg
    have hh := hP.1 cc
    have hw : ab_hw (rf_u S) a b (ab_w (ab_w (rf_a S) 7 a b 1) 8 a b (rf_a S 0 0 0)) := by
      unfold ab_hw
      rw [ab_wf (by decide), ab_wf (by decide)]
      exact hh
    have g2 := rf_pgl (fun f hf => hlo f (by omega) (by omega) (by omega)) gg
    rcases ab_psc (u := rf_u S) (s := a) (w := ab_fr 3 a b (cf a b) 0 8) (D := ab_w (ab_w (rf_a S) 7 a b 1) 8 a b (rf_a S 0 0 0)) with ⟨e, _⟩ | ⟨_, _, e⟩ | ⟨_, e, _⟩
    · exact absurd e hw.1
    · rw [e] at g2
      refine rf_pgw g2 (fun w => ?_)
      show w = ab_pt _ a (ab_w (ab_w (rf_a S) 7 a b 1) 8 a b (rf_a S 0 0 0) 1 a b) (ab_fr 3 a b (cf a b) 0 8) → w = ab_pt _ a (rf_a S 1 a b) (ab_fr 3 a b (cf a b) 0 8)
      rw [ab_wf (f := 8) (g := 1) (by decide), ab_wf (f := 7) (g := 1) (by decide)]
      exact fun z => z
    · exact absurd hw.2 e
  · rw [if_neg cc]
    rw [ab_in (fun z => cc (hP.2 z))]
    show rf_pg S _ (fun w => (ab_hs (rf_u S) a b (rf_a S)).2 w ∨ (ab_k (rf_u S) a b (ab_w (ab_hs (rf_u S) a b (rf_a S)).1 7 a b 0)).2 w)
    have e38 : zz_s (mm_hw a b S) 28 (a + 8 * b) 0 38 = mm_hw a b S 38 := zz_sn (by decide)
    have kk : rf_k (zz_s (mm_hw a b S) 28 (a + 8 * b) 0) := rf_k28 (Or.inl rfl) (rf_khw hk)
    obtain ⟨m20, hm20, e20⟩ := hk.2.2.2.2.1 (a * 8 + b) (by omega)
    have g1 := rf_pghw ha hb h5 know h18 (rf_nx e20 hm20)
    have g2 := rf_pgask ha hb (zz_5s (by decide) (zz_5hw h5)) kk
    have g3 := rf_pgl (S := mm_hw a b S) (fun f hf => zz_sn (by omega)) g2
    rw [rf_28 ha hb, rf_hw ha hb h18, rf_uc (S := mm_hw a b S) (zz_sn (by decide)), rf_uc rf_hw6] at g3
    exact rf_pgc g1 g3 (fun w z => Or.inl z) (fun w z => Or.inr z)
theorem rf_pgu108 {a b c z : Nat} {m : Option Nat} {S : zz_T} {cf : Nat → Nat → Nat} (ha : a < 8) (hb : b < 8) (hz2 : z < 3) (h5 : zz_5 S) (hk : rf_k S) (hcf : S 14 (a + 8 * b) = nI c ∧ c < 2 ^ 30 ∧ cf a b = c) :
    rf_pg S (mm_u108 a b m (nI z) S) (ab_u2 (rf_u S) cf a b z (rf_a S)).2 := by
  have eA : mm_uA (a + 8 * b) (nI z) S = zz_s S 27 (a + 8 * b) (nI z) := by
    unfold mm_uA
    rw [zz_8 z (by omega)]
  have rA : rf_a (zz_s S 27 (a + 8 * b) (nI z)) = ab_w (rf_a S) 9 a b z := by
    rw [rf_27 ha hb, rf_cn (by omega)]
  have uA : rf_u (zz_s S 27 (a + 8 * b) (nI z)) = rf_u S := rf_uc (zz_sn (by decide))
  have kA : rf_k (zz_s S 27 (a + 8 * b) (nI z)) := rf_k27 hz2 hk
  have h18 := kA.2.2.2.1
  have hP := rf_hwP (S := zz_s S 27 (a + 8 * b) (nI z)) ha hb h18
  rw [rA, uA] at hP
  have hP' : mm_hwP a b (zz_s S 27 (a + 8 * b) (nI z)) ↔ ab_hw (rf_u S) a b (rf_a S) := by
    rw [hP]
    unfold ab_hw
    rw [ab_wf (by decide)]
  have c14 : zz_s S 27 (a + 8 * b) (nI z) 14 = S 14 := zz_sn (by decide)
  have e38A : zz_s S 27 (a + 8 * b) (nI z) 38 = S 38 := zz_sn (by decide)
  have h5A : zz_5 (zz_s S 27 (a + 8 * b) (nI z)) := zz_5s (by decide) h5
  have lA : ∀ f, f = 4 ∨ f = 5 ∨ (31 < f ∧ f < 37) → zz_s S 27 (a + 8 * b) (nI z) f = S f := fun f hf => zz_sn (by omega)
  obtain ⟨m20, hm20, e20⟩ := kA.2.2.2.2.1 (a * 8 + b) (by omega)
  unfold mm_u108
  unfold ab_u2
  rw [eA, zz_8 z (by omega)]
  have hc : nI z < 2 ↔ z < 2 := by
    rw [show (2 : Int32) = nI 2 from rfl, Int32.lt_iff_toInt_lt, nI_toInt (by omega), nI_toInt (by omega)]
    omega
  by_cases cz : nI z < 2
  · rw [if_pos cz]
    rw [ab_ip (hc.1 cz)]
    have gg := rf_pgu142 (m := m) (cf := cf) ha hb h5A kA (by rw [c14]; exact hcf)
    rw [rA, uA] at gg
    exact rf_pgl lA gg
  · rw [if_neg cz]
    rw [ab_in (fun y => cz (hc.2 y))]
    by_cases d : mm_hwP a b (zz_s S 27 (a + 8 * b) (nI z))
    · rw [if_pos d]
      rw [ab_ip (hP'.1 d)]
      show rf_pg S _ (fun w => (ab_gv (rf_u S) a b (ab_w (rf_a S) 9 a b z)).2 w ∨ (ab_u1 (rf_u S) cf a b (ab_w (ab_gv (rf_u S) a b (ab_w (rf_a S) 9 a b z)).1 9 a b 0)).2 w)
      have eh : mm_hw a b (zz_s S 27 (a + 8 * b) (nI z)) = zz_s S 27 (a + 8 * b) (nI z) := by
        unfold mm_hw
        rw [if_neg d.1, if_pos d.2]
      rw [eh]
      have kG : rf_k (zz_s (mm_give a b (zz_s S 27 (a + 8 * b) (nI z))) 27 (a + 8 * b) (nI 0)) := rf_k27 (by omega) (rf_kgive kA)
      have rG : rf_a (zz_s (mm_give a b (zz_s S 27 (a + 8 * b) (nI z))) 27 (a + 8 * b) (nI 0)) = ab_w (ab_gv (rf_u S) a b (ab_w (rf_a S) 9 a b z)).1 9 a b 0 := by
        rw [rf_27 ha hb, rf_give (u := rf_u S) ha hb, rA]
        rfl
      have uG : rf_u (zz_s (mm_give a b (zz_s S 27 (a + 8 * b) (nI z))) 27 (a + 8 * b) (nI 0)) = rf_u S := by
        rw [rf_uc (S := mm_give a b (zz_s S 27 (a + 8 * b) (nI z))) (zz_sn (by decide)), rf_uc (zz_giveo (by decide) (by decide) (by decide)), uA]
      have e38G : zz_s (mm_give a b (zz_s S 27 (a + 8 * b) (nI z))) 27 (a + 8 * b) (nI 0) 38 = mm_give a b (zz_s S 27 (a + 8 * b) (nI z)) 38 := zz_sn (by decide)
      have kA4 := kA.1
      have g1 := rf_pggive (S := zz_s S 27 (a + 8 * b) (nI z)) ha hb h5A kA4 (rf_nx e20 hm20)
      have g14 : zz_s (mm_give a b (zz_s S 27 (a + 8 * b) (nI z))) 27 (a + 8 * b) (nI 0) 14 = S 14 := by
        rw [zz_sn (by decide), zz_giveo (by decide) (by decide) (by decide), c14]
      have g2 := rf_pgu142 (m := m) (cf := cf) ha hb (zz_5s (by decide) (zz_5give h5A)) kG (by rw [g14]; exact hcf)
      rw [rG, uG] at g2
      rw [uA, rA] at g1
      have g3 := rf_pgl (S := mm_give a b (zz_s S 27 (a + 8 * b) (nI z))) (fun f hf => zz_sn (by omega)) g2
      exact rf_pgl lA (rf_pgc g1 g3 (fun w z => Or.inl z) (fun w z => Or.inr z))
    · rw [if_neg d]
      rw [ab_in (fun y => d (hP'.2 y))]
      show rf_pg S _ (fun w => (ab_hs (rf_u S) a b (ab_w (rf_a S) 9 a b z)).2 w ∨ (ab_u1 (rf_u S) cf a b (ab_hs (rf_u S) a b (ab_w (rf_a S) 9 a b z)).1).2 w)
      have g1 := rf_pghw (S := zz_s S 27 (a + 8 * b) (nI z)) ha hb h5A kA.1 h18 (rf_nx e20 hm20)
      have g14 : mm_hw a b (zz_s S 27 (a + 8 * b) (nI z)) 14 = S 14 := by
        rw [zz_hwo (by decide) (by decide) (by decide), c14]
      have g2 := rf_pgu142 (m := m) (cf := cf) ha hb (zz_5hw h5A) (rf_khw kA) (by rw [g14]; exact hcf)
      rw [rf_hw ha hb h18, rA, rf_uc rf_hw6, uA] at g2
      rw [uA, rA] at g1
      exact rf_pgl lA (rf_pgc g1 g2 (fun w z => Or.inl z) (fun w z => Or.inr z))
theorem rf_pgurge {a b c : Nat} {S : zz_T} {cf : Nat → Nat → Nat} (ha : a < 8) (hb : b < 8) (hab : a ≠ b) (h5 : zz_5 S) (hk : rf_k S) (h27 : S 28 (a + 8 * b) = nI 1 → ∃ n, n < 2 ∧ S 27 (a + 8 * b) = nI n) (hcf : S 14 (a + 8 * b) = nI c ∧ c < 2 ^ 30 ∧ cf a b = c) :
    rf_pg S (mm_urge a b S) (ab_u (rf_u S) (rf_l S) cf a b (rf_a S)).2 := by
  obtain ⟨⟨t, ht, e4⟩, _, _, _, _, _, _, _, k9⟩ := id hk
  obtain ⟨h28, ⟨n, hn, e26⟩, z, hz, e27⟩ := k9 (a + 8 * b) (by omega)
  have h7 : S 28 (a + 8 * b) = 0 ↔ rf_a S 7 a b = 0 := by
    rw [rf_7r ha hb]
    rcases h28 with e | e
    · rw [e, rf_cn (by omega)]
      exact ⟨fun _ => rfl, fun _ => rfl⟩
    · rw [e, rf_cn (by omega)]
      exact ⟨fun y => absurd y (by decide), fun y => by omega⟩
  have hc : (¬ S 6 a = 0 ∧ (S 28 (a + 8 * b) = 0 ∨ 26 ≤ S 4 0 - S 26 (a + 8 * b))) ↔ (¬ S 6 a = 0 ∧ (rf_a S 7 a b = 0 ∨ rf_a S 8 a b + 26 ≤ rf_a S 0 0 0)) := by
    rw [h7, rf_8r ha hb, rf_0r, e4, e26, rf_cn (by omega), rf_cn (by omega), rf_26c ht hn]
  have none0 : rf_pg S S (ab_nil (rf_a S)).2 := rf_pg0 h5 (fun f _ => rfl)
  unfold mm_urge
  unfold ab_u
  by_cases cc : (∃ k, mm_snd a b S = some k) ∨ ¬ S 15 (a + 8 * b) ≤ S 14 (a + 8 * b)
  · rw [if_pos cc]
    unfold mm_u46
    by_cases d : ¬ S 6 a = 0 ∧ (S 28 (a + 8 * b) = 0 ∨ 26 ≤ S 4 0 - S 26 (a + 8 * b))
    · rw [if_pos d]
      rw [ab_ip ⟨⟨ha, hb, hab, cc, d.1⟩, (hc.1 d).2⟩]
      unfold mm_u82
      by_cases e : S 28 (a + 8 * b) = 0
      · rw [if_pos e]
        rw [ab_ip (h7.1 e)]
        exact rf_pgu108 (z := 0) ha hb (by omega) h5 hk hcf
      · rw [if_neg e]
        rw [ab_in (fun y => e (h7.2 y))]
        obtain ⟨k, hk2, ek⟩ := h27 (by
          rcases h28 with y | y
          · exact absurd y e
          · exact y)
        rw [ek, nI_1]
        rw [rf_9r ha hb, ek, rf_cn (by omega)]
        exact rf_pgu108 (z := k + 1) ha hb (by omega) h5 hk hcf
    · rw [if_neg d, ab_in (fun y => d (hc.2 ⟨y.1.2.2.2.2, y.2⟩))]
      exact none0
  · rw [if_neg cc, ab_in (fun y => cc y.1.2.2.2.1)]
    exact none0
