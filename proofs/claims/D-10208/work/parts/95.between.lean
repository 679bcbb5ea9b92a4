/-! ## between the calls: forgetting, the cleared air -/
def ri_C (B : Nat) (S : zz_T) : Prop := rf_b B S ∧ zz_5 S ∧ ri_D (rf_a S) ∧ rf_h (rf_a S)
theorem ri_Dw {D : ab_D} {f i j v : Nat} (h : f = 1 ∨ f = 2 ∨ f = 6 ∨ f = 7 ∨ f = 8 ∨ f = 9 ∨ (f = 3 ∧ v = 0)) (k : ri_D D) : ri_D (ab_w D f i j v) := by
  refine ⟨fun a c => ?_, fun s g q ⟨m, m1, m2, m3⟩ => ?_⟩
  · rw [ab_wf (show 4 ≠ f by omega)]
    by_cases e : f = 3 ∧ a = i ∧ c = j
    · have : ab_w D f i j v 3 a c = 0 := by
        rw [e.1, e.2.1, e.2.2, ab_we]
        omega
      omega
    · rw [show ab_w D f i j v 3 a c = D 3 a c from if_neg (fun z => e ⟨z.1.symm, z.2.1, z.2.2⟩)]
      exact k.1 a c
  · rw [ab_wf (show 13 ≠ f by omega)] at m2
    rw [ab_wf (show 14 ≠ f by omega)] at m3
    rw [ab_wf (show 5 ≠ f by omega)]
    exact k.2 s g q ⟨m, m1, m2, m3⟩
theorem ri_D13 {D : ab_D} {i j : Nat} (h : D 14 i j ≤ D 5 8 0) (k : ri_D D) : ri_D (ab_w D 13 i j 8) := by
  refine ⟨fun a c => ?_, fun s g q ⟨m, m1, m2, m3⟩ => ?_⟩
  · rw [ab_wf (by decide), ab_wf (by decide)]
    exact k.1 a c
  · rw [ab_wf (by decide)] at m3
    rw [ab_wf (by decide)]
    by_cases e : s = i ∧ m = j
    · have : ab_w D 13 i j 8 13 s m = 8 := by rw [e.1, e.2, ab_we]
      rw [← m2, this, ← m3, e.1, e.2]
      exact h
    · rw [show ab_w D 13 i j 8 13 s m = D 13 s m from if_neg (fun z => e z.2)] at m2
      exact k.2 s g q ⟨m, m1, m2, m3⟩
theorem ri_hw {D : ab_D} {f i j v : Nat} (h : (f ≠ 7 ∧ f ≠ 9) ∨ v = 0) (k : rf_h D) : rf_h (ab_w D f i j v) := by
  intro a b h7
  rcases h with ⟨h1, h2⟩ | h
  · rw [ab_wf (fun z => h1 z.symm)] at h7
    rw [ab_wf (fun z => h2 z.symm)]
    exact k a b h7
  · by_cases e : f = 9 ∧ a = i ∧ b = j
    · rw [e.1, e.2.1, e.2.2, ab_we, h]
      omega
    · rw [show ab_w D f i j v 9 a b = D 9 a b from if_neg (fun z => e ⟨z.1.symm, z.2.1, z.2.2⟩)]
      refine k a b (fun z => h7 ?_)
      by_cases e2 : f = 7 ∧ a = i ∧ b = j
      · rw [e2.1, e2.2.1, e2.2.2, ab_we, h]
      · rw [show ab_w D f i j v 7 a b = D 7 a b from if_neg (fun z => e2 ⟨z.1.symm, z.2.1, z.2.2⟩)]
        exact z
theorem ri_clr1 {B s i : Nat} {T : zz_T} (hs : s < 8) (hi : i < 8) (hB : B ≤ 2 ^ 29) (h1 : 1 ≤ B) (h : ri_C B T) : ri_C B (mm_clr1 s i T) := by
  obtain ⟨pb, p5, pD, ph⟩ := h
  obtain ⟨t, ht, e4⟩ := id pb.1
  unfold mm_clr1
  have e21 : T 4 0 - 24 + 24 = nI t := by
    rw [e4]
    simp
  refine ⟨rf_bn (Or.inl (by decide)) (rf_bn (Or.inl (by decide)) (rf_b27 ⟨0, by omega, rfl⟩ (rf_b28 (Or.inl rfl) (rf_bn (Or.inl (by decide)) (rf_b21 ⟨t, by omega, e21⟩ (rf_bn (Or.inr rfl) (rf_b20 ⟨0, by omega, rfl⟩ (rf_b18 (Or.inl rfl) pb)))))))), ?_, ?_, ?_⟩
  · exact zz_5s (by decide) (zz_5s (by decide) (zz_5s (by decide) (zz_5s (by decide) (zz_5s (by decide) (zz_5s (by decide) (zz_5s (by decide) (zz_5s (by decide) (zz_5s (by decide) p5))))))))
  · rw [rf_n (by decide), rf_n (by decide), rf_27 hs hi, rf_28 hs hi, rf_n (by decide), rf_21 hs hi, rf_19 hs hi, rf_20 hs hi, rf_18 hs hi]
    exact ri_Dw (by omega) (ri_Dw (by omega) (ri_Dw (by omega) (ri_Dw (by omega) (ri_Dw (Or.inr (Or.inr (Or.inr (Or.inr (Or.inr (Or.inr ⟨rfl, rfl⟩)))))) (ri_Dw (by omega) pD)))))
  · rw [rf_n (by decide), rf_n (by decide), rf_27 hs hi, rf_28 hs hi, rf_n (by decide), rf_21 hs hi, rf_19 hs hi, rf_20 hs hi, rf_18 hs hi]
    exact ri_hw (Or.inr rfl) (ri_hw (Or.inr rfl) (ri_hw (Or.inl (by decide)) (ri_hw (Or.inl (by decide)) (ri_hw (Or.inl (by decide)) (ri_hw (Or.inl (by decide)) ph)))))
theorem ri_clr2 {B s i : Nat} {T : zz_T} (hs : s < 8) (hi : i < 64) (hB : B ≤ 2 ^ 29) (h : ri_C B T) : ri_C B (mm_clr2 s i T) := by
  obtain ⟨pb, p5, pD, ph⟩ := h
  unfold mm_clr2
  have e : rf_a (zz_s T 22 (s * 64 + i) (-1)) = ab_w (rf_a T) 13 s i 8 := by rw [rf_22 hs hi, rf_m1]
  refine ⟨rf_b22 (Or.inl rfl) pb, zz_5s (by decide) p5, ?_, ?_⟩
  · rw [e]
    refine ri_D13 ?_ pD
    obtain ⟨n, hn, e23⟩ := pb.2.2.2.2.2.2.2.1 (s * 64 + i) (by omega)
    have e5 : rf_a T 5 8 0 = 2 ^ 30 := by
      show (if (8 : Nat) < 8 ∧ (0 : Nat) = 0 then rf_c (T 17 8) else 2 ^ 30) = 2 ^ 30
      rw [if_neg (fun z => absurd z.1 (by decide))]
    rw [rf_14r hs hi, e23, rf_cn (by omega), e5]
    omega
  · rw [e]
    exact ri_hw (Or.inl (by decide)) ph
/-- FORGETTING keeps it -/
theorem ri_clear {B s : Nat} {T : zz_T} (hs : s < 8) (hB : B ≤ 2 ^ 29) (h1 : 1 ≤ B) (h : ri_C B T) : ri_C B (mm_clear s T) := by
  unfold mm_clear
  exact zz_itI (fun (_ : Nat) (U : zz_T) => ri_C B U) (zz_itI (fun (_ : Nat) (U : zz_T) => ri_C B U) h (fun k U hk hU => ri_clr1 hs hk hB h1 hU)) (fun k U hk hU => ri_clr2 hs hk hB hU)
theorem ri_Cs {B : Nat} {S T : zz_T} (h : ∀ f, rf_F f ∨ f = 5 → T f = S f) (k : ri_C B S) : ri_C B T := by
  have e : rf_a T = rf_a S := rf_same (fun f hf => h f (Or.inl hf))
  exact ⟨rf_bsame (fun f hf => h f (Or.inl hf)) k.1, zz_5of (h 5 (Or.inr rfl)) k.2.1, by rw [e]; exact k.2.2.1, by rw [e]; exact k.2.2.2⟩
theorem ri_Cm {B C : Nat} {S : zz_T} (h : B ≤ C) (k : ri_C B S) : ri_C C S := ⟨rf_bm k.1 h, k.2⟩
/-- a station's own number goes up -/
theorem ri_C16 {B a : Nat} {S : zz_T} (ha : a < 8) (hB : B + 1 ≤ 2 ^ 29) (k : ri_C B S) : ri_C (B + 1) (zz_s S 16 a (S 16 a + 1)) := by
  obtain ⟨pb, p5, pD, ph⟩ := k
  obtain ⟨n, hn, e16⟩ := pb.2.1 a ha
  have e : rf_a (zz_s S 16 a (S 16 a + 1)) = ab_w (rf_a S) 4 a 0 (n + 1) := by rw [rf_16 ha, e16, nI_1, rf_cn (by omega)]
  refine ⟨rf_b16 ⟨n + 1, by omega, by rw [e16, nI_1]⟩ (rf_bm pb (by omega)), zz_5s (by decide) p5, ⟨fun v c => ?_, fun s f q ⟨i, i1, i2, i3⟩ => ?_⟩, ?_⟩
  · rw [e, ab_wf (by decide)]
    have := pD.1 v c
    by_cases z : c = a
    · rw [z, ab_we]
      rw [z, rf_4r ha, e16, rf_cn (by omega)] at this
      omega
    · rw [ab_wi z]
      exact this
  · rw [e, ab_wf (by decide)]
    rw [e, ab_wf (by decide)] at i2 i3
    exact pD.2 s f q ⟨i, i1, i2, i3⟩
  · rw [e]
    exact ri_hw (Or.inl (by decide)) ph
/-- THE CLEARED AIR -/
theorem ri_calm {B : Nat} {S : zz_T} (k : ri_C B S) : ri_P B (mm_calm S) ∧ rf_h (rf_a (mm_calm S)) := by
  have so : ∀ f, f ≠ 32 → mm_calm S f = S f := fun f hf => zz_itn (fun k T => zz_sn hf) 1024 S
  have z : ∀ n, n ≤ 1024 → ∀ i, i < n → zz_it (fun i T => zz_s T 32 i 0) n S 32 i = 0 := by
    intro n
    induction n with
    | zero => intro _ i hi; omega
    | succ n ih =>
      intro hn i hi
      show zz_s (zz_it (fun i T => zz_s T 32 i 0) n S) 32 n 0 32 i = 0
      rw [zz_se]
      by_cases e : i = n
      · rw [e, pk_us]
      · rw [pk_un e]
        exact ih (by omega) i (by omega)
  have z0 : ∀ i, i < 1024 → mm_calm S 32 i = 0 := fun i hi => z 1024 (Nat.le_refl _) i hi
  obtain ⟨c1, c2, c3, c4⟩ := ri_Cs (T := mm_calm S) (fun f hf => so f (by unfold rf_F at hf; omega)) k
  exact ⟨⟨c1, fun i hi hu => absurd (z0 i hi) hu, c2, ⟨c3, fun i hi hu => absurd (z0 i hi) hu⟩, fun i hi hu => absurd (z0 i hi) hu⟩, c4⟩
