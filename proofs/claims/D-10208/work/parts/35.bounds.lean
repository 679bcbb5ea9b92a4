/-! ## bounds of the numbers -/
def rf_b (B : Nat) (S : zz_T) : Prop := (∃ t, t < B ∧ S 4 0 = nI t) ∧ (∀ s, s < 8 → ∃ n, n < B ∧ S 16 s = nI n) ∧ (∀ s, s < 8 → ∃ n, n < B ∧ S 17 s = nI n) ∧ zz_18 S ∧ (∀ q, q < 64 → ∃ n, n < B ∧ S 20 q = nI n) ∧
  (∀ q, q < 64 → ∃ n, n < B + 24 ∧ S 21 q + 24 = nI n) ∧ (∀ q, q < 512 → rf_st (S 22 q)) ∧ (∀ q, q < 512 → ∃ n, n < B ∧ S 23 q = nI n) ∧ zz_24 S ∧ (∀ p, p < 64 → S 28 p = nI 0 ∨ S 28 p = nI 1) ∧ (∀ p, p < 64 → ∃ n, n < B ∧ S 26 p = nI n) ∧
  (∀ p, p < 64 → ∃ n, n < 3 ∧ S 27 p = nI n)
theorem rf_bk {B : Nat} {S : zz_T} (h : rf_b B S) (hB : B ≤ 2 ^ 29) : rf_k S := by
  obtain ⟨⟨t, ht, e4⟩, h16, h17, h18, h20, h21, h22, h23, h24, h28, h26, h27⟩ := h
  refine ⟨⟨t, by omega, e4⟩, fun s hs => ?_, fun s hs => ?_, h18, fun q hq => ?_, fun q hq => ?_, fun q hq => ⟨h22 q hq, ?_⟩, h24, fun p hp => ⟨h28 p hp, ?_, h27 p hp⟩⟩
  · obtain ⟨n, a, b⟩ := h16 s hs; exact ⟨n, by omega, b⟩
  · obtain ⟨n, a, b⟩ := h17 s hs; exact ⟨n, by omega, b⟩
  · obtain ⟨n, a, b⟩ := h20 q hq; exact ⟨n, by omega, b⟩
  · obtain ⟨n, a, b⟩ := h21 q hq; exact ⟨n, by omega, b⟩
  · obtain ⟨n, a, b⟩ := h23 q hq; exact ⟨n, by omega, b⟩
  · obtain ⟨n, a, b⟩ := h26 p hp; exact ⟨n, by omega, b⟩
theorem rf_bm {B C : Nat} {S : zz_T} (h : rf_b B S) (hB : B ≤ C) : rf_b C S := by
  obtain ⟨⟨t, ht, e4⟩, h16, h17, h18, h20, h21, h22, h23, h24, h28, h26, h27⟩ := h
  refine ⟨⟨t, by omega, e4⟩, fun s hs => ?_, fun s hs => ?_, h18, fun q hq => ?_, fun q hq => ?_, h22, fun q hq => ?_, h24, h28, fun p hp => ?_, h27⟩
  · obtain ⟨n, a, b⟩ := h16 s hs; exact ⟨n, by omega, b⟩
  · obtain ⟨n, a, b⟩ := h17 s hs; exact ⟨n, by omega, b⟩
  · obtain ⟨n, a, b⟩ := h20 q hq; exact ⟨n, by omega, b⟩
  · obtain ⟨n, a, b⟩ := h21 q hq; exact ⟨n, by omega, b⟩
  · obtain ⟨n, a, b⟩ := h23 q hq; exact ⟨n, by omega, b⟩
  · obtain ⟨n, a, b⟩ := h26 p hp; exact ⟨n, by omega, b⟩
/-- fields that stay -/
theorem rf_bs {B : Nat} {S T : zz_T} (h : ∀ f, rf_F f → f ≠ 18 → T f = S f) (h18 : zz_18 T) (k : rf_b B S) : rf_b B T := by
  unfold rf_b zz_24 at *
  rw [h 4 (by decide) (by decide), h 16 (by decide) (by decide), h 17 (by decide) (by decide), h 20 (by decide) (by decide), h 21 (by decide) (by decide), h 22 (by decide) (by decide), h 23 (by decide) (by decide), h 24 (by decide) (by decide), h 26 (by decide) (by decide), h 27 (by decide) (by decide), h 28 (by decide) (by decide)]
  exact ⟨k.1, k.2.1, k.2.2.1, h18, k.2.2.2.2⟩
theorem rf_bn {B F i : Nat} {v : Int32} {S : zz_T} (h : ¬ rf_F F ∨ F = 19) (k : rf_b B S) : rf_b B (zz_s S F i v) := by
  unfold rf_b zz_18 zz_24 at *
  unfold rf_F at h
  rw [zz_sn (g := 4) (by omega), zz_sn (g := 16) (by omega), zz_sn (g := 17) (by omega), zz_sn (g := 18) (by omega), zz_sn (g := 20) (by omega), zz_sn (g := 21) (by omega), zz_sn (g := 22) (by omega), zz_sn (g := 23) (by omega), zz_sn (g := 24) (by omega), zz_sn (g := 26) (by omega), zz_sn (g := 27) (by omega), zz_sn (g := 28) (by omega)]
  exact k
/-! ## bounds: one place written -/
theorem rf_b4 {B i : Nat} {v : Int32} {S : zz_T} (hi : i = 0) (hv : ∃ t, t < B ∧ v = nI t) (k : rf_b B S) : rf_b B (zz_s S 4 i v) := by
  unfold rf_b zz_18 zz_24 at *
  rw [zz_sn (g := 16) (by decide), zz_sn (g := 17) (by decide), zz_sn (g := 18) (by decide), zz_sn (g := 20) (by decide), zz_sn (g := 21) (by decide), zz_sn (g := 22) (by decide), zz_sn (g := 23) (by decide), zz_sn (g := 24) (by decide), zz_sn (g := 28) (by decide), zz_sn (g := 26) (by decide), zz_sn (g := 27) (by decide), zz_se]
  refine ⟨(by rw [hi, pk_us]; exact hv), k.2.1, k.2.2.1, k.2.2.2.1, k.2.2.2.2.1, k.2.2.2.2.2.1, k.2.2.2.2.2.2.1, k.2.2.2.2.2.2.2.1, k.2.2.2.2.2.2.2.2.1, k.2.2.2.2.2.2.2.2.2.1, k.2.2.2.2.2.2.2.2.2.2.1, k.2.2.2.2.2.2.2.2.2.2.2⟩
theorem rf_b16 {B i : Nat} {v : Int32} {S : zz_T} (hv : ∃ n, n < B ∧ v = nI n) (k : rf_b B S) : rf_b B (zz_s S 16 i v) := by
  unfold rf_b zz_18 zz_24 at *
  rw [zz_sn (g := 4) (by decide), zz_sn (g := 17) (by decide), zz_sn (g := 18) (by decide), zz_sn (g := 20) (by decide), zz_sn (g := 21) (by decide), zz_sn (g := 22) (by decide), zz_sn (g := 23) (by decide), zz_sn (g := 24) (by decide), zz_sn (g := 28) (by decide), zz_sn (g := 26) (by decide), zz_sn (g := 27) (by decide), zz_se]
  refine ⟨k.1, ?_, k.2.2.1, k.2.2.2.1, k.2.2.2.2.1, k.2.2.2.2.2.1, k.2.2.2.2.2.2.1, k.2.2.2.2.2.2.2.1, k.2.2.2.2.2.2.2.2.1, k.2.2.2.2.2.2.2.2.2.1, k.2.2.2.2.2.2.2.2.2.2.1, k.2.2.2.2.2.2.2.2.2.2.2⟩
  intro q hq
  by_cases e : q = i
  · rw [e, pk_us]; exact hv
  · rw [pk_un e]; exact k.2.1 q hq
theorem rf_b17 {B i : Nat} {v : Int32} {S : zz_T} (hv : ∃ n, n < B ∧ v = nI n) (k : rf_b B S) : rf_b B (zz_s S 17 i v) := by
  unfold rf_b zz_18 zz_24 at *
  rw [zz_sn (g := 4) (by decide), zz_sn (g := 16) (by decide), zz_sn (g := 18) (by decide), zz_sn (g := 20) (by decide), zz_sn (g := 21) (by decide), zz_sn (g := 22) (by decide), zz_sn (g := 23) (by decide), zz_sn (g := 24) (by decide), zz_sn (g := 28) (by decide), zz_sn (g := 26) (by decide), zz_sn (g := 27) (by decide), zz_se]
  refine ⟨k.1, k.2.1, ?_, k.2.2.2.1, k.2.2.2.2.1, k.2.2.2.2.2.1, k.2.2.2.2.2.2.1, k.2.2.2.2.2.2.2.1, k.2.2.2.2.2.2.2.2.1, k.2.2.2.2.2.2.2.2.2.1, k.2.2.2.2.2.2.2.2.2.2.1, k.2.2.2.2.2.2.2.2.2.2.2⟩
  intro q hq
  by_cases e : q = i
  · rw [e, pk_us]; exact hv
  · rw [pk_un e]; exact k.2.2.1 q hq
theorem rf_b18 {B i : Nat} {v : Int32} {S : zz_T} (hv : v = -1 ∨ ∃ r, r < 8 ∧ v = nI r) (k : rf_b B S) : rf_b B (zz_s S 18 i v) := by
  unfold rf_b zz_18 zz_24 at *
  rw [zz_sn (g := 4) (by decide), zz_sn (g := 16) (by decide), zz_sn (g := 17) (by decide), zz_sn (g := 20) (by decide), zz_sn (g := 21) (by decide), zz_sn (g := 22) (by decide), zz_sn (g := 23) (by decide), zz_sn (g := 24) (by decide), zz_sn (g := 28) (by decide), zz_sn (g := 26) (by decide), zz_sn (g := 27) (by decide), zz_se]
  refine ⟨k.1, k.2.1, k.2.2.1, ?_, k.2.2.2.2.1, k.2.2.2.2.2.1, k.2.2.2.2.2.2.1, k.2.2.2.2.2.2.2.1, k.2.2.2.2.2.2.2.2.1, k.2.2.2.2.2.2.2.2.2.1, k.2.2.2.2.2.2.2.2.2.2.1, k.2.2.2.2.2.2.2.2.2.2.2⟩
  intro q hq
  by_cases e : q = i
  · rw [e, pk_us]; exact hv
  · rw [pk_un e]; exact k.2.2.2.1 q hq
theorem rf_b20 {B i : Nat} {v : Int32} {S : zz_T} (hv : ∃ n, n < B ∧ v = nI n) (k : rf_b B S) : rf_b B (zz_s S 20 i v) := by
  unfold rf_b zz_18 zz_24 at *
  rw [zz_sn (g := 4) (by decide), zz_sn (g := 16) (by decide), zz_sn (g := 17) (by decide), zz_sn (g := 18) (by decide), zz_sn (g := 21) (by decide), zz_sn (g := 22) (by decide), zz_sn (g := 23) (by decide), zz_sn (g := 24) (by decide), zz_sn (g := 28) (by decide), zz_sn (g := 26) (by decide), zz_sn (g := 27) (by decide), zz_se]
  refine ⟨k.1, k.2.1, k.2.2.1, k.2.2.2.1, ?_, k.2.2.2.2.2.1, k.2.2.2.2.2.2.1, k.2.2.2.2.2.2.2.1, k.2.2.2.2.2.2.2.2.1, k.2.2.2.2.2.2.2.2.2.1, k.2.2.2.2.2.2.2.2.2.2.1, k.2.2.2.2.2.2.2.2.2.2.2⟩
  intro q hq
  by_cases e : q = i
  · rw [e, pk_us]; exact hv
  · rw [pk_un e]; exact k.2.2.2.2.1 q hq
theorem rf_b21 {B i : Nat} {v : Int32} {S : zz_T} (hv : ∃ n, n < B + 24 ∧ v + 24 = nI n) (k : rf_b B S) : rf_b B (zz_s S 21 i v) := by
  unfold rf_b zz_18 zz_24 at *
  rw [zz_sn (g := 4) (by decide), zz_sn (g := 16) (by decide), zz_sn (g := 17) (by decide), zz_sn (g := 18) (by decide), zz_sn (g := 20) (by decide), zz_sn (g := 22) (by decide), zz_sn (g := 23) (by decide), zz_sn (g := 24) (by decide), zz_sn (g := 28) (by decide), zz_sn (g := 26) (by decide), zz_sn (g := 27) (by decide), zz_se]
  refine ⟨k.1, k.2.1, k.2.2.1, k.2.2.2.1, k.2.2.2.2.1, ?_, k.2.2.2.2.2.2.1, k.2.2.2.2.2.2.2.1, k.2.2.2.2.2.2.2.2.1, k.2.2.2.2.2.2.2.2.2.1, k.2.2.2.2.2.2.2.2.2.2.1, k.2.2.2.2.2.2.2.2.2.2.2⟩
  intro q hq
  by_cases e : q = i
  · rw [e, pk_us]; exact hv
  · rw [pk_un e]; exact k.2.2.2.2.2.1 q hq
theorem rf_b22 {B i : Nat} {v : Int32} {S : zz_T} (hv : rf_st v) (k : rf_b B S) : rf_b B (zz_s S 22 i v) := by
  unfold rf_b zz_18 zz_24 at *
  rw [zz_sn (g := 4) (by decide), zz_sn (g := 16) (by decide), zz_sn (g := 17) (by decide), zz_sn (g := 18) (by decide), zz_sn (g := 20) (by decide), zz_sn (g := 21) (by decide), zz_sn (g := 23) (by decide), zz_sn (g := 24) (by decide), zz_sn (g := 28) (by decide), zz_sn (g := 26) (by decide), zz_sn (g := 27) (by decide), zz_se]
  refine ⟨k.1, k.2.1, k.2.2.1, k.2.2.2.1, k.2.2.2.2.1, k.2.2.2.2.2.1, ?_, k.2.2.2.2.2.2.2.1, k.2.2.2.2.2.2.2.2.1, k.2.2.2.2.2.2.2.2.2.1, k.2.2.2.2.2.2.2.2.2.2.1, k.2.2.2.2.2.2.2.2.2.2.2⟩
  intro q hq
  by_cases e : q = i
  · rw [e, pk_us]; exact hv
  · rw [pk_un e]; exact k.2.2.2.2.2.2.1 q hq
theorem rf_b23 {B i : Nat} {v : Int32} {S : zz_T} (hv : ∃ n, n < B ∧ v = nI n) (k : rf_b B S) : rf_b B (zz_s S 23 i v) := by
  unfold rf_b zz_18 zz_24 at *
  rw [zz_sn (g := 4) (by decide), zz_sn (g := 16) (by decide), zz_sn (g := 17) (by decide), zz_sn (g := 18) (by decide), zz_sn (g := 20) (by decide), zz_sn (g := 21) (by decide), zz_sn (g := 22) (by decide), zz_sn (g := 24) (by decide), zz_sn (g := 28) (by decide), zz_sn (g := 26) (by decide), zz_sn (g := 27) (by decide), zz_se]
  refine ⟨k.1, k.2.1, k.2.2.1, k.2.2.2.1, k.2.2.2.2.1, k.2.2.2.2.2.1, k.2.2.2.2.2.2.1, ?_, k.2.2.2.2.2.2.2.2.1, k.2.2.2.2.2.2.2.2.2.1, k.2.2.2.2.2.2.2.2.2.2.1, k.2.2.2.2.2.2.2.2.2.2.2⟩
  intro q hq
  by_cases e : q = i
  · rw [e, pk_us]; exact hv
  · rw [pk_un e]; exact k.2.2.2.2.2.2.2.1 q hq
theorem rf_b24 {B i : Nat} {v : Int32} {S : zz_T} (hv : ∃ k, k < 64 ∧ v = nI k) (k : rf_b B S) : rf_b B (zz_s S 24 i v) := by
  unfold rf_b zz_18 zz_24 at *
  rw [zz_sn (g := 4) (by decide), zz_sn (g := 16) (by decide), zz_sn (g := 17) (by decide), zz_sn (g := 18) (by decide), zz_sn (g := 20) (by decide), zz_sn (g := 21) (by decide), zz_sn (g := 22) (by decide), zz_sn (g := 23) (by decide), zz_sn (g := 28) (by decide), zz_sn (g := 26) (by decide), zz_sn (g := 27) (by decide), zz_se]
  refine ⟨k.1, k.2.1, k.2.2.1, k.2.2.2.1, k.2.2.2.2.1, k.2.2.2.2.2.1, k.2.2.2.2.2.2.1, k.2.2.2.2.2.2.2.1, ?_, k.2.2.2.2.2.2.2.2.2.1, k.2.2.2.2.2.2.2.2.2.2.1, k.2.2.2.2.2.2.2.2.2.2.2⟩
  intro q hq
  by_cases e : q = i
  · rw [e, pk_us]; exact hv
  · rw [pk_un e]; exact k.2.2.2.2.2.2.2.2.1 q hq
theorem rf_b28 {B i : Nat} {v : Int32} {S : zz_T} (hv : v = nI 0 ∨ v = nI 1) (k : rf_b B S) : rf_b B (zz_s S 28 i v) := by
  unfold rf_b zz_18 zz_24 at *
  rw [zz_sn (g := 4) (by decide), zz_sn (g := 16) (by decide), zz_sn (g := 17) (by decide), zz_sn (g := 18) (by decide), zz_sn (g := 20) (by decide), zz_sn (g := 21) (by decide), zz_sn (g := 22) (by decide), zz_sn (g := 23) (by decide), zz_sn (g := 24) (by decide), zz_sn (g := 26) (by decide), zz_sn (g := 27) (by decide), zz_se]
  refine ⟨k.1, k.2.1, k.2.2.1, k.2.2.2.1, k.2.2.2.2.1, k.2.2.2.2.2.1, k.2.2.2.2.2.2.1, k.2.2.2.2.2.2.2.1, k.2.2.2.2.2.2.2.2.1, ?_, k.2.2.2.2.2.2.2.2.2.2.1, k.2.2.2.2.2.2.2.2.2.2.2⟩
  intro q hq
  by_cases e : q = i
  · rw [e, pk_us]; exact hv
  · rw [pk_un e]; exact k.2.2.2.2.2.2.2.2.2.1 q hq
theorem rf_b26 {B i : Nat} {v : Int32} {S : zz_T} (hv : ∃ n, n < B ∧ v = nI n) (k : rf_b B S) : rf_b B (zz_s S 26 i v) := by
  unfold rf_b zz_18 zz_24 at *
  rw [zz_sn (g := 4) (by decide), zz_sn (g := 16) (by decide), zz_sn (g := 17) (by decide), zz_sn (g := 18) (by decide), zz_sn (g := 20) (by decide), zz_sn (g := 21) (by decide), zz_sn (g := 22) (by decide), zz_sn (g := 23) (by decide), zz_sn (g := 24) (by decide), zz_sn (g := 28) (by decide), zz_sn (g := 27) (by decide), zz_se]
  refine ⟨k.1, k.2.1, k.2.2.1, k.2.2.2.1, k.2.2.2.2.1, k.2.2.2.2.2.1, k.2.2.2.2.2.2.1, k.2.2.2.2.2.2.2.1, k.2.2.2.2.2.2.2.2.1, k.2.2.2.2.2.2.2.2.2.1, ?_, k.2.2.2.2.2.2.2.2.2.2.2⟩
  intro q hq
  by_cases e : q = i
  · rw [e, pk_us]; exact hv
  · rw [pk_un e]; exact k.2.2.2.2.2.2.2.2.2.2.1 q hq
theorem rf_b27 {B i : Nat} {v : Int32} {S : zz_T} (hv : ∃ n, n < 3 ∧ v = nI n) (k : rf_b B S) : rf_b B (zz_s S 27 i v) := by
  unfold rf_b zz_18 zz_24 at *
  rw [zz_sn (g := 4) (by decide), zz_sn (g := 16) (by decide), zz_sn (g := 17) (by decide), zz_sn (g := 18) (by decide), zz_sn (g := 20) (by decide), zz_sn (g := 21) (by decide), zz_sn (g := 22) (by decide), zz_sn (g := 23) (by decide), zz_sn (g := 24) (by decide), zz_sn (g := 28) (by decide), zz_sn (g := 26) (by decide), zz_se]
  refine ⟨k.1, k.2.1, k.2.2.1, k.2.2.2.1, k.2.2.2.2.1, k.2.2.2.2.2.1, k.2.2.2.2.2.2.1, k.2.2.2.2.2.2.2.1, k.2.2.2.2.2.2.2.2.1, k.2.2.2.2.2.2.2.2.2.1, k.2.2.2.2.2.2.2.2.2.2.1, ?_⟩
  intro q hq
  by_cases e : q = i
  · rw [e, pk_us]; exact hv
  · rw [pk_un e]; exact k.2.2.2.2.2.2.2.2.2.2.2 q hq
/-! ## bounds: the steps -/
theorem rf_bsame {B : Nat} {S T : zz_T} (h : ∀ f, rf_F f → T f = S f) (k : rf_b B S) : rf_b B T :=
  rf_bs (fun f hf _ => h f hf) (zz_18of (h 18 (by decide)) k.2.2.2.1) k
theorem rf_bsend {B s : Nat} {to : Int32} {S : zz_T} (k : rf_b B S) : rf_b B (mm_send s to S) := rf_bsame (fun _ hf => zz_sendo (rf_Fq hf)) k
theorem rf_btell {B s : Nat} {S : zz_T} (k : rf_b B S) : rf_b B (mm_tell s S) := rf_bsame (fun _ hf => zz_tello (rf_Fq hf)) k
theorem rf_bbeg {B : Nat} {a b c : Int32} {S : zz_T} (k : rf_b B S) : rf_b B (mm_beg a b c S) := rf_bsame (fun _ hf => zz_bego (by unfold rf_F at hf; omega)) k
theorem rf_bcpy {B : Nat} {S : zz_T} (k : rf_b B S) : rf_b B (mm_cpy S) := rf_bsame (fun _ hf => zz_cpyo (by unfold rf_F at hf; omega)) k
theorem rf_bgive {B s g : Nat} {S : zz_T} (k : rf_b B S) : rf_b B (mm_give s g S) := by
  refine rf_bs (fun f hf h18 => zz_giveo (rf_Fq hf) h18 (by unfold rf_F at hf; omega)) ?_ k
  refine zz_18of (S := zz_s S 18 (s * 8 + g) (-1)) ?_ (zz_18s (Or.inl rfl) k.2.2.2.1)
  unfold mm_give mm_lossW
  rw [zz_tello (by decide), zz_sn (by decide), zz_bego (by decide)]
theorem rf_bpass {B s : Nat} {S : zz_T} (k : rf_b B S) : rf_b B (mm_pass s S) := by
  unfold mm_pass
  split
  · exact k
  · split
    · exact rf_bsend k
    · exact rf_bgive k
theorem rf_bhw {B s g : Nat} {S : zz_T} (k : rf_b B S) : rf_b B (mm_hw s g S) := by
  unfold mm_hw
  split
  · exact k
  · split
    · exact k
    · exact rf_bgive k
theorem rf_blearn {B s g p n : Nat} {l : Int32} {S : zz_T} (hp : p < 8) (hn : n < B) (k : rf_b B S) : rf_b B (mm_learn s g (nI p) l (nI n) S) := by
  unfold mm_learn
  split
  · unfold mm_lnS
    refine rf_b20 ⟨n, hn, rfl⟩ (rf_bn (Or.inr rfl) (rf_b18 (Or.inr ⟨p, hp, zz_8 p (by omega)⟩) k))
  · exact k
theorem rf_bsee {B s f q : Nat} {S : zz_T} (hf : f < 8) (hq : q < B) (hs : s < 8) (k : rf_b B S) : rf_b B (mm_see s (nI f) (nI q) S) := by
  unfold mm_see
  refine rf_b24 ⟨((S 24 s).toNatClampNeg + 1) % 64, Nat.mod_lt _ (by decide), rfl⟩ (rf_b23 ⟨q, hq, rfl⟩ (rf_b22 (Or.inr ⟨f, hf, zz_8 f (by omega)⟩) k))
theorem rf_bask {B s g : Nat} {S : zz_T} (hs : s < 8) (k : rf_b B S) : rf_b (B + 1) (mm_ask s g S) := by
  have k' := rf_bm k (Nat.le_succ B)
  unfold mm_ask
  split
  · obtain ⟨⟨t, ht, e4⟩, h16, h17, _⟩ := id k
    obtain ⟨n, hn, e16⟩ := h16 s hs
    obtain ⟨q, hq, e17⟩ := h17 s hs
    have h0 : rf_b (B + 1) (mm_ask0 s g S) := by
      unfold mm_ask0
      refine rf_b17 ⟨q + 1, by omega, by rw [e17, nI_1]⟩ (rf_b16 ⟨n + 1, by omega, by rw [e16, nI_1]⟩ (rf_b21 ⟨t + 24, by omega, ?_⟩ k'))
      rw [e4]
      exact nI_add t 24
    have e17' : mm_ask0 s g S 17 s = nI (q + 1) := by
      unfold mm_ask0
      rw [zz_se, pk_us, e17, nI_1]
    refine rf_btell ?_
    unfold mm_ask3 mm_ask2
    rw [e17']
    exact rf_bn (Or.inl (by decide)) (rf_bn (Or.inl (by decide)) (rf_bn (Or.inl (by decide)) (rf_bbeg (rf_bsee hs (by omega) hs h0))))
  · exact k'
theorem rf_bhear {B s p k f g n l q : Nat} {S : zz_T} (hs : s < 8) (hp : p < 8) (hb : rf_b B S) (hr : rf_r S k f g n l q) (hn : n < B) (hq : q < B) (hp3 : k = 3 → g = s → ¬ (S 43 3 = S 15 (f + 8 * s) ∧ S 43 4 = S 29 (f + 8 * s))) (hp4 : k = 4 → g = s → ¬ mm_anP (s + 8 * f) S) :
    rf_b (B + 1) (mm_hear s (nI p) S) := by
  have hb' := rf_bm hb (Nat.le_succ B)
  obtain ⟨hk5, hf, hg, _, _, _, e0, e1, e2, e3, e4, e5⟩ := hr
  have hgs : S 43 2 = nI s → g = s := fun d => by rw [e2] at d; exact (nI_eq (by omega) (by omega)).1 d
  have hA : rf_b B (mm_ha2 s (nI p) S) := by
    unfold mm_ha2 mm_ha1
    rw [e1, e3, e5, nI_clamp (show f < 2 ^ 31 by omega)]
    exact rf_blearn hp hn (rf_bsee hf hq hs hb)
  have hcy : rf_b (B + 1) (mm_carry s S) := by
    have hl : rf_b (B + 1) (mm_lifeW S) := by
      unfold mm_lifeW
      exact rf_bn (Or.inl (by decide)) (rf_bcpy hb')
    unfold mm_carry
    split
    · exact hl
    · exact rf_bpass hl
  unfold mm_hear
  split
  · unfold mm_hearAsk
    split
    · exact hb'
    · split
      · refine rf_bpass (rf_bn (Or.inl (by decide)) ?_)
        unfold mm_haT
        obtain ⟨m, hm, e16⟩ := hA.2.1 s hs
        exact rf_bbeg (rf_b16 ⟨m + 1, by omega, by rw [e16, nI_1]⟩ (rf_bm hA (Nat.le_succ B)))
      · exact rf_btell (rf_bn (Or.inl (by decide)) (rf_bcpy (rf_bm hA (Nat.le_succ B))))
  · split
    · have h1 : rf_b (B + 1) (mm_ht1 s (nI p) S) := by
        unfold mm_ht1
        rw [e1, e3, nI_clamp (show f < 2 ^ 31 by omega)]
        exact rf_blearn hp (by omega) hb'
      unfold mm_hearTell
      split
      · exact h1
      · refine rf_bpass ?_
        unfold mm_ht2
        exact rf_bn (Or.inl (by decide)) (rf_bcpy h1)
    · split
      · unfold mm_hearLoss
        split
        · exact rf_bgive hb'
        · exact hb'
      · split
        · next z0 z1 z2 z3 =>
          have ek : k = 3 := by
            rw [e0, show (3 : Int32) = nI 3 from rfl] at z3
            exact (nI_eq (by omega) (by omega)).1 z3
          unfold mm_hearPiece
          split
          · next d =>
            rw [e1, nI_clamp (show f < 2 ^ 31 by omega)]
            unfold mm_hp92 mm_hpT
            rw [if_neg (hp3 ek (hgs d))]
            refine rf_bpass (rf_bsame (fun F hF => rf_anWo (by unfold rf_F at hF; omega)) hb')
          · exact hcy
        · next z0 z1 z2 z3 =>
          have ek : k = 4 := by
            have h0 : k ≠ 0 := fun e => z0 (by rw [e0, e]; rfl)
            have h1 : k ≠ 1 := fun e => z1 (by rw [e0, e]; rfl)
            have h2 : k ≠ 2 := fun e => z2 (by rw [e0, e]; rfl)
            have h3 : k ≠ 3 := fun e => z3 (by rw [e0, e]; rfl)
            omega
          unfold mm_hearAnswer
          split
          · next d =>
            rw [e1, nI_clamp (show f < 2 ^ 31 by omega), if_neg (hp4 ek (hgs d))]
            exact hb'
          · exact hcy
theorem rf_bu142 {B a b : Nat} {m : Option Nat} {S : zz_T} (ha : a < 8) (hb : rf_b B S) : rf_b (B + 1) (mm_u142 a b m S) := by
  unfold mm_u142
  split
  · unfold mm_u187
    have h1 : rf_b B (mm_uW a b m (mm_hw a b S)) := rf_bsame (fun F hF => zz_uWo (by unfold rf_F at hF; omega)) (rf_bhw hb)
    obtain ⟨t, ht, e4⟩ := h1.1
    exact rf_bm (rf_bpass (rf_b26 ⟨t, ht, e4⟩ (rf_b28 (Or.inr rfl) h1))) (Nat.le_succ B)
  · exact rf_bask ha (rf_b28 (Or.inl rfl) (rf_bhw hb))
theorem rf_bu108 {B a b z : Nat} {m : Option Nat} {S : zz_T} (ha : a < 8) (hz : z < 3) (hb : rf_b B S) : rf_b (B + 1) (mm_u108 a b m (nI z) S) := by
  have hA : rf_b B (mm_uA (a + 8 * b) (nI z) S) := by
    unfold mm_uA
    exact rf_b27 ⟨z, hz, zz_8 z (by omega)⟩ hb
  unfold mm_u108
  split
  · exact rf_bu142 ha hA
  · split
    · exact rf_bu142 ha (rf_b27 ⟨0, by omega, rfl⟩ (rf_bgive (rf_bhw hA)))
    · exact rf_bu142 ha (rf_bhw hA)
theorem rf_burge {B a b : Nat} {S : zz_T} (ha : a < 8) (hb8 : b < 8) (h27 : S 28 (a + 8 * b) = nI 1 → ∃ n, n < 2 ∧ S 27 (a + 8 * b) = nI n) (hb : rf_b B S) : rf_b (B + 1) (mm_urge a b S) := by
  have hb' := rf_bm hb (Nat.le_succ B)
  have h28 := hb.2.2.2.2.2.2.2.2.2.1 (a + 8 * b) (by omega)
  unfold mm_urge
  split
  · unfold mm_u46
    split
    · unfold mm_u82
      split
      · exact rf_bu108 (z := 0) ha (by omega) hb
      · next e =>
        obtain ⟨k, hk, ek⟩ := h27 (by
          rcases h28 with y | y
          · exact absurd y e
          · exact y)
        rw [ek, nI_1]
        exact rf_bu108 (z := k + 1) ha (by omega) hb
    · exact hb'
  · exact hb'
