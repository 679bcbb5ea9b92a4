/-! ## micro steps in general: all that is kept -/
theorem ri_step {N B k : Nat} {Z T : zz_T} (hl : zz_lk Z) (hN : N < B) (hB : B + 1 ≤ 2 ^ 29) (hB2 : 16 ≤ B) (hk : k < 1089) (h : ri_M N B Z T) : ri_M N (B + 1) Z (rf_step k T) := by
  unfold rf_step
  split
  · refine ⟨zz_Js (by decide) h.1, ri_tick (by omega) h.2.1, ?_⟩
    have e : ∀ F i j, F ≠ 0 → rf_a (mm_tick T) F i j = rf_a T F i j := fun F i j hF => by
      unfold mm_tick
      rw [rf_4, ab_wf hF]
    intro a b h7
    rw [e 7 _ _ (by decide)] at h7
    rw [e 9 _ _ (by decide)]
    exact h.2.2 a b h7
  · split
    · have hlk : zz_lk T := zz_lkc (h.1.2.2.1 6 (by decide)) hl
      exact ⟨zz_Jlst (by omega) (by omega) h.1, ri_lst (N := N) (B := B) (Z := Z) (by omega) (by omega) (by omega) (by omega) h.1 hlk h.2.1, ri_lsth (N := N) (B := B) (Z := Z) (by omega) (by omega) (by omega) h.1 h.2.1.1 h.2.1.2.1 h.2.1.2.2.1 h.2.2⟩
    · obtain ⟨r1, r2⟩ := ri_ub (N := N) (B := B) (Z := Z) (a := (k - 1025) / 8) (b := (k - 1025) % 8) (by omega) (by omega) (by omega) (by omega) (by omega) h.1 h.2.2 h.2.1
      exact ⟨zz_Jub (by omega) (by omega) (by omega) h.1, r1, r2⟩
theorem ri_run {N B : Nat} {Z S : zz_T} (hl : zz_lk Z) (hN : N < B) (hB2 : 16 ≤ B) (h : ri_M N B Z S) : ∀ n, B + n ≤ 2 ^ 29 → ri_M N (B + n) Z (rf_S S n) := by
  intro n
  induction n with
  | zero => exact fun _ => h
  | succ n ih =>
    intro hB
    rw [rf_S1]
    exact ri_step (B := B + n) hl (by omega) (by omega) (by omega) (Nat.mod_lt _ (by decide)) (ih (by omega))
theorem rf_S1089 {S : zz_T} : ∀ m, m = 1089 * 1 → rf_S S m = mm_mom S := by
  intro m hm
  rw [hm, rf_Sm]
  rfl
/-- timers within a moment -/
def rt_I (m : Nat) (D : ab_D) : Prop := ∀ i j, rt_p D i j ∧ (¬ (i < 8 ∧ j < 8 ∧ 8 * i + j < m) → rt_q D i j)
theorem rt_step {N B k : Nat} {Z T : zz_T} (hN : N < B) (hB : B + 1 ≤ 2 ^ 29) (h : ri_M N B Z T) : (rt_P (rf_a T) → rt_Q (rf_a (rf_step 0 T))) ∧ (1 ≤ k → k ≤ 1024 → rt_Q (rf_a T) → rt_Q (rf_a (rf_step k T))) ∧ (1024 < k → k < 1089 → rt_I (k - 1025) (rf_a T) → rt_I (k + 1 - 1025) (rf_a (rf_step k T))) := by
  refine ⟨fun ht => ?_, fun k1 k2 ht => ?_, fun k1 k2 ht => ?_⟩
  · obtain ⟨t, t1, t2⟩ := h.2.1.1.1
    exact rt_tick t2 (by omega) ht
  · have e : rf_step k T = mm_lst (k - 1) T := by
      unfold rf_step
      rw [if_neg (by omega), if_pos k2]
    rw [e]
    exact rt_lsth (N := N) (B := B) (Z := Z) hN (by omega) (by omega) h.1 h.2.1.1 h.2.1.2.1 h.2.1.2.2.1 ht
  · have e : rf_step k T = mm_ub ((k - 1025) / 8) ((k - 1025) % 8) T := by
      unfold rf_step
      rw [if_neg (by omega), if_neg (by omega)]
    rw [e]
    have a8 : (k - 1025) / 8 < 8 := by omega
    have b8 : (k - 1025) % 8 < 8 := by omega
    have hab : 8 * ((k - 1025) / 8) + (k - 1025) % 8 = k - 1025 := by omega
    generalize (k - 1025) / 8 = a at a8 hab
    generalize (k - 1025) % 8 = b at b8 hab
    unfold mm_ub
    by_cases ab : a = b
    · rw [if_pos ab]
      exact fun i j => ⟨(ht i j).1, fun z => (ht i j).2 (fun y => z ⟨y.1, y.2.1, by omega⟩)⟩
    · rw [if_neg ab]
      have pb := h.2.1.1
      have h27 : T 28 (a + 8 * b) = nI 1 → ∃ m, m < 2 ∧ T 27 (a + 8 * b) = nI m := by
        intro z
        obtain ⟨m, hm, em⟩ := pb.2.2.2.2.2.2.2.2.2.2.2 (a + 8 * b) (by omega)
        have := h.2.2 a b (by rw [rf_7r a8 b8, z, rf_cn (by omega)]; omega)
        rw [rf_9r a8 b8, em, rf_cn (by omega)] at this
        exact ⟨m, this, em⟩
      have eq := rf_urge (cf := fun _ _ => 0) a8 b8 ab (rf_bk pb (by omega)) h27
      rw [eq]
      intro i j
      obtain ⟨u1, u2⟩ := rt_u (u := rf_u T) (lv := rf_l T) (cf := fun _ _ => 0) (a := a) (b := b) (i := i) (j := j) (D := rf_a T)
      by_cases e : i = a ∧ j = b
      · obtain ⟨rfl, rfl⟩ := e
        have q := u1 ((ht i j).2 (fun y => by omega))
        exact ⟨q, fun z => absurd ⟨a8, b8, by omega⟩ z⟩
      · obtain ⟨v1, v2⟩ := u2 e
        exact ⟨v1 (ht i j).1, fun z => v2 ((ht i j).2 (fun y => z ⟨y.1, y.2.1, by omega⟩))⟩
/-- A MOMENT keeps the timers -/
theorem rt_mom {N B : Nat} {Z S : zz_T} (hl : zz_lk Z) (hN : N < B) (hB : B + 1089 ≤ 2 ^ 29) (hB2 : 16 ≤ B) (h : ri_M N B Z S) (ht : rt_P (rf_a S)) : rt_P (rf_a (rf_S S 1089)) := by
  have hr := ri_run hl hN hB2 h
  have s1 : ∀ n, n < 1089 → rf_S S (n + 1) = rf_step n (rf_S S n) := fun n hn => by rw [rf_S1, Nat.mod_eq_of_lt hn]
  have h1 : rt_Q (rf_a (rf_S S 1)) := by
    rw [s1 0 (by omega)]
    exact (rt_step (k := 0) hN (by omega) h).1 ht
  have h2 : ∀ n, 1 ≤ n → n ≤ 1025 → rt_Q (rf_a (rf_S S n)) := by
    intro n
    induction n with
    | zero => intro z; omega
    | succ n ih =>
      intro z1 z2
      by_cases e : n = 0
      · rw [e]; exact h1
      · rw [s1 n (by omega)]
        exact (rt_step (k := n) (N := N) (B := B + n) (Z := Z) (by omega) (by omega) (hr n (by omega))).2.1 (by omega) (by omega) (ih (by omega) (by omega))
  have h3 : ∀ n, n ≤ 64 → rt_I n (rf_a (rf_S S (1025 + n))) := by
    intro n
    induction n with
    | zero => exact fun _ i j => ⟨rt_qp (h2 1025 (by omega) (by omega) i j), fun _ => h2 1025 (by omega) (by omega) i j⟩
    | succ n ih =>
      intro z
      have := (rt_step (k := 1025 + n) (N := N) (B := B + (1025 + n)) (Z := Z) (by omega) (by omega) (hr (1025 + n) (by omega))).2.2 (by omega) (by omega)
      rw [show 1025 + n - 1025 = n by omega, show 1025 + n + 1 - 1025 = n + 1 by omega] at this
      rw [show 1025 + (n + 1) = (1025 + n) + 1 by omega, s1 (1025 + n) (by omega)]
      exact this (ih (by omega))
  exact fun i j => (h3 64 (by omega) i j).1
theorem ri_mo1 {N C : Nat} {Z T : zz_T} (hl : zz_lk Z) (hN : N < C) (hC : C + 1089 ≤ 2 ^ 29) (hC2 : 16 ≤ C) (h : ri_M N C Z T) (ht : rt_P (rf_a T)) : ri_M N (C + 1089) Z (mm_mom T) ∧ rt_P (rf_a (mm_mom T)) := by
  refine ⟨ri_mom hl hN hC hC2 h, ?_⟩
  have q := rt_mom hl hN hC hC2 h ht
  rw [rf_S1089 1089 (by omega)] at q
  exact q
theorem ri_mo {N B : Nat} {Z S : zz_T} (hl : zz_lk Z) (hN : N < B) (hB2 : 16 ≤ B) (h : ri_M N B Z S) (ht : rt_P (rf_a S)) : ∀ t C, C = B + 1089 * t → C ≤ 2 ^ 29 → ri_M N C Z (rf_mo S t) ∧ rt_P (rf_a (rf_mo S t)) := by
  intro t
  induction t with
  | zero =>
    intro C hC _
    have e : C = B := by rw [hC, Nat.mul_zero, Nat.add_zero]
    rw [e]
    exact ⟨h, ht⟩
  | succ t ih =>
    intro C hC hB
    obtain ⟨D, hD⟩ : ∃ D, D = B + 1089 * t := ⟨_, rfl⟩
    have eC : C = D + 1089 := by rw [hC, hD, Nat.mul_succ, Nat.add_assoc]
    clear hC
    have bD : B ≤ D := by rw [hD]; exact Nat.le_add_right _ _
    have dB : D ≤ 2 ^ 29 := by omega
    obtain ⟨i1, i2⟩ := ih D hD dB
    clear hD
    have n1 : N < D := by omega
    have n2 : D + 1089 ≤ 2 ^ 29 := by omega
    have n3 : 16 ≤ D := by omega
    rw [rf_mo1, eC]
    exact ri_mo1 hl n1 n2 n3 i1 i2
