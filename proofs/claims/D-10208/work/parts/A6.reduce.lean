/-! ## from the abstract machine to the class -/
theorem ry_fwn {S : zz_T} {a b : Int32} {m : Nat} (hm : m < 16) (hw : mm_wt S a b m) : ∃ k, mm_fw S a b = some k := by
  have key : mm_fw S a b = none → ∀ m', m' < 16 → ¬ mm_wt S a b m' := by
    unfold mm_fw
    refine (zz_itI (fun (n : Nat) (r : Option Nat) => r = none → ∀ m', m' < n → ¬ mm_wt S a b m') (fun _ m' hm' => absurd hm' (by omega)) (fun n r hn ih => ?_))
    intro e m' hm'
    unfold mm_fw1 at e
    by_cases c : mm_wt S a b n
    · rw [if_pos c] at e
      cases r with
      | none => cases e
      | some k =>
        have e' : (@ite (Option Nat) (S 8 k ≤ S 8 n) (Classical.propDecidable _) (some k) (some n)) = none := e
        by_cases d : S 8 k ≤ S 8 n
        · rw [if_pos d] at e'; cases e'
        · rw [if_neg d] at e'; cases e'
    · rw [if_neg c] at e
      by_cases z : m' = n
      · rw [z]; exact c
      · exact ih e m' (by omega)
  cases h : mm_fw S a b with
  | none => exact absurd hw (key h m hm)
  | some k => exact ⟨k, rfl⟩
/-- reached within n links: a walk -/
theorem ry_walk {S : zz_T} {a : Nat} (ha : a < 8) : ∀ n b, b < 8 → zz_R S a n b → ∃ k, k ≤ n ∧ rg_w (rf_u S) a k b := by
  intro n
  induction n with
  | zero => intro b hb h; exact ⟨0, Nat.le_refl _, (zz_R0 ha hb).1 h⟩
  | succ n ih =>
    intro b hb h
    rcases (zz_Rs hb).1 h with z | ⟨s, s8, z1, z2⟩
    · obtain ⟨k, k1, k2⟩ := ih b hb z
      exact ⟨k, by omega, k2⟩
    · obtain ⟨k, k1, k2⟩ := ih s s8 z1
      exact ⟨k + 1, by omega, s, k2, s8, hb, z2⟩
/-- what is ready is live, and near enough -/
theorem ry_live {so go N : Nat} {Z S : zz_T} (hl : zz_lk S) (hJ : zz_J N Z S) (hs : rx_src so go S) (hr : zz_cnt (mm_rd S) 16 ≠ 0) : ∃ a b, rf_l S a b ∧ rg_d (rf_u S) a b ≤ 7 := by
  obtain ⟨m, m1, m2, m3, n, m4⟩ := zz_cnt1 16 hr
  obtain ⟨⟨a, ha, ea⟩, b, hb, eb⟩ := hJ.2.1.2.2.1 m m1
  rw [ea, eb, nI_clamp (show a < 2 ^ 31 by omega), nI_clamp (show b < 2 ^ 31 by omega)] at m4
  have ok := hs.1 m a b m1 ha hb m2 ea eb
  have con : zz_con S a b := (zz_cond hb).2 ⟨n, m4⟩
  obtain ⟨k, k1, k2⟩ := ry_walk ha 7 b hb con
  have d7 : rg_d (rf_u S) a b ≤ 7 := Nat.le_trans (rg_le k2).1 k1
  have hG := rg_G (rf_usy hl)
  have d0 : 0 < rg_d (rf_u S) b a := by
    rcases Nat.eq_zero_or_pos (rg_d (rf_u S) b a) with z | z
    · exact absurd (hG.2.2.2.1 b a z).symm ok.1
    · exact z
  have sy := hG.2.2.1 a b
  obtain ⟨p, p1, _⟩ := hG.2.2.2.2.1 b a d0 (by omega)
  have up := (rf_usy hl p a p1).1
  refine ⟨a, b, ⟨ha, hb, ok.1, ?_, fun z => ?_⟩, d7⟩
  · by_cases c : S 15 (a + 8 * b) ≤ S 14 (a + 8 * b)
    · refine Or.inl ?_
      unfold mm_snd
      rw [if_pos c]
      exact ry_fwn m1 ⟨m2, m3, ea, eb⟩
    · exact Or.inr c
  · refine up.2.2 ?_
    rw [z]
    simp
theorem ry_ok {so go : Nat} {S : zz_T} (hs : rx_src so go S) {a b : Nat} (h : rf_l S a b) : rx_ok so go a b := by
  obtain ⟨ha, hb, hab, hc, _⟩ := h
  by_cases c : rx_ok so go a b
  · exact c
  · exfalso
    rcases hc with ⟨k, e⟩ | e
    · unfold mm_snd at e
      by_cases d : S 15 (a + 8 * b) ≤ S 14 (a + 8 * b)
      · rw [if_pos d] at e
        obtain ⟨k16, w1, _⟩ := zz_fws k e
        exact c (hs.1 k a b k16 ha hb w1.1 w1.2.2.1 w1.2.2.2)
      · rw [if_neg d] at e
        cases e
    · apply e
      rw [hs.2 a b ha hb c]
      exact Int32.le_refl _
/-- THE ABSTRACT CLAIM: no long run without progress -/
def ry_ABS (so go K : Nat) : Prop := ∀ lm Z d N p q, ax_LR lm Z d N → (∀ a b, ab_zl Z a b → a = 0 ∨ a = 4 ∨ (a = so ∧ b = go)) → ab_zl Z p q → d p q ≤ 7 → ab_zn Z 0 + K ≤ ab_zn Z N → False
/-- THE COUNTS: no frame of the ring is lost, seen questions are known, from t0 moments on -/
def ry_CNT (so go t0 K : Nat) : Prop := ∀ N B0 B Z S t M, rx_Z so go N B0 Z → B = B0 + 1089 * t → S = rf_mo Z t → ri_M N B Z S → rt_P (rf_a S) → rx_src so go S → M = 1089 * (t0 + K) → rf_A S B M →
  rf_se (rf_mo S t0) (1089 * K) ∧ ∃ c, rf_ct (rf_mo S t0) (1089 * K) c ∧ ∀ q, 1089 * (q + 1) + 1025 ≤ 1089 * K → c (1089 * (q + 1) + 1025) ≤ c (1089 * q) + 1024
theorem ry_H {so go t0 K : Nat} (h940 : t0 + K = 940) (h10 : 10 ≤ t0) (hABS : ry_ABS so go K) (hCNT : ry_CNT so go t0 K) : rx_H so go := by
  intro N B0 B Z S tZ hZ hBZ hSZ hB hM ht hs hr e1 e2
  have hl := hZ.1
  have bB : B0 ≤ B := by rw [hBZ]; exact Nat.le_add_right _ _
  have hN : N < B := Nat.lt_of_lt_of_le hZ.2.1 bB
  have hB2 : 16 ≤ B := Nat.le_trans hZ.2.2.1 bB
  obtain ⟨M, hMM⟩ : ∃ M, M = 1089 * 940 := ⟨_, rfl⟩
  obtain ⟨n0, hn0⟩ : ∃ n, n = 1089 * t0 := ⟨_, rfl⟩
  obtain ⟨n1, hn1⟩ : ∃ n, n = 1089 * K := ⟨_, rfl⟩
  have hsum : n0 + n1 = M := by rw [hn0, hn1, hMM, ← Nat.mul_add, h940]
  have hB' : B + M + 1 ≤ 2 ^ 29 := by
    have h9 : 1089 * 941 = M + 1089 := by rw [hMM]
    rw [h9] at hB
    clear h9 hMM hn0 hn1 hBZ
    omega
  have e1' : rv_m (rf_S S M) = rv_m S := by rw [hMM, rf_Sm]; exact e1
  have e2' : rv_o (rf_S S M) = rv_o S := by rw [hMM, rf_Sm]; exact e2
  have hA : rf_A S B M := rs_A hN hB' hB2 hM e1' e2'
  have hN30 : N < 2 ^ 30 := by
    clear hMM hn0 hn1 hB hBZ
    omega
  have S0 : rf_S S n0 = rf_mo S t0 := by rw [hn0, rf_Sm]
  obtain ⟨C, hC⟩ : ∃ C, C = B + 1089 * t0 := ⟨_, rfl⟩
  have eC : C = B + n0 := by rw [hC, hn0]
  have hC29 : C + n1 + 1 ≤ 2 ^ 29 := by
    clear hMM hn0 hn1 hB hC hBZ
    omega
  have hC29' : C ≤ 2 ^ 29 := by
    clear hMM hn0 hn1 hB hC hBZ
    omega
  obtain ⟨m1, m2⟩ := ri_mo hl hN hB2 hM ht t0 C hC hC29'
  have s0 : rf_s0 (rf_mo S t0) := by
    have := rs_s0 (N := N) (Z := Z) (q := t0) hA hM.2.1.2.2.2.2 hn0 h10 (by clear hMM hn0 hn1 hB hC hBZ; omega) (by rw [S0, ← eC]; exact m1)
    rw [S0] at this
    exact this
  have hs' : rx_src so go (rf_mo S t0) := by
    have := rx_mi hN30 hM.1 hs n0
    rw [S0] at this
    exact this
  have st := rp_stay hN30 hM.1 e1' e2' n0 (by clear hMM hn0 hn1 hB hC hBZ; omega)
  rw [S0] at st
  have hr' : zz_cnt (mm_rd (rf_mo S t0)) 16 ≠ 0 := by
    rw [rx_rdc st.1]
    exact hr
  have v1 := rv_S st.1
  have v2 : rv_o (rf_mo S t0) = rv_o S := by unfold rv_o; rw [st.2]
  have Sn : rf_S (rf_mo S t0) n1 = rf_mo S 940 := by rw [hn1, rf_Sm, rx_moa, h940]
  have hNC : N < C := by
    clear hMM hn0 hn1 hB hC hBZ
    omega
  have hC16 : 16 ≤ C := by
    clear hMM hn0 hn1 hB hC hBZ
    omega
  have hA' : rf_A (rf_mo S t0) C n1 := rs_A hNC hC29 hC16 m1 (by rw [Sn, e1, v1]) (by rw [Sn, e2, v2])
  obtain ⟨hse, c, hc, hcc⟩ := hCNT N B0 B Z S tZ M hZ hBZ hSZ hM ht hs (by rw [hMM, h940]) hA
  rw [← hn1] at hse hc
  have hlk' : zz_lk (rf_mo S t0) := zz_lkc (m1.1.2.2.1 6 (by decide)) hl
  have hG := rg_G (rf_usy hlk')
  have RL := rf_RL (d := rg_d (rf_u (rf_mo S t0))) hA' s0 hlk' hse hG.1 hG.2.1
  have L := rf_L hA' (rf_du0 s0) hc (by rw [hn1]; exact hcc)
  have U := ax_UI RL (rf_V hA' s0)
  have nq := rf_nowq hA' n1 (Nat.le_refl _)
  obtain ⟨a, b, la, lb⟩ := ry_live hlk' m1.1 hs' hr'
  refine hABS n1 (rf_Z (rf_mo S t0)) (rg_d (rf_u (rf_mo S t0))) n1 a b ⟨RL, L, hG, fun a b z => ⟨z.2.2.1, z.1, z.2.1⟩, ⟨fun a b => m2 a b, fun k hk k2 => ?_⟩, U, fun i hi kk x3 x5 => (rs_np hA' hi kk).1 x3 x5, fun i hi kk x3 x5 => (rs_np hA' hi kk).2 x3 x5, fun a b z => ?_⟩ (fun a b z => (ry_ok hs' z).2) la lb ?_
  · have k3 : 1024 < k % 1089 := rf_K2 k2
    have := rf_nowq hA' k (Nat.le_of_lt hk)
    rw [if_neg (by clear hMM hn0 hn1 hB hC hBZ; omega)] at this
    rw [this]
    clear hMM hn0 hn1 hB hC hBZ
    omega
  · obtain ⟨c, d, c1, c2, c3, c4, c5⟩ := m1.1.2.1.2.1 a b z.1 z.2.1
    have e14 : rf_c (rf_mo S t0 14 (a + 8 * b)) = c := by rw [c1, rf_cn (by clear hMM hn0 hn1 hB hC hBZ; omega)]
    have e15 : rf_c (rf_mo S t0 15 (a + 8 * b)) = d := by rw [c2, rf_cn (by clear hMM hn0 hn1 hB hC hBZ; omega)]
    show rf_c (rf_mo S t0 15 (a + 8 * b)) = rf_c (rf_mo S t0 14 (a + 8 * b)) ∨ rf_c (rf_mo S t0 15 (a + 8 * b)) = rf_c (rf_mo S t0 14 (a + 8 * b)) + 1
    rw [e14, e15]
    clear hMM hn0 hn1 hB hC hBZ
    omega
  · rw [nq, hn1, Nat.mul_div_cancel_left K (by decide), Nat.add_assoc]
    exact Nat.add_le_add_left (Nat.le_add_right _ _) _
/-- THE LAW, from the abstract claim and the counts -/
theorem ry_law {t0 K : Nat} (h940 : t0 + K = 940) (h10 : 10 ≤ t0) (hABS : ∀ so go, so < 8 → go < 8 → so ≠ go → ry_ABS so go K) (hCNT : ∀ so go, so < 8 → go < 8 → so ≠ go → ry_CNT so go t0 K) (xs : Nat → Int32) (L : Nat) (hL : L ≤ 260) : wpL_law (fun r => r = 1) L xs :=
  rx_law (fun so go h1 h2 h3 => ry_H h940 h10 (hABS so go h1 h2 h3) (hCNT so go h1 h2 h3)) xs L hL
