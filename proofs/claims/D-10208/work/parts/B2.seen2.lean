/-! ## where the frames of a settling come from -/
noncomputable def rq_om (Z : zz_T) (n : Nat) : Nat := rv_o (rf_S Z (n + 1)) - rv_o (rf_S Z n)
noncomputable abbrev rq_n (Z : zz_T) (n : Nat) : Nat := rf_a (rf_S Z n) 0 0 0
theorem rq_now {N B n : Nat} {Z : zz_T} (hB : B + n ≤ 2 ^ 29) (hM : ri_M N (B + n) Z (rf_S Z n)) : ∃ t, t < B + n ∧ rf_S Z n 4 0 = nI t ∧ rq_n Z n = t := by
  obtain ⟨t, ht, e4⟩ := hM.2.1.1.1
  refine ⟨t, ht, e4, ?_⟩
  show (if (0 : Nat) = 0 ∧ (0 : Nat) = 0 then rf_c (rf_S Z n 4 0) else 0) = t
  rw [if_pos ⟨rfl, rfl⟩, e4, rf_cn (by omega)]
theorem rq_K0 {Z : zz_T} {n : Nat} : (n % 1089 = 0 → rf_K Z n = 0) ∧ (n % 1089 ≠ 0 → rf_K Z n ≠ 0) := by
  refine ⟨fun h => if_pos h, fun h => ?_⟩
  unfold rf_K
  rw [if_neg h]
  split
  · by_cases c : rf_hs (n % 1089 - 1) (rf_S Z n)
    · rw [ab_ip c]; decide
    · rw [ab_in c]; decide
  · split <;> decide
theorem rq_n1 {n : Nat} {Z : zz_T} (hP : rq_P n (rf_K Z n) (rf_X Z n) (rf_S Z n) (rf_S Z (n + 1)) (rq_Y Z n)) : rq_n Z (n + 1) = if n % 1089 = 0 then rq_n Z n + 1 else rq_n Z n := by
  rcases hP.1 with z | ⟨z1, _, z, _⟩
  · show rf_a (rf_S Z (n + 1)) 0 0 0 = _
    rw [z]
    unfold rq_Y
    rw [ab_d0]
    by_cases h : n % 1089 = 0
    · rw [if_pos h, if_pos (rq_K0.1 h)]
    · rw [if_neg h, if_neg (rq_K0.2 h)]
  · have h : n % 1089 ≠ 0 := fun e => by have := (rq_K0 (Z := Z) (n := n)).1 e; omega
    rw [if_neg h]
    exact z 0 0 0 (by decide) (by decide)
def rq_V (Z : zz_T) (n : Nat) : Prop := ∀ i, i < 1024 → ¬ rf_S Z n 32 i = 0 →
  (∃ j w, j < n ∧ (rq_Y Z j).2 w ∧ (∀ m, 3 ≤ m → m ≤ 8 → rf_sl (rf_S Z n) i m = w m) ∧ ∃ e, 1 ≤ e ∧ e ≤ 4 + 2 * rq_om Z j ∧ (e = 1 ∨ 1 ≤ rq_om Z j) ∧ rf_c (rf_S Z n 35 i) = rq_n Z j + e) ∧
  (rq_n Z n + 1 ≤ rf_c (rf_S Z n 35 i) ∨ (rq_n Z n ≤ rf_c (rf_S Z n 35 i) ∧ n % 1089 ≠ 0 ∧ n % 1089 ≤ 1024 ∧ n % 1089 ≤ i + 1))
theorem rq_16 (S : zz_T) : rv_o S ≤ 16 := zz_cntle 16
theorem rq_VI {N B M : Nat} {Z : zz_T} (hl : zz_lk Z) (hN : N < B) (hB2 : 16 ≤ B) (hB : B + M + 1 ≤ 2 ^ 29) (hM : ri_M N B Z Z) (h32 : ∀ i, i < 1024 → Z 32 i = 0) : ∀ n, n ≤ M → rq_V Z n := by
  have hr := ri_run hl hN hB2 hM
  intro n
  induction n with
  | zero => intro _ i hi hu; exact absurd (h32 i hi) hu
  | succ n ih =>
    intro hn i hi hu
    have hMn := hr n (by omega)
    have hP := rq_st hN (show B + n + 1 ≤ 2 ^ 29 by omega) hMn
    have n1 := rq_n1 hP
    obtain ⟨t, ht, e4, en⟩ := rq_now (show B + n ≤ 2 ^ 29 by omega) hMn
    have hlt : n % 1089 < 1089 := Nat.mod_lt _ (by decide)
    rcases hP.2.2 i hi hu with ⟨z, zd⟩ | ⟨h0, ⟨w, w1, w2, w3, w4⟩, e, e1, e2, e3, e5⟩
    · have hu' : ¬ rf_S Z n 32 i = 0 := by rw [← z.1]; exact hu
      obtain ⟨⟨j, w, j1, j2, j3, e, e1, e2, e3, e5⟩, due⟩ := ih (by omega) i hi hu'
      refine ⟨⟨j, w, by omega, j2, fun m m1 m2 => by rw [rf_sss z]; exact j3 m m1 m2, e, e1, e2, e3, by rw [z.2.2.2.1]; exact e5⟩, ?_⟩
      rw [z.2.2.2.1, n1]
      by_cases h0 : n % 1089 = 0
      · rw [if_pos h0]
        rcases due with y | y
        · exact Or.inr ⟨by omega, by omega, by omega, by omega⟩
        · exact absurd h0 y.2.1
      · rw [if_neg h0]
        rcases due with y | ⟨y1, y2, y3, y4⟩
        · exact Or.inl y
        · by_cases c : i = n % 1089 - 1
          · refine Or.inl ?_
            have lt := zd h0 y3 c
            obtain ⟨e35, b35⟩ := (hMn.2.1.2.1 i hi hu').1.2.2.1
            rw [e4, e35, Int32.lt_iff_toInt_lt, nI_toInt (by omega), nI_toInt (by omega)] at lt
            omega
          · exact Or.inr ⟨y1, by omega, by omega, by omega⟩
    · have o16 := rq_16 (rf_S Z (n + 1))
      have ed : rf_c (rf_S Z (n + 1) 35 i) = rq_n Z n + e := by
        rw [e5, e4, nI_add, rf_cn (by omega), en]
      have om : rq_om Z n = rv_o (rf_S Z (n + 1)) - rv_o (rf_S Z n) := rfl
      refine ⟨⟨n, w, by omega, w1, w4, e, e1, by omega, by omega, ed⟩, Or.inl ?_⟩
      rw [ed, n1, if_neg h0]
      omega
/-- the pairs and their code -/
def rq_arc (so go a b : Nat) : Prop := rx_ok so go a b ∧ a < 8 ∧ b < 8
def rq_cd (a b : Nat) : Nat := if a = 0 then b - 1 else if a = 4 then (if b < 4 then 7 + b else 6 + b) else 14
theorem rq_cd1 {so go a b : Nat} (h : rq_arc so go a b) : a < 8 ∧ rq_cd a b < 15 := by
  obtain ⟨⟨h1, _⟩, h2, h3⟩ := h
  refine ⟨h2, ?_⟩
  unfold rq_cd
  split
  · omega
  · split
    · split <;> omega
    · omega
theorem rq_cd2 {so go a b a' b' : Nat} (h : rq_arc so go a b) (h' : rq_arc so go a' b') (e : rq_cd a b = rq_cd a' b') : a = a' ∧ b = b' := by
  obtain ⟨⟨h1, h4⟩, h2, h3⟩ := h
  obtain ⟨⟨h1', h4'⟩, h2', h3'⟩ := h'
  unfold rq_cd at e
  by_cases c0 : a = 0
  · rw [if_pos c0] at e
    by_cases c0' : a' = 0
    · rw [if_pos c0'] at e
      omega
    · rw [if_neg c0'] at e
      by_cases c4' : a' = 4
      · rw [if_pos c4'] at e
        by_cases d : b' < 4
        · rw [if_pos d] at e; omega
        · rw [if_neg d] at e; omega
      · rw [if_neg c4'] at e; omega
  · rw [if_neg c0] at e
    by_cases c4 : a = 4
    · rw [if_pos c4] at e
      by_cases c0' : a' = 0
      · rw [if_pos c0'] at e
        by_cases d : b < 4
        · rw [if_pos d] at e; omega
        · rw [if_neg d] at e; omega
      · rw [if_neg c0'] at e
        by_cases c4' : a' = 4
        · rw [if_pos c4'] at e
          by_cases d : b < 4
          · rw [if_pos d] at e
            by_cases d' : b' < 4
            · rw [if_pos d'] at e; omega
            · rw [if_neg d'] at e; omega
          · rw [if_neg d] at e
            by_cases d' : b' < 4
            · rw [if_pos d'] at e; omega
            · rw [if_neg d'] at e; omega
        · rw [if_neg c4'] at e
          by_cases d : b < 4
          · rw [if_pos d] at e; omega
          · rw [if_neg d] at e; omega
    · rw [if_neg c4] at e
      by_cases c0' : a' = 0
      · rw [if_pos c0'] at e; omega
      · rw [if_neg c0'] at e
        by_cases c4' : a' = 4
        · rw [if_pos c4'] at e
          by_cases d : b' < 4
          · rw [if_pos d] at e; omega
          · rw [if_neg d] at e; omega
        · omega
noncomputable def rq_Q (so go : Nat) (Z : zz_T) : aq_T := (rf_u Z, fun n => rf_a (rf_S Z n), rf_K Z, rf_s Z, rf_p Z, rf_X Z, fun n w => (rq_Y Z n).2 w, rq_om Z, rq_arc so go, rq_cd)
theorem rq_sum {N B M : Nat} {Z : zz_T} (hl : zz_lk Z) (hN : N < B) (hB2 : 16 ≤ B) (hB : B + M + 1 ≤ 2 ^ 29) (hM : ri_M N B Z Z) : ∀ n, n ≤ M → aq_sum (rq_om Z) n + rv_o Z = rv_o (rf_S Z n) := by
  have hr := ri_run hl hN hB2 hM
  intro n
  induction n with
  | zero => intro _; exact Nat.zero_add _
  | succ n ih =>
    intro hn
    have hP := rq_st hN (show B + n + 1 ≤ 2 ^ 29 by omega) (hr n (by omega))
    have := ih (by omega)
    have := hP.2.1
    show aq_sum (rq_om Z) n + (rv_o (rf_S Z (n + 1)) - rv_o (rf_S Z n)) + rv_o Z = _
    omega
/-- A SETTLING IS A RUN OF QUESTIONS -/
theorem rq_R {so go N B M : Nat} {Z : zz_T} (hZ : rx_Z so go N B Z) (hB : B + M + 1 ≤ 2 ^ 29) : aq_R (rq_Q so go Z) M := by
  obtain ⟨hl, hN, hB2, h32, hM, ht, hs⟩ := hZ
  have hr := ri_run hl hN hB2 hM
  have hV := rq_VI hl hN hB2 hB hM h32
  have hsr := rx_mi (show N < 2 ^ 30 by omega) hM.1 hs
  refine ⟨fun n hn => ?_, fun n hn k1 x3 => ?_, fun a b h => rq_cd1 h, fun a b a' b' h h' e => rq_cd2 h h' e, ?_, hM.2.1.2.2.2.1.1.2, fun v hv => ?_⟩
  · have hP := rq_st hN (show B + n + 1 ≤ 2 ^ 29 by omega) (hr n (by omega))
    rcases hP.1 with z | ⟨z1, z2, z3, z4⟩
    · exact Or.inl ⟨rf_l (rf_S Z n), rq_cf (rf_S Z n), rq_ac (rf_S Z (n + 1)), fun a b h => ⟨ry_ok (hsr n) h, h.1, h.2.1⟩, z, fun w hw => hw⟩
    · exact Or.inr ⟨z1, z2, z3, fun w hw => absurd hw (z4 w)⟩
  · have k1' : rf_K Z n = 1 := k1
    obtain ⟨h0, h1, c⟩ := rf_K1 k1'
    have hi : n % 1089 - 1 < 1024 := by omega
    have hMn := hr n (by omega)
    obtain ⟨hsm, s33, s34, fb⟩ := hMn.2.1.2.1 _ hi c.1
    obtain ⟨t, ht', e4, en⟩ := rq_now (show B + n ≤ 2 ^ 29 by omega) hMn
    have hs' : rf_s Z n = rf_c (rf_S Z n 34 (n % 1089 - 1)) := if_pos h1
    obtain ⟨⟨j, w, j1, j2, j3, e, e1, e2, e3, e5⟩, due⟩ := hV n (by omega) _ hi c.1
    have nd : ¬ rq_n Z n < rf_c (rf_S Z n 35 (n % 1089 - 1)) := by
      intro z
      apply c.2.1
      obtain ⟨e35, b35⟩ := hsm.2.2.1
      rw [e4, e35, Int32.lt_iff_toInt_lt, nI_toInt (by omega), nI_toInt (by omega)]
      omega
    have dn : rq_n Z n = rq_n Z j + e := by omega
    have x3' : rf_sl (rf_S Z n) (n % 1089 - 1) 3 = 0 := x3
    refine ⟨by show rf_s Z n < 8; rw [hs']; exact s34, j, w, j1, j2, ?_, j3 4 (by omega) (by omega), j3 8 (by omega) (by omega), ?_, ?_, ?_⟩
    · rw [← j3 3 (by omega) (by omega)]
      exact x3'
    · show rq_n Z j + 1 ≤ rq_n Z n
      omega
    · show rq_n Z n ≤ rq_n Z j + 4 + 2 * rq_om Z j
      omega
    · show rq_n Z n = rq_n Z j + 1 ∨ 1 ≤ rq_om Z j
      omega
  · have := rq_sum hl hN hB2 hB hM M (Nat.le_refl _)
    have := rq_16 (rf_S Z M)
    show aq_sum (rq_om Z) M ≤ 16
    omega
  · obtain ⟨k, hk, e⟩ := hM.2.1.1.2.2.2.2.2.2.2.2.1 v hv
    show rf_a Z 15 v 0 < 64
    have : rf_a Z 15 v 0 = rf_c (Z 24 v) := by
      show (if v < 8 ∧ (0 : Nat) = 0 then rf_c (Z 24 v) else 0) = _
      rw [if_pos ⟨hv, rfl⟩]
    rw [this, e, rf_cn (by omega)]
    exact hk
theorem rq_sh (Z : zz_T) (t n : Nat) : rf_S (rf_mo Z t) n = rf_S Z (1089 * t + n) := by
  unfold rf_S
  rw [rx_moa, show (1089 * t + n) % 1089 = n % 1089 by omega, show (1089 * t + n) / 1089 = t + n / 1089 by omega]
/-- R4: THE SEEN TABLE, in every stretch of a settling -/
theorem rq_se {so go N B t M : Nat} {Z : zz_T} (hZ : rx_Z so go N B Z) (hB : B + (1089 * t + M) + 1 ≤ 2 ^ 29) : rf_se (rf_mo Z t) M := by
  have hR := rq_R hZ hB
  have m : ∀ n, (1089 * t + n) % 1089 = n % 1089 := fun n => by omega
  have eK : ∀ n, rf_K (rf_mo Z t) n = rf_K Z (1089 * t + n) := fun n => by
    unfold rf_K
    rw [rq_sh, m]
  have es : ∀ n, rf_s (rf_mo Z t) n = rf_s Z (1089 * t + n) := fun n => by
    unfold rf_s
    rw [rq_sh, m]
  have eX : ∀ n, rf_X (rf_mo Z t) n = rf_X Z (1089 * t + n) := fun n => by
    unfold rf_X
    rw [rq_sh, m]
  intro i j hij hj kj xj ki ess xi e4 e8 _
  rw [eK] at kj ki
  rw [eX] at xj xi e4 e8
  rw [eX] at e4 e8
  rw [es, es] at ess
  have := aq_se (Q := rq_Q so go Z) (i := 1089 * t + i) (j := 1089 * t + j) hR (by omega) (by omega) kj xj ki ess xi e4 e8
  rw [es, eX, rq_sh]
  exact this
