theorem rx_mono {N : Nat} {Z S : zz_T} (hN : N < 2 ^ 30) (h : zz_J N Z S) (s t : Nat) (hst : s ≤ t) : rv_m (rf_mo S s) ≤ rv_m (rf_mo S t) ∧ rv_o (rf_mo S s) ≤ rv_o (rf_mo S t) := by
  have := rp_mono hN h (1089 * s) (1089 * t) (Nat.mul_le_mul_left _ hst)
  rw [rf_Sm, rf_Sm] at this
  exact this
/-- THE SETTLING: it ends with nothing ready, at the cost of 940 moments an event -/
theorem rx_run {so go N B0 : Nat} {Z : zz_T} (hso : so < 8) (hgo : go < 8) (hH : rx_H so go) (hZ : rx_Z so go N B0 Z) : ∀ p n B S t0, B = B0 + 1089 * t0 → S = rf_mo Z t0 → rx_pot S ≤ p → 940 * p ≤ n → B + 1089 * (940 * p + 1) ≤ 2 ^ 29 → ri_M N B Z S → rt_P (rf_a S) → rx_src so go S →
    zz_cnt (mm_rd (mm_run n S)) 16 = 0 ∧ ∃ t, mm_run n S = rf_mo S t ∧ rx_pot (rf_mo S t) ≤ rx_pot S ∧ t ≤ 940 * (rx_pot S - rx_pot (rf_mo S t)) := by
  intro p
  induction p with
  | zero =>
    intro n B S t0 hB0 hS0 hp hn hB hM ht hs
    by_cases c : zz_cnt (mm_rd S) 16 = 0
    · rw [rx_run0 c n]
      exact ⟨c, 0, rfl, Nat.le_refl _, Nat.zero_le _⟩
    · exfalso
      have c1 : zz_cnt (mm_rd S) 16 ≠ 0 := c
      obtain ⟨m, m1, m2⟩ := zz_cnt1 16 c1
      have hK := hM.1.2.1
      obtain ⟨_, e⟩ := rx_potb hso hgo hK hs
      have h1 := zz_cnts (P := mm_isT S) (Q := mm_has S) 16 (fun m hm z => hK.2.2.2.1 m hm z) m m1 m2.1 m2.2.1
      have h3 := zz_cntle (P := fun i => S 38 i = 0) 16
      have h4 := zz_cntle (P := fun p => S 14 p = S 15 p) 64
      unfold rv_m rv_o at e
      omega
  | succ p ih =>
    intro n B S t0 hB0 hS0 hp hn hB hM ht hs
    have hl := hZ.1
    have bB : B0 ≤ B := by rw [hB0]; exact Nat.le_add_right _ _
    have hN : N < B := Nat.lt_of_lt_of_le hZ.2.1 bB
    have hB2 : 16 ≤ B := Nat.le_trans hZ.2.2.1 bB
    rw [show 940 * (p + 1) = 940 * p + 940 from Nat.mul_succ 940 p] at hn hB
    obtain ⟨E, hE⟩ : ∃ E, E = 940 * p := ⟨_, rfl⟩
    rw [← hE] at hn hB ih
    clear hE
    have hB1 : B + 1089 * 941 ≤ 2 ^ 29 := Nat.le_trans (Nat.add_le_add_left (Nat.mul_le_mul_left 1089 (Nat.succ_le_succ (Nat.le_add_left 940 E))) B) hB
    by_cases c : zz_cnt (mm_rd S) 16 = 0
    · rw [rx_run0 c n]
      exact ⟨c, 0, rfl, Nat.le_refl _, Nat.zero_le _⟩
    · have tE0 : ∀ t, t ≤ 940 → t + (E + 1) ≤ E + 940 + 1 := fun t z => by
        clear hB hB1 hB0
        omega
      have hN30 : N < 2 ^ 30 := by
        have : B ≤ 2 ^ 29 := Nat.le_trans (Nat.le_add_right _ _) hB1
        clear hB hB1 hB0
        omega
      have ev : ¬ (rv_m (rf_mo S 940) = rv_m S ∧ rv_o (rf_mo S 940) = rv_o S) := fun z => hH N B0 B Z S t0 hZ hB0 hS0 hB1 hM ht hs c z.1 z.2
      obtain ⟨t, t1, t2, t3⟩ := rx_fst (P := fun t => ¬ (rv_m (rf_mo S t) = rv_m S ∧ rv_o (rf_mo S t) = rv_o S)) 940 ev
      have stay : ∀ s, s < t → rp_S S (rf_mo S s) := by
        intro s hst
        have e : rv_m (rf_mo S s) = rv_m S ∧ rv_o (rf_mo S s) = rv_o S := Classical.byContradiction (fun z => t3 s hst z)
        rw [← rf_Sm] at e
        have := (rp_stay hN30 hM.1 e.1 e.2 (1089 * s) (Nat.le_refl _)).1
        rw [rf_Sm] at this
        exact this
      have hrun := rx_runt (S := S) t n (by omega) (fun s hst => by rw [rx_rdc (stay s hst)]; exact c)
      obtain ⟨C, hC⟩ : ∃ C, C = B + 1089 * t := ⟨_, rfl⟩
      have t1' : t ≤ 940 := t1
      have tE := tE0 t t1'
      have tB : C ≤ 2 ^ 29 := by
        rw [hC]
        exact Nat.le_trans (Nat.add_le_add_left (Nat.mul_le_mul_left 1089 (Nat.le_succ_of_le t1')) B) hB1
      have bC : B ≤ C := by rw [hC]; exact Nat.le_add_right _ _
      obtain ⟨m1, m2⟩ := ri_mo hl hN hB2 hM ht t C hC tB
      have m3 : rx_src so go (rf_mo S t) := by
        have := rx_mi hN30 hM.1 hs (1089 * t)
        rw [rf_Sm] at this
        exact this
      have mo := rx_mono hN30 hM.1 0 t (Nat.zero_le _)
      have mo0 : rf_mo S 0 = S := rfl
      rw [mo0] at mo
      have p0 := (rx_potb hso hgo hM.1.2.1 hs).2
      have p1 := (rx_potb hso hgo m1.1.2.1 m3).2
      have has : mm_has (rf_mo S t) = mm_has S := by
        unfold mm_has
        rw [m1.1.2.2.1 1 (by decide), hM.1.2.2.1 1 (by decide)]
      rw [has] at p1
      have lt : rx_pot (rf_mo S t) + 1 ≤ rx_pot S := by
        have : ¬ (rv_m (rf_mo S t) = rv_m S ∧ rv_o (rf_mo S t) = rv_o S) := t2
        omega
      have i5' : C + 1089 * (E + 1) ≤ 2 ^ 29 := by
        rw [hC, Nat.add_assoc, ← Nat.mul_add]
        exact Nat.le_trans (Nat.add_le_add_left (Nat.mul_le_mul_left 1089 (tE)) B) hB
      have q1 : C = B0 + 1089 * (t0 + t) := by rw [hC, hB0, Nat.add_assoc, ← Nat.mul_add]
      have q2 : rf_mo S t = rf_mo Z (t0 + t) := by rw [hS0, rx_moa]
      clear hB hB1 hC tB hB0
      have i1 : rx_pot (rf_mo S t) ≤ p := by omega
      have i2 : E ≤ n - t := by omega
      obtain ⟨r1, t', r2, r3, r4⟩ := ih (n - t) C (rf_mo S t) (t0 + t) q1 q2 i1 i2 i5' m1 m2 m3
      rw [hrun]
      rw [rx_moa] at r2 r3 r4
      exact ⟨r1, t + t', r2, by omega, by omega⟩
