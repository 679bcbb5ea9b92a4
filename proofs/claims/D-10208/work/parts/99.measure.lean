/-! ## the measure of progress -/
theorem rp_lst {N i : Nat} {Z T : zz_T} (hN : N < 2 ^ 30) (hi : i < 1024) (h : zz_J N Z T) : rp_S T (mm_lst i T) ∨ rp_A T (mm_lst i T) ∨ rp_B T (mm_lst i T) := by
  unfold mm_lst
  split
  · exact Or.inl (fun _ _ => rfl)
  · next hu =>
    split
    · exact Or.inl (fun _ _ => rfl)
    · split
      · obtain ⟨s, r, hs, hr, e1, e2, e3⟩ := h.1.2.2.2 i hi hu
        rw [e1, e2, nI_clamp (show s < 2 ^ 31 by omega), nI_clamp (show r < 2 ^ 31 by omega)]
        unfold mm_lst1
        have hk := zz_rdk (i := i) (S := zz_s T 32 i 0)
        have hq : ∀ f, f ≠ 43 → f ≠ 32 → zz_it (mm_rd1 i) 12 (zz_s T 32 i 0) f = T f := fun f z1 z2 => (hk.1 f z1).trans (zz_sn z2)
        have hJ : zz_J N Z (zz_it (mm_rd1 i) 12 (zz_s T 32 i 0)) :=
          zz_Jq (S := zz_s T 32 i 0) (fun f hf => hk.1 f (by unfold zz_qf at hf; omega)) (zz_Bof (S := zz_s T 32 i 0) (fun f hf => hk.1 f (by unfold zz_qf at hf; omega)) (hk.1 5 (by decide)) (zz_18of (hk.1 18 (by decide))) (zz_24of (hk.1 24 (by decide))) (hk.1 32 (by decide)) (hk.1 33 (by decide)) (hk.1 34 (by decide)) (hk.1 36 (by decide)) (zz_B32 h.1)) (zz_J32 h)
        have hk2 : zz_ok (zz_it (mm_rd1 i) 12 (zz_s T 32 i 0)) r (zz_it (mm_rd1 i) 12 (zz_s T 32 i 0) 43) := by
          refine zz_okc (S := T) (fun f hf => hq f (by unfold zz_qf at hf; omega) (by unfold zz_qf at hf; omega)) (zz_okw (fun k hk' => ?_) e3)
          rw [hk.2 k hk', zz_sn (by decide)]
        exact rp_Sc (fun f hf => hq f (by unfold rf_cf at hf; omega) (by unfold rf_cf at hf; omega)) (rp_hear hN hr hk2 hJ)
      · exact Or.inl (fun f hf => zz_sn (by unfold rf_cf at hf; omega))
theorem rp_u142 {a b f : Nat} {m : Option Nat} {T : zz_T} (h : zz_qf f) : mm_u142 a b m T f = T f := by
  unfold mm_u142
  split
  · unfold mm_u187
    rw [zz_passq (Or.inl h), zz_sn (by unfold zz_qf at h; omega), zz_sn (by unfold zz_qf at h; omega), zz_uWo (by unfold zz_qf at h; omega), zz_hwq (Or.inl h)]
  · rw [zz_askq h, zz_sn (by unfold zz_qf at h; omega), zz_hwq (Or.inl h)]
theorem rp_u108 {a b f : Nat} {m : Option Nat} {z0 : Int32} {T : zz_T} (h : zz_qf f) : mm_u108 a b m z0 T f = T f := by
  have e : mm_uA (a + 8 * b) z0 T f = T f := zz_sn (by unfold zz_qf at h; omega)
  unfold mm_u108
  split
  · rw [rp_u142 h, e]
  · split
    · rw [rp_u142 h, zz_sn (by unfold zz_qf at h; omega), zz_giveq (Or.inl h), zz_hwq (Or.inl h), e]
    · rw [rp_u142 h, zz_hwq (Or.inl h), e]
theorem rp_urge {a b f : Nat} {T : zz_T} (h : zz_qf f) : mm_urge a b T f = T f := by
  unfold mm_urge
  split
  · unfold mm_u46
    split
    · unfold mm_u82
      split
      · exact rp_u108 h
      · exact rp_u108 h
    · rfl
  · rfl
theorem rp_ub {a b : Nat} {T : zz_T} : rp_S T (mm_ub a b T) := by
  refine rp_q (fun f hf => ?_)
  unfold mm_ub
  split
  · rfl
  · exact rp_urge hf
noncomputable def rv_m (T : zz_T) : Nat := 2 * zz_cnt (mm_isT T) 16 + zz_cnt (fun p => T 14 p = T 15 p) 64
noncomputable def rv_o (T : zz_T) : Nat := zz_cnt (fun i => T 38 i = 0) 16
theorem rv_c1 {P Q : Nat → Prop} {j : Nat} : ∀ n, (∀ k, k < n → k ≠ j → P k → Q k) → zz_cnt P n ≤ zz_cnt Q n + 1 ∧ (n ≤ j → zz_cnt P n ≤ zz_cnt Q n) := by
  intro n
  induction n with
  | zero => exact fun _ => ⟨Nat.zero_le _, fun _ => Nat.le_refl _⟩
  | succ n ih =>
    intro h
    obtain ⟨i1, i2⟩ := ih (fun k hk => h k (by omega))
    unfold zz_cnt
    have one : ∀ R : Nat → Prop, (@ite Nat (R n) (Classical.propDecidable _) 1 0) ≤ 1 := fun R => by split <;> omega
    by_cases e : n = j
    · have := i2 (by omega)
      have := one P
      exact ⟨by omega, fun z => by omega⟩
    · have q : (@ite Nat (P n) (Classical.propDecidable _) 1 0) ≤ (@ite Nat (Q n) (Classical.propDecidable _) 1 0) := by
        by_cases c : P n
        · rw [if_pos c, if_pos (h n (by omega) e c)]
          exact Nat.le_refl _
        · rw [if_neg c]
          exact Nat.zero_le _
      exact ⟨by omega, fun z => by have := i2 (by omega); omega⟩
theorem rv_O {S T : zz_T} (h : ro_O S T) : rv_o S ≤ rv_o T ∧ (rv_o T = rv_o S → T 38 = S 38) := by
  have m : ∀ k, k < 16 → S 38 k = 0 → T 38 k = 0 := fun k _ hk => by
    rcases h k with z | z
    · rw [z]; exact hk
    · exact z.2.2
  refine ⟨zz_cntm 16 m, fun e => funext (fun i => ?_)⟩
  rcases h i with z | ⟨z0, z1, z2⟩
  · exact z
  · have := zz_cnts (P := fun i => S 38 i = 0) (Q := fun i => T 38 i = 0) 16 m i z0 z2 z1
    unfold rv_o at e
    omega
theorem rv_S {S T : zz_T} (h : rp_S S T) : rv_m T = rv_m S := by
  unfold rv_m mm_isT
  rw [h 2 (by decide), h 14 (by decide), h 15 (by decide)]
theorem rv_A {S T : zz_T} (h : rp_A S T) : rv_m S + 1 ≤ rv_m T := by
  obtain ⟨f, g, m, hf, hg, hm, hw, hF, hT, e14, ⟨d, hd, e15, e15'⟩, ho⟩ := h
  have a1 := zz_cnts (P := mm_isT S) (Q := mm_isT T) 16 (fun k hk z => (hT k hk).2 (Or.inl z)) m hm ((hT m hm).2 (Or.inr rfl)) hw.2.1
  have a2 := (rv_c1 (P := fun p => S 14 p = S 15 p) (Q := fun p => T 14 p = T 15 p) (j := f + 8 * g) 64 (fun k hk hne z => by
    show T 14 k = T 15 k
    rw [hF 14 (by omega), ho k hne]
    exact z)).1
  unfold rv_m
  omega
theorem rv_B {S T : zz_T} (h : rp_B S T) : rv_m S + 1 ≤ rv_m T := by
  obtain ⟨f, g, hf, hg, hF, hn, e14, ho⟩ := h
  have a1 : mm_isT T = mm_isT S := by
    unfold mm_isT
    rw [hF 2 (by omega)]
  have a2 := zz_cnts (P := fun p => S 14 p = S 15 p) (Q := fun p => T 14 p = T 15 p) 64 (fun k hk z => by
    show T 14 k = T 15 k
    by_cases e : k = f + 8 * g
    · rw [e, e14, hF 15 (by omega)]
    · rw [ho k e, hF 15 (by omega)]
      exact z) (f + 8 * g) (by omega) (by show T 14 _ = T 15 _; rw [e14, hF 15 (by omega)]) hn
  unfold rv_m
  rw [a1]
  omega
/-- one micro step: the measure grows, or nothing has moved -/
def rp_E (S T : zz_T) : Prop := rv_m S ≤ rv_m T ∧ rv_o S ≤ rv_o T ∧ (rv_m T = rv_m S → rp_S S T) ∧ (rv_o T = rv_o S → T 38 = S 38)
theorem rp_step {N k : Nat} {Z T : zz_T} (hN : N < 2 ^ 30) (hk : k < 1089) (h : zz_J N Z T) : rp_E T (rf_step k T) ∧ zz_J N Z (rf_step k T) := by
  unfold rf_step
  split
  · refine ⟨⟨Nat.le_of_eq (rv_S ?_).symm, Nat.le_of_eq ?_, fun _ => ?_, fun _ => zz_sn (by decide)⟩, zz_Js (by decide) h⟩
    · exact fun f hf => zz_sn (by unfold rf_cf at hf; omega)
    · unfold rv_o
      rw [show mm_tick T 38 = T 38 from zz_sn (by decide)]
    · exact fun f hf => zz_sn (by unfold rf_cf at hf; omega)
  · split
    · have o := rv_O (ro_lst (i := k - 1) (T := T))
      refine ⟨?_, zz_Jlst hN (by omega) h⟩
      rcases rp_lst hN (show k - 1 < 1024 by omega) h with z | z | z
      · exact ⟨Nat.le_of_eq (rv_S z).symm, o.1, fun _ => z, o.2⟩
      · have := rv_A z
        exact ⟨by omega, o.1, fun e => by omega, o.2⟩
      · have := rv_B z
        exact ⟨by omega, o.1, fun e => by omega, o.2⟩
    · have o := rv_O (ro_ub (a := (k - 1025) / 8) (b := (k - 1025) % 8) (S := T))
      refine ⟨⟨Nat.le_of_eq (rv_S rp_ub).symm, o.1, fun _ => rp_ub, o.2⟩, zz_Jub hN (by omega) (by omega) h⟩
/-- along the micro run -/
theorem rp_mi {N : Nat} {Z S : zz_T} (hN : N < 2 ^ 30) (h : zz_J N Z S) : ∀ n, zz_J N Z (rf_S S n) := by
  intro n
  induction n with
  | zero => exact h
  | succ n ih =>
    rw [rf_S1]
    exact (rp_step hN (Nat.mod_lt _ (by decide)) ih).2
theorem rp_mono {N : Nat} {Z S : zz_T} (hN : N < 2 ^ 30) (h : zz_J N Z S) : ∀ n m, n ≤ m → rv_m (rf_S S n) ≤ rv_m (rf_S S m) ∧ rv_o (rf_S S n) ≤ rv_o (rf_S S m) := by
  intro n m hnm
  induction m with
  | zero => rw [show n = 0 by omega]; exact ⟨Nat.le_refl _, Nat.le_refl _⟩
  | succ m ih =>
    by_cases e : n = m + 1
    · rw [e]; exact ⟨Nat.le_refl _, Nat.le_refl _⟩
    · obtain ⟨i1, i2⟩ := ih (by omega)
      have := (rp_step (k := m % 1089) hN (Nat.mod_lt _ (by decide)) (rp_mi hN h m)).1
      rw [rf_S1]
      exact ⟨Nat.le_trans i1 this.1, Nat.le_trans i2 this.2.1⟩
/-- while the measure stays, nothing moves -/
theorem rp_stay {N n : Nat} {Z S : zz_T} (hN : N < 2 ^ 30) (h : zz_J N Z S) (e : rv_m (rf_S S n) = rv_m S) (e2 : rv_o (rf_S S n) = rv_o S) : ∀ k, k ≤ n → rp_S S (rf_S S k) ∧ rf_S S k 38 = S 38 := by
  intro k
  induction k with
  | zero => exact fun _ => ⟨fun _ _ => rfl, rfl⟩
  | succ k ih =>
    intro hk
    obtain ⟨i1, i2⟩ := ih (by omega)
    have st := (rp_step (k := k % 1089) hN (Nat.mod_lt _ (by decide)) (rp_mi hN h k)).1
    have m1 := rp_mono hN h (k + 1) n hk
    have m0 := rp_mono hN h 0 k (by omega)
    have m3 := rp_mono hN h k (k + 1) (by omega)
    have z0 : rf_S S 0 = S := rfl
    rw [z0] at m0
    rw [rf_S1] at m1 m3 ⊢
    have q1 := st.2.2.1 (by omega)
    have q2 := st.2.2.2 (by omega)
    exact ⟨fun f hf => (q1 f hf).trans (i1 f hf), q2.trans i2⟩
