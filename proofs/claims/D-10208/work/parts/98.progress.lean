/-! ## progress, step by step -/
/-- the piece of a waiting message is taken over -/
def rp_A (S T : zz_T) : Prop := ∃ f g m, f < 8 ∧ g < 8 ∧ m < 16 ∧ mm_wt S (nI f) (nI g) m ∧ (∀ q, q = 1 ∨ q = 6 ∨ q = 8 ∨ q = 9 ∨ q = 10 ∨ q = 14 → T q = S q) ∧ (∀ q, q < 16 → (mm_isT T q ↔ mm_isT S q ∨ q = m)) ∧
  S 14 (f + 8 * g) = S 15 (f + 8 * g) ∧ (∃ d, d + 1 < 2 ^ 30 ∧ S 15 (f + 8 * g) = nI d ∧ T 15 (f + 8 * g) = nI (d + 1)) ∧ ∀ q, q ≠ f + 8 * g → T 15 q = S 15 q
/-- a message is confirmed -/
def rp_B (S T : zz_T) : Prop := ∃ f g, f < 8 ∧ g < 8 ∧ (∀ q, q = 1 ∨ q = 2 ∨ q = 6 ∨ q = 8 ∨ q = 9 ∨ q = 10 ∨ q = 15 → T q = S q) ∧ ¬ S 14 (f + 8 * g) = S 15 (f + 8 * g) ∧ T 14 (f + 8 * g) = S 15 (f + 8 * g) ∧ ∀ q, q ≠ f + 8 * g → T 14 q = S 14 q
def rp_S (S T : zz_T) : Prop := ∀ f, rf_cf f → T f = S f
theorem rp_q {S T : zz_T} (h : ∀ f, zz_qf f → T f = S f) : rp_S S T := fun f hf => h f (by unfold rf_cf at hf; unfold zz_qf; omega)
theorem rp_hearPiece {N : Nat} {Z S : zz_T} {s : Nat} (hN : N < 2 ^ 30) (hs : s < 8) (h0 : S 43 0 = 3) (k : zz_ok S s (S 43)) (h : zz_J N Z S) : rp_S S (mm_hearPiece s S) ∨ rp_A S (mm_hearPiece s S) := by
  obtain ⟨f, g, hf, hg, e1, e2, h3, _⟩ := id k
  unfold mm_hearPiece
  split
  · next eg =>
    have hgs : g = s := (nI_eq (by omega) (by omega)).1 (e2.symm.trans eg)
    subst hgs
    rw [zz_cl (show f < 2 ^ 31 by omega) e1]
    obtain ⟨c0, c, d, l, q1, q2, q3, q4, qd, q5, q6, q7⟩ := h3 h0
    have P : ∀ U : zz_T, ∀ q, zz_qf q → mm_hp92 g f (f + 8 * g) U q = U q := by
      intro U q hq
      unfold mm_hp92
      rw [zz_passq (Or.inl hq), ro_anW (by unfold zz_qf at hq; omega)]
    unfold mm_hpT
    split
    · next cc =>
      have ec : c = d := (nI_eq (by omega) (by omega)).1 (q1.symm.trans (cc.1.trans q5))
      obtain ⟨y0, y1, m, y2, y3, y4⟩ := q7 ec
      rw [if_pos y1]
      have hfw : mm_fw (mm_hpK (f + 8 * g) S) (nI f) (nI g) = some m := by
        have kf : ∀ q, q ≠ 29 → q ≠ 30 → q ≠ 31 → mm_hpK (f + 8 * g) S q = S q := by
          intro q z1 z2 z3
          unfold mm_hpK
          rw [zz_sn z1, zz_keepo z2 z3]
        rw [zz_fwc (kf 1 (by decide) (by decide) (by decide)) (kf 2 (by decide) (by decide) (by decide)) (kf 8 (by decide) (by decide) (by decide)) (kf 9 (by decide) (by decide) (by decide)) (kf 10 (by decide) (by decide) (by decide))]
        exact y2
      have he : mm_acc f g (mm_hpK (f + 8 * g) S) = mm_acM (f + 8 * g) m (mm_hpK (f + 8 * g) S) := by
        unfold mm_acc
        rw [hfw]
      obtain ⟨hB, ⟨K1, K2, _⟩, _⟩ := h
      obtain ⟨F, F2, F11, F15, _⟩ := zz_acF q3 q4 _ he (K1 _ (show f + 8 * g < 64 by omega)).2.2
      generalize mm_acc f g (mm_hpK (f + 8 * g) S) = T at F F2 F11 F15
      obtain ⟨hm16, hw, _⟩ := zz_fws m y2
      have hdN : d + 1 < 2 ^ 30 := by
        obtain ⟨c', d', z1, z2, z3, z4, z5⟩ := K2 f g hf hg
        have ee : d' = d := (nI_eq (by omega) (by omega)).1 (z2.symm.trans q5)
        have hc1 : zz_cnt (mm_wt S (nI f) (nI g)) 16 ≠ 0 := fun z => zz_cnt0 16 z m hm16 hw
        omega
      refine Or.inr ⟨f, g, m, hf, hg, hm16, hw, fun q hq => ?_, fun q hq => ?_, ?_, ⟨d, hdN, q5, ?_⟩, fun q hq => ?_⟩
      · rw [P T q (by unfold zz_qf; omega)]
        exact F q (by omega) (by omega) (by omega) (by omega) (by omega) (by omega) (by omega)
      · unfold mm_isT
        rw [P T 2 (by decide)]
        show zz_b (T 2 0) q ↔ zz_b (S 2 0) q ∨ q = m
        rw [F2, pk_us, zb_bor (by omega), zb_b1 (by omega) (by omega)]
      · rw [y0, q5]
      · rw [P T 15 (by decide), F15, pk_us, q5, nI_1]
      · rw [P T 15 (by decide), F15, pk_un hq]
    · exact Or.inl (rp_q (P S))
  · exact Or.inl (rp_q (fun q hq => zz_carryq hq))
theorem rp_hearAnswer {N : Nat} {Z S : zz_T} {s : Nat} (hN : N < 2 ^ 30) (hs : s < 8) (h0 : ¬ S 43 0 = 0) (h1 : ¬ S 43 0 = 1) (h2 : ¬ S 43 0 = 2) (h3 : ¬ S 43 0 = 3) (k : zz_ok S s (S 43)) (h : zz_J N Z S) : rp_S S (mm_hearAnswer s S) ∨ rp_B S (mm_hearAnswer s S) := by
  obtain ⟨f, g, hf, hg, e1, e2, _, h4⟩ := id k
  unfold mm_hearAnswer
  split
  · next eg =>
    have hgs : g = s := (nI_eq (by omega) (by omega)).1 (e2.symm.trans eg)
    subst hgs
    rw [zz_cl (show f < 2 ^ 31 by omega) e1]
    split
    · next cc =>
      obtain ⟨c, d, q1, q2, qd, q3, q4⟩ := h4 h0 h1 h2 h3
      obtain ⟨hB, ⟨K1, K2, K3⟩, hQ⟩ := h
      obtain ⟨c', d', y1, y2, y3, y4, y5⟩ := K2 g f hg hf
      have ed : d' = d := (nI_eq (by omega) (by omega)).1 (y2.symm.trans q3)
      have hge : c' ≤ c := by
        have := cc.1
        rw [q1, y1] at this
        exact Nat.le_of_not_lt (fun z => this (nI_lt z (by omega)))
      have hne : c ≠ c' := by
        intro e
        refine cc.2.2 ⟨?_, ?_⟩
        · rw [q1, y1, e]
        · rw [q2, (K1 _ (show g + 8 * f < 64 by omega)).1]
          rfl
      have F : ∀ q, q ≠ 14 → q ≠ 25 → q ≠ 27 → q ≠ 28 → mm_anS (g + 8 * f) S q = S q := by
        intro q z1 z2 z3 z4
        unfold mm_anS
        rw [zz_sn z3, zz_sn z4, zz_sn z2, zz_sn z1]
      have F14 : ∀ q, mm_anS (g + 8 * f) S 14 q = if q = g + 8 * f then nI c else S 14 q := by
        intro q
        unfold mm_anS
        rw [zz_sn (by decide), zz_sn (by decide), zz_sn (by decide), zz_se, q1]
        by_cases e : q = g + 8 * f
        · rw [e, pk_us, if_pos rfl]
        · rw [pk_un e, if_neg e]
      have ecd : c = d := by omega
      refine Or.inr ⟨g, f, hg, hf, fun q hq => F q (by omega) (by omega) (by omega) (by omega), ?_, ?_, fun q hq => ?_⟩
      · rw [y1, q3]
        intro z
        have := (nI_eq (by omega) (by omega)).1 z
        omega
      · rw [F14, if_pos rfl, q3, ecd]
      · rw [F14, if_neg hq]
    · exact Or.inl (fun _ _ => rfl)
  · exact Or.inl (rp_q (fun q hq => zz_carryq hq))
/-- hearing: nothing moves, or a message is taken over, or confirmed -/
theorem rp_hear {N : Nat} {Z S : zz_T} {s : Nat} {b : Int32} (hN : N < 2 ^ 30) (hs : s < 8) (k : zz_ok S s (S 43)) (h : zz_J N Z S) : rp_S S (mm_hear s b S) ∨ rp_A S (mm_hear s b S) ∨ rp_B S (mm_hear s b S) := by
  unfold mm_hear
  split
  · exact Or.inl (rp_q (fun q hq => zz_hearAskq hq))
  · next h0 =>
    split
    · exact Or.inl (rp_q (fun q hq => zz_hearTellq hq))
    · next h1 =>
      split
      · exact Or.inl (rp_q (fun q hq => zz_hearLossq hq))
      · next h2 =>
        split
        · next h3 =>
          rcases rp_hearPiece hN hs h3 k h with z | z
          · exact Or.inl z
          · exact Or.inr (Or.inl z)
        · next h3 =>
          rcases rp_hearAnswer hN hs h0 h1 h2 h3 k h with z | z
          · exact Or.inl z
          · exact Or.inr (Or.inr z)
theorem rp_Sc {S U T : zz_T} (h : ∀ f, rf_cf f → U f = S f) (k : rp_S U T ∨ rp_A U T ∨ rp_B U T) : rp_S S T ∨ rp_A S T ∨ rp_B S T := by
  rcases k with k | ⟨f, g, m, k1, k2, k3, k4, k5, k6, k7, ⟨d, k8, k9, k10⟩, k11⟩ | ⟨f, g, k1, k2, k3, k4, k5, k6⟩
  · exact Or.inl (fun f hf => (k f hf).trans (h f hf))
  · refine Or.inr (Or.inl ⟨f, g, m, k1, k2, k3, ?_, fun q hq => (k5 q hq).trans (h q (by omega)), fun q hq => ?_, ?_, ⟨d, k8, ?_, k10⟩, fun q hq => ?_⟩)
    · exact (zz_wtc (h 1 (by decide)) (h 2 (by decide)) (h 9 (by decide)) (h 10 (by decide)) _ _ m).1 k4
    · rw [k6 q hq]
      unfold mm_isT
      rw [h 2 (by decide)]
    · rw [← h 14 (by decide), ← h 15 (by decide)]
      exact k7
    · rw [← h 15 (by decide)]
      exact k9
    · rw [← h 15 (by decide)]
      exact k11 q hq
  · refine Or.inr (Or.inr ⟨f, g, k1, k2, fun q hq => (k3 q hq).trans (h q (by omega)), ?_, ?_, fun q hq => ?_⟩)
    · rw [← h 14 (by decide), ← h 15 (by decide)]
      exact k4
    · rw [← h 15 (by decide)]
      exact k5
    · rw [← h 14 (by decide)]
      exact k6 q hq
