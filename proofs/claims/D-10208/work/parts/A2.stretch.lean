/-! ## a stretch without progress -/
theorem rs_A {N B n : Nat} {Z S : zz_T} (hN : N < B) (hB : B + n + 1 ≤ 2 ^ 29) (hB2 : 16 ≤ B) (h : ri_M N B Z S) (e1 : rv_m (rf_S S n) = rv_m S) (e2 : rv_o (rf_S S n) = rv_o S) : rf_A S B n := by
  have hN' : N < 2 ^ 30 := by omega
  have st := rp_stay hN' h.1 e1 e2
  have mi := rp_mi hN' h.1
  refine ⟨hB, hB2, h.2.1.1, h.2.1.2.1, h.2.1.2.2.1, h.2.2, fun k hk => (st k hk).2, fun k f hk hf => (st k hk).1 f hf, fun k p _ hp => ⟨((mi k).2.1.1 p hp).1, ((mi k).2.1.1 p hp).2.1⟩, fun p hp => ?_⟩
  obtain ⟨c, d, c1, c2, c3, c4, c5⟩ := h.1.2.1.2.1 (p % 8) (p / 8) (by omega) (by omega)
  have ep : p % 8 + 8 * (p / 8) = p := by omega
  rw [ep] at c1 c2
  exact ⟨⟨c, by omega, c1⟩, d, by omega, c2⟩
/-- no piece that is expected, no answer with news -/
theorem rs_np {S : zz_T} {B N n : Nat} (hA : rf_A S B N) (hn : n < N) (hK : rf_K S n = 1) :
    (rf_X S n 3 = 3 → rf_X S n 5 = rf_s S n → rf_X S n 6 ≠ rf_c (S 15 (rf_X S n 4 + 8 * rf_s S n))) ∧ (rf_X S n 3 = 4 → rf_X S n 5 = rf_s S n → rf_X S n 6 ≠ rf_c (S 14 (rf_s S n + 8 * rf_X S n 4)) + 1) := by
  obtain ⟨pb, pQ, p5, ph⟩ := (rf_main hA n (by omega)).1
  obtain ⟨hB, hB2, _, _, _, _, h38, hcf, h25, hca⟩ := hA
  obtain ⟨h1, h2, c⟩ := rf_K1 hK
  have e1 : rf_S S (n + 1) = mm_lst (n % 1089 - 1) (rf_S S n) := by
    rw [rf_S1]
    unfold rf_step
    rw [if_neg h1, if_pos h2]
  have hs : rf_s S n = rf_c (rf_S S n 34 (n % 1089 - 1)) := if_pos h2
  have hX : rf_X S n = rf_sl (rf_S S n) (n % 1089 - 1) := rfl
  have hi : n % 1089 - 1 < 1024 := by omega
  have hcf' : ∀ f, rf_cf f → rf_S S n f = S f := fun f hf => hcf n f (by omega) hf
  have hcf1 : ∀ f, rf_cf f → rf_S S (n + 1) f = S f := fun f hf => hcf (n + 1) f (by omega) hf
  have h25n := fun p hp => h25 n p (by omega) hp
  have h25m := fun p hp => h25 (n + 1) p (by omega) hp
  rw [hX, hs]
  generalize eT' : rf_S S (n + 1) = T' at *
  generalize eT : rf_S S n = T at *
  generalize ei : n % 1089 - 1 = i at *
  have e2 := (rf_lst (i := i) (T := T)).1 c
  obtain ⟨hsm, s33, s34, fb⟩ := pQ i hi c.1
  unfold mm_lst1 at e2
  generalize eU : zz_it (mm_rd1 i) 12 (zz_s T 32 i 0) = U at e2
  obtain ⟨hr, e33, e34, hUo⟩ := rf_rd hi c.1 (rf_Qq pQ) (show B + n ≤ 2 ^ 29 by omega) U eU.symm
  have eT2 : T' = mm_hear (rf_c (T 34 i)) (nI (rf_c (T 33 i))) U := by rw [e1, e2]
  obtain ⟨x3, x4, x5, x6, x7, x8, xt, xp⟩ := id fb
  obtain ⟨w1, w2, w3, w4, w5, w6, g0, g1, g2, g3, g4, g5⟩ := id hr
  have hcU : ∀ f, rf_cf f → U f = S f := fun f hf => (hUo f (by unfold rf_cf at hf; omega) (by unfold rf_cf at hf; omega)).trans (hcf' f hf)
  have k0 : ∀ j, j < 5 → rf_sl T i 3 ≠ j → ¬ U 43 0 = nI j := fun j hj hne z => hne ((nI_eq (by omega) (by omega)).1 (g0.symm.trans z))
  refine ⟨fun z3 z5 z6 => ?_, fun z3 z5 z6 => ?_⟩
  · obtain ⟨c15, hc15, e15⟩ := (hca (rf_sl T i 4 + 8 * rf_c (T 34 i)) (by omega)).2
    have hm : T' = mm_hearPiece (rf_c (T 34 i)) U := by
      rw [eT2]
      unfold mm_hear
      rw [if_neg (show ¬ U 43 0 = 0 from k0 0 (by omega) (by omega)), if_neg (show ¬ U 43 0 = 1 from k0 1 (by omega) (by omega)), if_neg (show ¬ U 43 0 = 2 from k0 2 (by omega) (by omega)), if_pos (show U 43 0 = 3 by rw [g0, z3]; rfl)]
    have e29 : U 29 (rf_sl T i 4 + 8 * rf_c (T 34 i)) = nI 0 := by
      rw [hUo 29 (by decide) (by decide)]
      exact (h25n _ (by omega)).2
    refine rf_np3 (c := c15) s34 x4 g1 (by rw [g2, z5]) (by rw [hcU 15 (by decide)]; exact e15) (by omega) e29 ?_ ?_ ⟨?_, ?_⟩
    · rw [← hm, hcf1 15 (by decide), hcU 15 (by decide)]
    · rw [← hm]
      exact (h25m _ (by omega)).2
    · rw [g3, hcU 15 (by decide), e15, z6, e15, rf_cn (by omega)]
    · rw [g4, e29, xp (by omega)]
  · obtain ⟨c14, hc14, e14⟩ := (hca (rf_c (T 34 i) + 8 * rf_sl T i 4) (by omega)).1
    have hm : T' = mm_hearAnswer (rf_c (T 34 i)) U := by
      rw [eT2]
      unfold mm_hear
      rw [if_neg (show ¬ U 43 0 = 0 from k0 0 (by omega) (by omega)), if_neg (show ¬ U 43 0 = 1 from k0 1 (by omega) (by omega)), if_neg (show ¬ U 43 0 = 2 from k0 2 (by omega) (by omega)), if_neg (show ¬ U 43 0 = 3 from k0 3 (by omega) (by omega))]
    have e14' : U 14 (rf_c (T 34 i) + 8 * rf_sl T i 4) = nI c14 := by rw [hcU 14 (by decide)]; exact e14
    rw [e14, rf_cn (by omega)] at z6
    refine rf_np4 (c := c14) s34 x4 g1 (by rw [g2, z5]) g3 (by rw [g4, xp (by omega)]) e14' ?_ ?_ ⟨?_, ?_, fun z => ?_⟩
    · rw [hUo 25 (by decide) (by decide)]
      exact (h25n _ (by omega)).1
    · rw [← hm, hcf1 14 (by decide), hcU 14 (by decide)]
    · rw [g3, e14', z6]
      intro z
      rw [Int32.lt_iff_toInt_lt, nI_toInt (by omega), nI_toInt (by omega)] at z
      omega
    · rw [g3, e14', z6, nI_1]
      exact Int32.le_refl _
    · have := z.1
      rw [g3, e14', z6] at this
      have := (nI_eq (by omega) (by omega)).1 this
      omega
/-- whatever the air was: behind a moment frames are due later -/
def rs_du (S : zz_T) (n : Nat) : Prop := ∀ i, i < 1024 → ¬ rf_S S n 32 i = 0 → ab_zn (rf_Z S) n + 1 ≤ rf_c (rf_S S n 35 i) ∨ (n % 1089 ≤ 1024 ∧ n % 1089 ≤ i + 1 ∧ (n % 1089 ≠ 0 ∨ n = 0))
theorem rs_duI {S : zz_T} {B N : Nat} (hA : rf_A S B N) : ∀ n, n ≤ N → rs_du S n := by
  intro n
  induction n with
  | zero => intro _ i hi hu; exact Or.inr ⟨by omega, by omega, Or.inr rfl⟩
  | succ n ih =>
    intro hn i hi hu
    have hlim := hA.1
    have hD := (rf_main hA n (by omega)).2 (by omega)
    have ihn := ih (by omega)
    obtain ⟨t, ht, e4, en⟩ := rf_nowS hA (show n ≤ N by omega)
    have hlt : n % 1089 < 1089 := Nat.mod_lt _ (by omega)
    by_cases h0 : n % 1089 = 0
    · exact Or.inr ⟨by omega, by omega, Or.inl (by omega)⟩
    · obtain ⟨V, m, ⟨hm, hT1⟩, ⟨j, hj, a1, a2, a3, a4, a5, a6⟩, v4, v5, vs, vk⟩ := hD.2.2 h0
      have hK0 : rf_K S n ≠ 0 := by
        unfold rf_K
        rw [if_neg h0]
        split
        · by_cases c : rf_hs (n % 1089 - 1) (rf_S S n)
          · rw [ab_ip c]; decide
          · rw [ab_in c]; decide
        · split <;> decide
      have hd : rf_a (rf_S S (n + 1)) 0 0 0 = rf_a (rf_S S n) 0 0 0 := by
        rw [hD.1]
        show (ab_do _ _ _ _ (rf_K S n) _ _ _ _).1 0 0 0 = _
        rw [ab_d0, if_neg hK0]
        rfl
      have hd' : ab_zn (rf_Z S) (n + 1) = ab_zn (rf_Z S) n := hd
      rw [hd']
      rcases a5 i hi with ⟨q, _, _, _, q4, _, _⟩ | ⟨_, q2⟩
      · refine Or.inl ?_
        rw [q4, v4, e4, nI_1, rf_cn (by omega), en]
        exact Nat.le_refl _
      · rcases vs i hi with ⟨_, _, z⟩ | z
        · rw [q2.1, z] at hu
          exact absurd rfl hu
        · rw [q2.1] at hu
          have huV := hu
          rw [z.1] at hu
          rw [q2.2.2.2.1, z.2.2.2.1]
          rcases ihn i hi hu with y | ⟨y1, y2, y3⟩
          · exact Or.inl y
          · by_cases e : i = n % 1089 - 1
            · refine Or.inl ?_
              have := (vk.1 y1 (by rw [← e]; exact huV)).2
              rw [← e, e4] at this
              obtain ⟨e35, b35⟩ := ((rf_main hA n (by omega)).1.2.1 i hi hu).1.2.2.1
              rw [e35, Int32.lt_iff_toInt_lt, nI_toInt (by omega), nI_toInt (by omega)] at this
              omega
            · exact Or.inr ⟨by omega, by omega, Or.inl (by omega)⟩
/-- TEN MOMENTS LATER the stretch has a proper start -/
theorem rs_s0 {N B n q M : Nat} {Z S : zz_T} (hA : rf_A S B M) (hd : rf_dd S) (hn : n = 1089 * q) (hq10 : 10 ≤ q) (hM : n ≤ M) (h : ri_M N (B + n) Z (rf_S S n)) : rf_s0 (rf_S S n) := by
  have hS := h.2.1.2.2.2.1
  have hlim := hA.1
  obtain ⟨t, ht, e4, en⟩ := rf_nowS hA hM
  obtain ⟨t0, ht0, e40, en0⟩ := rf_nowS hA (show 0 ≤ M by omega)
  have hq := rf_nowq hA n hM
  rw [if_pos (show n % 1089 = 0 by omega)] at hq
  have e10 : ab_zn (rf_Z S) n = ab_zn (rf_Z S) 0 + q := by omega
  refine ⟨hS.1.1, hS.1.2, fun i hi hu => ⟨hS.2 i hi hu, ?_⟩⟩
  have c4 : rf_c (rf_S S n 4 0) = t := by rw [e4, rf_cn (by omega)]
  have c40 : rf_c (S 4 0) = t0 := by
    have : S 4 0 = nI t0 := e40
    rw [this, rf_cn (by omega)]
  have lo : ab_zn (rf_Z S) n + 1 ≤ rf_c (rf_S S n 35 i) := by
    rcases rs_duI hA n hM i hi hu with z | ⟨_, z2, z3 | z3⟩
    · exact z
    · omega
    · omega
  rw [c4]
  rcases rf_prov hA n hM i hi hu with ⟨j, hj, ho⟩ | z
  · have w0 := (rf_o0 ho).1
    have e0 : rf_sl (rf_S S n) i 0 = rf_c (rf_S S n 35 i) - 1 := rfl
    have j0 := rf_nowq hA j (by omega)
    have hz : rf_sl (rf_S S n) i 0 = ab_zn (rf_Z S) j := w0
    have : (if j % 1089 = 0 then 0 else 1) ≤ 1 := by split <;> omega
    have j1 : j / 1089 + 1 ≤ q := by omega
    omega
  · exfalso
    have hu' : ¬ S 32 i = 0 := by rw [← z.1]; exact hu
    have := hd i hi hu'
    rw [z.2.2.2.1] at lo
    omega
