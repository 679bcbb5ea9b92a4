/-! ## the run of the machine -/
def rf_h (D : ab_D) : Prop := ∀ a b, D 7 a b ≠ 0 → D 9 a b < 2
theorem rf_hdo {u lv : Nat → Nat → Prop} {cf ac : Nat → Nat → Nat} {k a b : Nat} {x : ab_F} {D : ab_D} (h : rf_h D) : rf_h (ab_do u lv cf ac k a b x D).1 := by
  intro i j h7
  rcases ab_dt (u := u) (lv := lv) (cf := cf) (ac := ac) (k := k) (a := a) (b := b) (i := i) (j := j) (x := x) (D := D) with z | ⟨_, e1, e2, _, _, ⟨z, z2, _, _, _, _, _, y9, _⟩ | ⟨_, y7, _⟩⟩
  · rw [z.2.1] at h7
    rw [z.2.2.2]
    exact h i j h7
  · rw [e1, e2, y9]
    exact z2
  · rw [e1, e2] at h7
    exact absurd y7 h7
/-- the stretch: N micro steps from S in which no order is used up and no message moves; all numbers of S are below B -/
def rf_A (S : zz_T) (B N : Nat) : Prop := B + N + 1 ≤ 2 ^ 29 ∧ 16 ≤ B ∧ rf_b B S ∧ rf_Q B S ∧ zz_5 S ∧ rf_h (rf_a S) ∧ (∀ n, n ≤ N → rf_S S n 38 = S 38) ∧ (∀ n f, n ≤ N → rf_cf f → rf_S S n f = S f) ∧
  (∀ n p, n ≤ N → p < 64 → rf_S S n 25 p = nI 0 ∧ rf_S S n 29 p = nI 0) ∧ (∀ p, p < 64 → (∃ c, c < B ∧ S 14 p = nI c) ∧ ∃ c, c < B ∧ S 15 p = nI c)
/-- what holds at micro step n -/
def rf_P (S : zz_T) (B n : Nat) : Prop := rf_b (B + n) (rf_S S n) ∧ rf_Q (B + n) (rf_S S n) ∧ zz_5 (rf_S S n) ∧ rf_h (rf_a (rf_S S n))
/-- what step n does -/
def rf_D (S : zz_T) (n : Nat) : Prop := rf_a (rf_S S (n + 1)) = (ab_zY (rf_Z S) n).1 ∧
  (n % 1089 = 0 → (∀ i, i < 1024 → rf_ss (rf_S S n) (rf_S S (n + 1)) i) ∧ rf_S S (n + 1) 5 = rf_S S n 5 ∧ ∀ w, ¬ ab_zO (rf_Z S) n w) ∧
  (n % 1089 ≠ 0 → ∃ V m, (m ≤ 24 ∧ rf_t1 (ab_zO (rf_Z S) n) m) ∧ rf_rg V (rf_S S (n + 1)) m (ab_zO (rf_Z S) n) ∧ V 4 = rf_S S n 4 ∧ V 5 = rf_S S n 5 ∧ (∀ i, i < 1024 → (i = n % 1089 - 1 ∧ n % 1089 ≤ 1024 ∧ V 32 i = 0) ∨ rf_ss (rf_S S n) V i) ∧
    (n % 1089 ≤ 1024 → ¬ V 32 (n % 1089 - 1) = 0 → rf_K S n ≠ 1 ∧ rf_S S n 4 0 < rf_S S n 35 (n % 1089 - 1)) ∧ (n % 1089 ≤ 1024 → rf_S S n 4 0 < rf_S S n 35 (n % 1089 - 1) → rf_ss (rf_S S n) V (n % 1089 - 1)))
theorem rf_tickD {S : zz_T} {B N n : Nat} (hA : rf_A S B N) (hn : n < N) (hP : rf_P S B n) (h0 : n % 1089 = 0) : rf_D S n ∧ rf_P S B (n + 1) := by
  obtain ⟨hB, hB2, _, _, _, _, h38, hcf, h25, hca⟩ := hA
  obtain ⟨pb, pQ, p5, ph⟩ := hP
  have e1 : rf_S S (n + 1) = mm_tick (rf_S S n) := by
    rw [rf_S1, h0]
    unfold rf_step
    rw [if_pos rfl]
  have hK : rf_K S n = 0 := if_pos h0
  have hY : ab_zY (rf_Z S) n = ab_nil (ab_w (rf_a (rf_S S n)) 0 0 0 (rf_a (rf_S S n) 0 0 0 + 1)) := by
    show ab_do _ _ _ _ (rf_K S n) _ _ _ _ = _
    rw [hK]
    exact ab_do0
  obtain ⟨t, ht, e4⟩ := pb.1
  have eD : rf_a (rf_S S (n + 1)) = (ab_zY (rf_Z S) n).1 := by
    rw [e1, hY]
    unfold mm_tick
    rw [rf_4, e4, nI_1, rf_cn (by omega), rf_0r, e4, rf_cn (by omega)]
    rfl
  have so : ∀ f, f ≠ 4 → rf_S S (n + 1) f = rf_S S n f := fun f hf => by
    rw [e1]
    unfold mm_tick
    exact zz_sn hf
  refine ⟨⟨eD, fun _ => ⟨fun i _ => ⟨by rw [so 32 (by decide)], by rw [so 33 (by decide)], by rw [so 34 (by decide)], by rw [so 35 (by decide)], fun q _ => by rw [so 36 (by decide)]⟩, so 5 (by decide), fun w hw => ?_⟩, fun z => absurd h0 z⟩, ?_, ?_, ?_, ?_⟩
  · unfold ab_zO at hw
    rw [hY] at hw
    exact hw
  · rw [e1]
    unfold mm_tick
    exact rf_b4 rfl ⟨t + 1, by omega, by rw [e4, nI_1]⟩ (rf_bm pb (by omega))
  · exact rf_Qm (rf_Qc (fun f hf => so f (by omega)) pQ) (by omega)
  · exact zz_5of (so 5 (by decide)) p5
  · rw [eD]
    exact rf_hdo ph
theorem rf_noU {Z : ab_Z} {n : Nat} {w : ab_F} (hK : ab_zK Z n = 2) (h : ab_zO Z n w) : w 3 ≠ 1 := by
  intro h3
  unfold ab_zO ab_zY at h
  rw [hK] at h
  rcases (ab_d1 h (by omega)).2.2.2 with ⟨e, _⟩ | ⟨_, _, _, _, y⟩
  · omega
  · rcases y with ⟨e, _⟩ | ⟨_, _, e, _⟩
    · omega
    · omega
theorem rf_urgeD {S : zz_T} {B N n : Nat} (hA : rf_A S B N) (hn : n < N) (hP : rf_P S B n) (h0 : 1024 < n % 1089) : rf_D S n ∧ rf_P S B (n + 1) := by
  obtain ⟨hB, hB2, _, _, _, _, h38, hcf, h25, hca⟩ := hA
  obtain ⟨pb, pQ, p5, ph⟩ := hP
  have hlt : n % 1089 < 1089 := Nat.mod_lt _ (by omega)
  have e1 : rf_S S (n + 1) = mm_ub ((n % 1089 - 1025) / 8) ((n % 1089 - 1025) % 8) (rf_S S n) := by
    rw [rf_S1]
    unfold rf_step
    rw [if_neg (by omega), if_neg (by omega)]
  have hs : rf_s S n = (n % 1089 - 1025) / 8 := if_neg (by omega)
  have hp : rf_p S n = (n % 1089 - 1025) % 8 := if_neg (by omega)
  have ha : (n % 1089 - 1025) / 8 < 8 := by omega
  have hb : (n % 1089 - 1025) % 8 < 8 := by omega
  by_cases c : (n % 1089 - 1025) / 8 = (n % 1089 - 1025) % 8
  · have hK : rf_K S n = 3 := by
      unfold rf_K
      rw [if_neg (by omega), if_neg (by omega), if_pos c]
    have hY : ab_zY (rf_Z S) n = ab_nil (rf_a (rf_S S n)) := by
      show ab_do _ _ _ _ (rf_K S n) _ _ _ _ = _
      rw [hK]
      exact ab_do3 (by omega)
    have e2 : rf_S S (n + 1) = rf_S S n := by
      rw [e1]
      unfold mm_ub
      rw [if_pos c]
    refine ⟨⟨by rw [e2, hY]; rfl, fun z => by omega, fun _ => ⟨rf_S S n, 0, ⟨by omega, fun w hw _ => absurd hw (by unfold ab_zO; rw [hY]; exact fun z => z)⟩, ?_, rfl, rfl, fun i _ => Or.inr ⟨rfl, rfl, rfl, rfl, fun _ _ => rfl⟩, fun z => by omega, fun z => by omega⟩⟩, ?_, ?_, ?_, ?_⟩
    · rw [e2]
      refine rf_rgw (rf_rg0 p5 rfl rfl (fun f _ => rfl)) (fun w => ?_)
      unfold ab_zO
      rw [hY]
      exact Iff.rfl
    · rw [e2]; exact rf_bm pb (by omega)
    · rw [e2]; exact rf_Qm pQ (by omega)
    · rw [e2]; exact p5
    · rw [e2]; exact ph
  · have hK : rf_K S n = 2 := by
      unfold rf_K
      rw [if_neg (by omega), if_neg (by omega), if_neg c]
    have e2 : rf_S S (n + 1) = mm_urge ((n % 1089 - 1025) / 8) ((n % 1089 - 1025) % 8) (rf_S S n) := by
      rw [e1]
      unfold mm_ub
      rw [if_neg c]
    have hY : ab_zY (rf_Z S) n = ab_u (rf_u S) (rf_l S) (fun a b => rf_c (S 14 (a + 8 * b))) ((n % 1089 - 1025) / 8) ((n % 1089 - 1025) % 8) (rf_a (rf_S S n)) := by
      show ab_do _ _ _ _ (rf_K S n) (rf_s S n) (rf_p S n) _ _ = _
      rw [hK, hs, hp]
      exact ab_do2
    generalize ea : (n % 1089 - 1025) / 8 = a at *
    generalize eb : (n % 1089 - 1025) % 8 = b at *
    have hk := rf_bk pb (by omega)
    have hcf' : ∀ f, rf_cf f → rf_S S n f = S f := fun f hf => hcf n f (by omega) hf
    have eu : rf_u (rf_S S n) = rf_u S := rf_uc (hcf' 6 (by decide))
    have el : rf_l (rf_S S n) = rf_l S := rf_lc hcf'
    have h27 : rf_S S n 28 (a + 8 * b) = nI 1 → ∃ m, m < 2 ∧ rf_S S n 27 (a + 8 * b) = nI m := by
      intro z
      obtain ⟨m, hm, em⟩ := pb.2.2.2.2.2.2.2.2.2.2.2 (a + 8 * b) (by omega)
      have := ph a b (by rw [rf_7r ha hb, z, rf_cn (by omega)]; omega)
      rw [rf_9r ha hb, em, rf_cn (by omega)] at this
      exact ⟨m, this, em⟩
    obtain ⟨c14, hc14, e14⟩ := (hca (a + 8 * b) (by omega)).1
    have q38 : mm_urge a b (rf_S S n) 38 = rf_S S n 38 := by
      rw [← e2, h38 (n + 1) (by omega), h38 n (by omega)]
    have eD := rf_urge (cf := fun a b => rf_c (S 14 (a + 8 * b))) ha hb c hk h27
    rw [eu, el, ← e2, ← hY] at eD
    obtain ⟨m, hm, g⟩ := rf_urgeg (c := c14) (cf := fun a b => rf_c (S 14 (a + 8 * b))) ha hb c p5 hk h27 ⟨by rw [hcf' 14 (by decide)]; exact e14, by omega, by show rf_c (S 14 (a + 8 * b)) = c14; rw [e14, rf_cn (by omega)]⟩ q38
    rw [eu, el, ← e2, ← hY] at g
    refine ⟨⟨eD, fun z => by omega, fun _ => ⟨rf_S S n, m, ⟨hm, fun w hw h3 => absurd h3 (rf_noU hK hw)⟩, g, rfl, rfl, fun i _ => Or.inr ⟨rfl, rfl, rfl, rfl, fun _ _ => rfl⟩, fun z => by omega, fun z => by omega⟩⟩, ?_, ?_, ?_, ?_⟩
    · rw [e2]
      exact rf_burge ha hb h27 pb
    · refine rf_Qg g (rf_Qm pQ (by omega)) (fun w hw => ?_)
      rw [hY] at hw
      exact rf_ufb (B := B + n) (by omega) (by omega) ha hb pb (by show rf_c (S 14 (a + 8 * b)) < B + n; rw [e14, rf_cn (by omega)]; omega) hw
    · rw [e2]
      obtain ⟨j, hj, _, hg, _⟩ := g
      refine ⟨(j + m) % 1024, Nat.mod_lt _ (by decide), ?_⟩
      rw [← e2]
      exact hg
    · rw [eD]
      exact rf_hdo ph
theorem rf_s32 {i j : Nat} {T : zz_T} (h : j ≠ i) : rf_ss T (zz_s T 32 i 0) j := by
  refine ⟨by rw [zz_se, pk_un h], by rw [zz_sn (by decide)], by rw [zz_sn (by decide)], by rw [zz_sn (by decide)], fun q _ => by rw [zz_sn (by decide)]⟩
theorem rf_hx {u : Nat → Nat → Prop} {ac : Nat → Nat → Nat} {s p : Nat} {x y : ab_F} {D : ab_D} (h : ∀ j, 3 ≤ j → j ≤ 8 → x j = y j) : ab_h u ac s p x D = ab_h u ac s p y D := by
  unfold ab_h ab_hA ab_hA1 ab_hT ab_hL ab_hP ab_hW ab_cy
  rw [h 3 (by omega) (by omega), h 4 (by omega) (by omega), h 5 (by omega) (by omega), h 6 (by omega) (by omega), h 7 (by omega) (by omega), h 8 (by omega) (by omega)]
theorem rf_f4 {k f g n l q : Nat} : ab_fr k f g n l q 4 = f := rfl
theorem rf_f5 {k f g n l q : Nat} : ab_fr k f g n l q 5 = g := rfl
theorem rf_f6 {k f g n l q : Nat} : ab_fr k f g n l q 6 = n := rfl
theorem rf_f7 {k f g n l q : Nat} : ab_fr k f g n l q 7 = l := rfl
theorem rf_f8 {k f g n l q : Nat} : ab_fr k f g n l q 8 = q := rfl
theorem rf_slx (w : ab_F) : ∀ j, 3 ≤ j → j ≤ 8 → w j = ab_fr (w 3) (w 4) (w 5) (w 6) (w 7) (w 8) j := by
  intro j h1 h2
  have : j = 3 ∨ j = 4 ∨ j = 5 ∨ j = 6 ∨ j = 7 ∨ j = 8 := by omega
  rcases this with e | e | e | e | e | e
  · rw [e, ab_frk]
  · rw [e, rf_f4]
  · rw [e, rf_f5]
  · rw [e, rf_f6]
  · rw [e, rf_f7]
  · rw [e, rf_f8]
theorem rf_fbx {B : Nat} {w : ab_F} (h : rf_fb B w) : rf_fb B (ab_fr (w 3) (w 4) (w 5) (w 6) (w 7) (w 8)) := by
  unfold rf_fb
  rw [ab_frk, rf_f4, rf_f5, rf_f6, rf_f7, rf_f8]
  exact h
theorem rf_listenD {S : zz_T} {B N n : Nat} (hA : rf_A S B N) (hn : n < N) (hP : rf_P S B n) (h1 : n % 1089 ≠ 0) (h2 : n % 1089 ≤ 1024) : rf_D S n ∧ rf_P S B (n + 1) := by
  obtain ⟨hB, hB2, _, _, _, _, h38, hcf, h25, hca⟩ := hA
  obtain ⟨pb, pQ, p5, ph⟩ := hP
  have e1 : rf_S S (n + 1) = mm_lst (n % 1089 - 1) (rf_S S n) := by
    rw [rf_S1]
    unfold rf_step
    rw [if_neg h1, if_pos h2]
  have hs : rf_s S n = rf_c (rf_S S n 34 (n % 1089 - 1)) := if_pos h2
  have hp : rf_p S n = rf_c (rf_S S n 33 (n % 1089 - 1)) := if_pos h2
  have hX : rf_X S n = rf_sl (rf_S S n) (n % 1089 - 1) := rfl
  have hi : n % 1089 - 1 < 1024 := by omega
  have hcf' : ∀ f, rf_cf f → rf_S S n f = S f := fun f hf => hcf n f (by omega) hf
  have hcf1 : ∀ f, rf_cf f → rf_S S (n + 1) f = S f := fun f hf => hcf (n + 1) f (by omega) hf
  have h38n := h38 n (by omega)
  have h38m := h38 (n + 1) (by omega)
  have h25n := fun p hp => h25 n p (by omega) hp
  have h25m := fun p hp => h25 (n + 1) p (by omega) hp
  have hKdef : rf_K S n = ab_if (rf_hs (n % 1089 - 1) (rf_S S n)) 1 3 := by
    unfold rf_K
    rw [if_neg h1, if_pos h2]
  have hZ : ∀ k, rf_K S n = k → ab_zY (rf_Z S) n = ab_do (rf_u S) (rf_l S) (fun a b => rf_c (S 14 (a + 8 * b))) (fun a b => rf_c (S 15 (a + 8 * b))) k (rf_c (rf_S S n 34 (n % 1089 - 1))) (rf_c (rf_S S n 33 (n % 1089 - 1))) (rf_sl (rf_S S n) (n % 1089 - 1)) (rf_a (rf_S S n)) := by
    intro k hk
    show ab_do _ _ _ _ (rf_K S n) (rf_s S n) (rf_p S n) (rf_X S n) _ = _
    rw [hk, hs, hp, hX]
    rfl
  unfold rf_D rf_P
  generalize eT' : rf_S S (n + 1) = T' at *
  generalize eT : rf_S S n = T at *
  generalize ei : n % 1089 - 1 = i at *
  by_cases c : rf_hs i T
  · have hK : rf_K S n = 1 := by rw [hKdef, ab_ip c]
    have e2 := (rf_lst (i := i) (T := T)).1 c
    obtain ⟨hsm, s33, s34, fb⟩ := pQ i hi c.1
    unfold mm_lst1 at e2
    generalize eU : zz_it (mm_rd1 i) 12 (zz_s T 32 i 0) = U at e2
    obtain ⟨hr, e33, e34, hUo⟩ := rf_rd hi c.1 (rf_Qq pQ) (show B + n ≤ 2 ^ 29 by omega) U eU.symm
    have hk1 := zz_rdk (i := i) (S := zz_s T 32 i 0)
    rw [eU] at hk1
    have U32 : U 32 = zz_s T 32 i 0 32 := hk1.1 32 (by decide)
    have eaU : rf_a U = rf_a T := rf_same (fun f hf => hUo f (by unfold rf_F at hf; omega) (by unfold rf_F at hf; omega))
    have euU : rf_u U = rf_u S := by rw [rf_uc (hUo 6 (by decide) (by decide)), rf_uc (hcf' 6 (by decide))]
    have bU : rf_b (B + n) U := rf_bsame (fun f hf => hUo f (by unfold rf_F at hf; omega) (by unfold rf_F at hf; omega)) pb
    have h5U : zz_5 U := zz_5of (hUo 5 (by decide) (by decide)) p5
    have QU : rf_Q (B + n) U := rf_Qc (S := zz_s T 32 i 0) (fun f hf => hk1.1 f (by omega)) (rf_Q32 pQ)
    have eT2 : T' = mm_hear (rf_c (T 34 i)) (nI (rf_c (T 33 i))) U := by rw [e1, e2]
    obtain ⟨x3, x4, x5, x6, x7, x8, xt, xp⟩ := id fb
    obtain ⟨w1, w2, w3, w4, w5, w6, g0, g1, g2, g3, g4, g5⟩ := id hr
    have hcU : ∀ f, rf_cf f → U f = S f := fun f hf => (hUo f (by unfold rf_cf at hf; omega) (by unfold rf_cf at hf; omega)).trans (hcf' f hf)
    have k0 : ∀ j, j < 5 → rf_sl T i 3 ≠ j → ¬ U 43 0 = nI j := fun j hj hne z => hne ((nI_eq (by omega) (by omega)).1 (g0.symm.trans z))
    have hp3 : rf_sl T i 3 = 3 → rf_sl T i 5 = rf_c (T 34 i) → ¬ (U 43 3 = U 15 (rf_sl T i 4 + 8 * rf_c (T 34 i)) ∧ U 43 4 = U 29 (rf_sl T i 4 + 8 * rf_c (T 34 i))) := by
      intro z3 z5
      obtain ⟨c15, hc15, e15⟩ := (hca (rf_sl T i 4 + 8 * rf_c (T 34 i)) (by omega)).2
      have hm : T' = mm_hearPiece (rf_c (T 34 i)) U := by
        rw [eT2]
        unfold mm_hear
        rw [if_neg (show ¬ U 43 0 = 0 from k0 0 (by omega) (by omega)), if_neg (show ¬ U 43 0 = 1 from k0 1 (by omega) (by omega)), if_neg (show ¬ U 43 0 = 2 from k0 2 (by omega) (by omega)), if_pos (show U 43 0 = 3 by rw [g0, z3]; rfl)]
      refine rf_np3 (c := c15) s34 x4 g1 (by rw [g2, z5]) (by rw [hcU 15 (by decide)]; exact e15) (by omega) ?_ ?_ ?_
      · rw [hUo 29 (by decide) (by decide)]
        exact (h25n _ (by omega)).2
      · rw [← hm, hcf1 15 (by decide), hcU 15 (by decide)]
      · rw [← hm]
        exact (h25m _ (by omega)).2
    have hp4 : rf_sl T i 3 = 4 → rf_sl T i 5 = rf_c (T 34 i) → ¬ mm_anP (rf_c (T 34 i) + 8 * rf_sl T i 4) U := by
      intro z3 z5
      obtain ⟨c14, hc14, e14⟩ := (hca (rf_c (T 34 i) + 8 * rf_sl T i 4) (by omega)).1
      have hm : T' = mm_hearAnswer (rf_c (T 34 i)) U := by
        rw [eT2]
        unfold mm_hear
        rw [if_neg (show ¬ U 43 0 = 0 from k0 0 (by omega) (by omega)), if_neg (show ¬ U 43 0 = 1 from k0 1 (by omega) (by omega)), if_neg (show ¬ U 43 0 = 2 from k0 2 (by omega) (by omega)), if_neg (show ¬ U 43 0 = 3 from k0 3 (by omega) (by omega))]
      refine rf_np4 (c := c14) s34 x4 g1 (by rw [g2, z5]) g3 (by rw [g4, xp (by omega)]) (by rw [hcU 14 (by decide)]; exact e14) ?_ ?_
      · rw [hUo 25 (by decide) (by decide)]
        exact (h25n _ (by omega)).1
      · rw [← hm, hcf1 14 (by decide), hcU 14 (by decide)]
    obtain ⟨c15, hc15, e15⟩ := (hca (rf_sl T i 4 + 8 * rf_c (T 34 i)) (by omega)).2
    have hkU := rf_bk bU (by omega)
    have hY : ab_zY (rf_Z S) n = ab_h (rf_u S) (fun a b => rf_c (S 15 (a + 8 * b))) (rf_c (T 34 i)) (rf_c (T 33 i)) (ab_fr (rf_sl T i 3) (rf_sl T i 4) (rf_sl T i 5) (rf_sl T i 6) (rf_sl T i 7) (rf_sl T i 8)) (rf_a T) := by
      rw [hZ 1 hK, ab_do1]
      exact rf_hx (rf_slx _)
    have eD := rf_hear (ac := fun a b => rf_c (S 15 (a + 8 * b))) s34 s33 hkU hr hp3 hp4
    rw [euU, eaU, ← eT2, ← hY] at eD
    have q38 : mm_hear (rf_c (T 34 i)) (nI (rf_c (T 33 i))) U 38 = U 38 := by
      rw [← eT2, h38m, hUo 38 (by decide) (by decide), h38n]
    obtain ⟨m, hm, ht1, g⟩ := rf_hearg1 (c := c15) (ac := fun a b => rf_c (S 15 (a + 8 * b))) s34 s33 h5U hkU hr hp3 hp4 ⟨by rw [hcU 15 (by decide)]; exact e15, by omega, by show rf_c (S 15 _) = c15; rw [e15, rf_cn (by omega)]⟩ (by rw [hUo 29 (by decide) (by decide)]; exact (h25n _ (by omega)).2) xt q38
    rw [euU, eaU, ← eT2, ← hY] at g
    rw [euU, eaU, ← hY] at ht1
    have bT' : rf_b (B + n + 1) T' := by
      rw [eT2]
      exact rf_bhear s34 s33 bU hr x6 x8 hp3 hp4
    refine ⟨⟨eD, fun z => absurd z h1, fun _ => ⟨U, m, ⟨by omega, ht1⟩, g, hUo 4 (by decide) (by decide), hUo 5 (by decide) (by decide), fun j hj => ?_, fun _ z => absurd (show U 32 i = 0 by rw [U32, zz_se, pk_us]) z, fun _ z => absurd z c.2.1⟩⟩, bT', ?_, ?_, ?_⟩
    · by_cases e : j = i
      · refine Or.inl ⟨e, h2, ?_⟩
        rw [U32, zz_se, e, pk_us]
      · have := rf_s32 (T := T) e
        refine Or.inr ⟨?_, ?_, ?_, ?_, fun q hq => ?_⟩
        · rw [U32]; exact this.1
        · rw [hUo 33 (by decide) (by decide)]
        · rw [hUo 34 (by decide) (by decide)]
        · rw [hUo 35 (by decide) (by decide)]
        · rw [hUo 36 (by decide) (by decide)]
    · refine rf_Qg g (rf_Qm QU (by omega)) (fun w hw => ?_)
      have hw' : (ab_zY (rf_Z S) n).2 w := hw
      rw [hY, ← eaU] at hw'
      rw [hY, ← eaU] at eD
      exact rf_hfb (B := B + n) (R := T') (by omega) (by omega) s34 bU bT' eD (rf_fbx fb) (by show rf_c (S 15 _) < B + n; rw [rf_f4, e15, rf_cn (by omega)]; omega) hw'
    · obtain ⟨j, hj, _, hg, _⟩ := g
      exact ⟨(j + m) % 1024, Nat.mod_lt _ (by decide), hg⟩
    · rw [eD, hZ 1 hK]
      exact rf_hdo ph
  · have hK : rf_K S n = 3 := by rw [hKdef, ab_in c]
    have hY : ab_zY (rf_Z S) n = ab_nil (rf_a T) := by
      rw [hZ 3 hK]
      exact ab_do3 (by omega)
    have hT0 : (T' = T ∧ (T 32 i = 0 ∨ T 4 0 < T 35 i)) ∨ (T' = zz_s T 32 i 0 ∧ ¬ T 4 0 < T 35 i) := by
      rcases (rf_lst (i := i) (T := T)).2 c with z | z
      · exact Or.inl ⟨by rw [e1]; exact z.1, z.2⟩
      · exact Or.inr ⟨by rw [e1]; exact z.1, z.2⟩
    have hT : (T' = T ∧ (T 32 i = 0 ∨ T 4 0 < T 35 i)) ∨ T' = zz_s T 32 i 0 := by
      rcases hT0 with z | z
      · exact Or.inl z
      · exact Or.inr z.1
    have so : ∀ f, f ≠ 32 → T' f = T f := by
      intro f hf
      rcases hT with ⟨e, _⟩ | e
      · rw [e]
      · rw [e, zz_sn hf]
    have eD : rf_a T' = rf_a T := rf_same (fun f hf => so f (by unfold rf_F at hf; omega))
    have h5' : zz_5 T' := zz_5of (so 5 (by decide)) p5
    refine ⟨⟨by rw [eD, hY]; rfl, fun z => absurd z h1, fun _ => ⟨T', 0, ⟨by omega, fun w hw _ => absurd hw (by unfold ab_zO; rw [hY]; exact fun z => z)⟩, ?_, so 4 (by decide), so 5 (by decide), fun j hj => ?_, fun _ z => ⟨by rw [hK]; decide, ?_⟩, fun _ z => ?_⟩⟩, ?_, ?_, h5', by rw [eD]; exact ph⟩
    · refine rf_rgw (rf_rg0 h5' rfl rfl (fun f _ => rfl)) (fun w => ?_)
      unfold ab_zO
      rw [hY]
      exact Iff.rfl
    · rcases hT with ⟨e, _⟩ | e
      · rw [e]; exact Or.inr ⟨rfl, rfl, rfl, rfl, fun _ _ => rfl⟩
      · rw [e]
        by_cases ej : j = i
        · refine Or.inl ⟨ej, h2, ?_⟩
          rw [zz_se, ej, pk_us]
        · exact Or.inr (rf_s32 ej)
    · rcases hT with ⟨e, y | y⟩ | e
      · rw [e] at z; exact absurd y z
      · exact y
      · rw [e, zz_se, pk_us] at z
        exact absurd rfl z
    · rcases hT0 with ⟨e, _⟩ | ⟨_, y⟩
      · rw [e]; exact ⟨rfl, rfl, rfl, rfl, fun _ _ => rfl⟩
      · exact absurd z y
    · exact rf_bm (rf_bsame (fun f hf => so f (by unfold rf_F at hf; omega)) pb) (by omega)
    · rcases hT with ⟨e, _⟩ | e
      · rw [e]; exact rf_Qm pQ (by omega)
      · rw [e]; exact rf_Qm (rf_Q32 pQ) (by omega)
theorem rf_main {S : zz_T} {B N : Nat} (hA : rf_A S B N) : ∀ n, n ≤ N → rf_P S B n ∧ (n < N → rf_D S n) := by
  have step : ∀ n, n < N → rf_P S B n → rf_D S n ∧ rf_P S B (n + 1) := by
    intro n hn hP
    by_cases h0 : n % 1089 = 0
    · exact rf_tickD hA hn hP h0
    · by_cases h1 : n % 1089 ≤ 1024
      · exact rf_listenD hA hn hP h0 h1
      · exact rf_urgeD hA hn hP (by omega)
  have P0 : rf_P S B 0 := ⟨hA.2.2.1, hA.2.2.2.1, hA.2.2.2.2.1, hA.2.2.2.2.2.1⟩
  have all : ∀ n, n ≤ N → rf_P S B n := by
    intro n
    induction n with
    | zero => intro _; exact P0
    | succ n ih => intro hn; exact (step n (by omega) (ih (by omega))).2
  exact fun n hn => ⟨all n hn, fun h => (step n h (all n hn)).1⟩
