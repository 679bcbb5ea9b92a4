/-! ## a settling is a run of questions -/
noncomputable def rq_ac (T' : zz_T) (a b : Nat) : Nat := rf_c (T' 15 (a + 8 * b))
noncomputable def rq_cf (T : zz_T) (a b : Nat) : Nat := rf_c (T 14 (a + 8 * b))
/-- hearing one frame, in general -/
theorem rq_one {N B s p k f g n l q : Nat} {Z U : zz_T} (hN : N < B) (hB : B ≤ 2 ^ 29) (s34 : s < 8) (s33 : p < 8) (bU : rf_b B U) (h5U : zz_5 U) (hr : rf_r U k f g n l q) (xt : k = 1 → q = 0) (hJ' : zz_J N Z (mm_hear s (nI p) U)) :
    rf_pg U (mm_hear s (nI p) U) (ab_h (rf_u U) (rq_ac (mm_hear s (nI p) U)) s p (ab_fr k f g n l q) (rf_a U)).2 ∧ (rf_a (mm_hear s (nI p) U) = (ab_h (rf_u U) (rq_ac (mm_hear s (nI p) U)) s p (ab_fr k f g n l q) (rf_a U)).1 ∨ (k = 4 ∧ g = s ∧ rf_a (mm_hear s (nI p) U) = ab_w (ab_w (rf_a U) 7 s f 0) 9 s f 0)) := by
  obtain ⟨_, w1, w2, _, _, _, g0, g1, g2, g3, g4, g5⟩ := id hr
  obtain ⟨kA, kB, _⟩ := hJ'.2.1
  obtain ⟨c', d', _, e15, _, _, hd⟩ := kB f s w1 s34
  have eac : rq_ac (mm_hear s (nI p) U) f s = d' := by
    unfold rq_ac
    rw [e15, rf_cn (by omega)]
  have h15 : k = 3 → g = s → mm_hpT s f (f + 8 * s) U 15 (f + 8 * s) = nI d' := fun k3 gs => by
    rw [k3] at g0
    rw [gs] at g2
    rw [← rf_hp15 (p := p) w1 g0 g1 g2 (Or.inl rfl)]
    exact e15
  have h29 : k = 3 → g = s → mm_hpT s f (f + 8 * s) U 29 (f + 8 * s) = nI 0 := fun k3 gs => by
    rw [k3] at g0
    rw [gs] at g2
    rw [← rf_hp15 (p := p) w1 g0 g1 g2 (Or.inr rfl)]
    exact (kA (f + 8 * s) (by omega)).2.1
  obtain ⟨r1, r2⟩ := rf_gHear (ac := rq_ac (mm_hear s (nI p) U)) s34 s33 h5U (rf_bk bU hB) hr xt h15 (by omega) h29 eac
  refine ⟨r1, ?_⟩
  rcases r2 with z | ⟨z1, z2, _, z3⟩
  · exact Or.inl z
  · exact Or.inr ⟨z1, z2, z3⟩
noncomputable def rq_H (i0 : Nat) (T T' : zz_T) : ab_S := ab_h (rf_u T) (rq_ac T') (rf_c (T 34 i0)) (rf_c (T 33 i0)) (ab_fr (rf_sl T i0 3) (rf_sl T i0 4) (rf_sl T i0 5) (rf_sl T i0 6) (rf_sl T i0 7) (rf_sl T i0 8)) (rf_a T)
def rq_G (i0 : Nat) (T T' : zz_T) : Prop :=
  (rf_a T' = (rq_H i0 T T').1 ∨ (rf_sl T i0 3 = 4 ∧ rf_sl T i0 5 = rf_c (T 34 i0) ∧ ∀ f i j, f ≠ 7 → f ≠ 9 → rf_a T' f i j = rf_a T f i j)) ∧ rv_o T ≤ rv_o T' ∧
  ∀ i, i < 1024 → ¬ T' 32 i = 0 → (rf_ss T T' i ∧ i ≠ i0) ∨ ((∃ w, (rq_H i0 T T').2 w ∧ rf_c (T' 33 i) = w 1 ∧ rf_c (T' 34 i) = w 2 ∧ ∀ j, 3 ≤ j → j ≤ 8 → rf_sl T' i j = w j) ∧
    ∃ e, 1 ≤ e ∧ e + 2 * rv_o T ≤ 4 + 2 * rv_o T' ∧ (e = 1 ∨ rv_o T < rv_o T') ∧ T' 35 i = T 4 0 + nI e)
theorem rq_hl {N B i0 : Nat} {Z T : zz_T} (hN : N < B) (hB : B ≤ 2 ^ 29) (hi : i0 < 1024) (hJ : zz_J N Z T) (pb : rf_b B T) (pQ : rf_Q B T) (p5 : zz_5 T) (c : rf_hs i0 T) : rq_G i0 T (mm_lst i0 T) := by
  have e2 := (rf_lst (i := i0) (T := T)).1 c
  have hJ' := zz_Jlst (i := i0) (show N < 2 ^ 30 by omega) hi hJ
  obtain ⟨hsm, s33, s34, fb⟩ := pQ i0 hi c.1
  have key : ∀ U, U = zz_it (mm_rd1 i0) 12 (zz_s T 32 i0 0) → zz_J N Z (mm_hear (rf_c (T 34 i0)) (nI (rf_c (T 33 i0))) U) → rq_G i0 T (mm_hear (rf_c (T 34 i0)) (nI (rf_c (T 33 i0))) U) := by
    intro U eU hJU
    obtain ⟨hr, e33, e34, hUo⟩ := rf_rd hi c.1 (rf_Qq pQ) hB U eU
    have U32 : ∀ i, U 32 i = if i = i0 then 0 else T 32 i := by
      intro i
      rw [eU, (zz_rdk (i := i0) (S := zz_s T 32 i0 0)).1 32 (by decide), zz_se]
      by_cases e : i = i0
      · rw [if_pos e, e, pk_us]
      · rw [if_neg e, pk_un e]
    clear eU
    have eaU : rf_a U = rf_a T := rf_same (fun f hf => hUo f (by unfold rf_F at hf; omega) (by unfold rf_F at hf; omega))
    have euU : rf_u U = rf_u T := rf_uc (hUo 6 (by decide) (by decide))
    have bU : rf_b B U := rf_bsame (fun f hf => hUo f (by unfold rf_F at hf; omega) (by unfold rf_F at hf; omega)) pb
    have h5U : zz_5 U := zz_5of (hUo 5 (by decide) (by decide)) p5
    have o2 : ro_2 U (mm_hear (rf_c (T 34 i0)) (nI (rf_c (T 33 i0))) U) := ro_2hear
    have one := rq_one (N := N) (B := B) (Z := Z) hN hB s34 s33 bU h5U hr fb.2.2.2.2.2.2.1 hJU
    rw [euU, eaU] at one
    generalize mm_hear (rf_c (T 34 i0)) (nI (rf_c (T 33 i0))) U = T' at *
    have rvU : rv_o U = rv_o T := by
      unfold rv_o
      rw [hUo 38 (by decide) (by decide)]
    refine ⟨?_, ?_, fun i hi' hu => ?_⟩
    · rcases one.2 with z | ⟨z1, z2, z3⟩
      · exact Or.inl z
      · refine Or.inr ⟨z1, z2, fun f i j f7 f9 => ?_⟩
        rw [z3, ab_wf f9, ab_wf f7]
    · rw [← rvU]
      exact (rv_O o2.1).1
    · have old : rf_ss U T' i → rf_ss T T' i ∧ i ≠ i0 := by
        intro z
        have ne : i ≠ i0 := by
          intro e
          apply hu
          rw [z.1, U32, if_pos e]
        refine ⟨rf_sst ⟨?_, ?_, ?_, ?_, fun k hk => ?_⟩ z, ne⟩
        · rw [U32, if_neg ne]
        · rw [hUo 33 (by decide) (by decide)]
        · rw [hUo 34 (by decide) (by decide)]
        · rw [hUo 35 (by decide) (by decide)]
        · rw [hUo 36 (by decide) (by decide)]
      rcases one.1.2.2 i hi' hu with z | ⟨_, _, z⟩
      · exact Or.inl (old z)
      · rcases o2.2.2 i hi' hu with y | ⟨e, y1, y2, y3, y4⟩
        · exact Or.inl (old y)
        · rw [rvU] at y2 y3
          rw [hUo 4 (by decide) (by decide)] at y4
          exact Or.inr ⟨z, e, y1, y2, y3, y4⟩
  rw [e2] at hJ' ⊢
  unfold mm_lst1 at hJ' ⊢
  generalize eU : zz_it (mm_rd1 i0) 12 (zz_s T 32 i0 0) = U at hJ' ⊢
  exact key U eU.symm hJ'
noncomputable def rq_Y (S : zz_T) (n : Nat) : ab_S := ab_do (rf_u S) (rf_l (rf_S S n)) (rq_cf (rf_S S n)) (rq_ac (rf_S S (n + 1))) (rf_K S n) (rf_s S n) (rf_p S n) (rf_X S n) (rf_a (rf_S S n))
/-- one micro step of a settling: the picture, and the slots -/
def rq_P (n K : Nat) (X : ab_F) (T T' : zz_T) (Y : ab_S) : Prop :=
  (rf_a T' = Y.1 ∨ (K = 1 ∧ X 3 = 4 ∧ (∀ f i j, f ≠ 7 → f ≠ 9 → rf_a T' f i j = rf_a T f i j) ∧ ∀ w, ¬ Y.2 w)) ∧ rv_o T ≤ rv_o T' ∧
    ∀ i, i < 1024 → ¬ T' 32 i = 0 → (rf_ss T T' i ∧ (n % 1089 ≠ 0 → n % 1089 ≤ 1024 → i = n % 1089 - 1 → T 4 0 < T 35 i)) ∨
      (n % 1089 ≠ 0 ∧ (∃ w, Y.2 w ∧ rf_c (T' 33 i) = w 1 ∧ rf_c (T' 34 i) = w 2 ∧ ∀ j, 3 ≤ j → j ≤ 8 → rf_sl T' i j = w j) ∧
        ∃ e, 1 ≤ e ∧ e + 2 * rv_o T ≤ 4 + 2 * rv_o T' ∧ (e = 1 ∨ rv_o T < rv_o T') ∧ T' 35 i = T 4 0 + nI e)
theorem rq_p0 {n K t : Nat} {X : ab_F} {T T' : zz_T} {Y : ab_S} (h0 : n % 1089 = 0) (e4 : T 4 0 = nI t) (ht : t + 1 < 2 ^ 31) (e1 : T' = mm_tick T) (hY : Y = ab_nil (ab_w (rf_a T) 0 0 0 (rf_a T 0 0 0 + 1))) : rq_P n K X T T' Y := by
  have so : ∀ f, f ≠ 4 → T' f = T f := fun f hf => by rw [e1]; exact zz_sn hf
  refine ⟨Or.inl ?_, ?_, fun i hi hu => Or.inl ⟨⟨by rw [so 32 (by decide)], by rw [so 33 (by decide)], by rw [so 34 (by decide)], by rw [so 35 (by decide)], fun k _ => by rw [so 36 (by decide)]⟩, fun z => absurd h0 z⟩⟩
  · rw [hY, e1]
    show rf_a (mm_tick T) = ab_w (rf_a T) 0 0 0 (rf_a T 0 0 0 + 1)
    have e0 : rf_a T 0 0 0 = t := by
      show (if (0 : Nat) = 0 ∧ (0 : Nat) = 0 then rf_c (T 4 0) else 0) = t
      rw [if_pos ⟨rfl, rfl⟩, e4, rf_cn (by omega)]
    unfold mm_tick
    rw [rf_4, e4, nI_1, rf_cn (by omega), e0]
  · unfold rv_o
    rw [so 38 (by decide)]
    exact Nat.le_refl _
theorem rq_hw {u : Nat → Nat → Prop} {ac : Nat → Nat → Nat} {s p k f g n l q : Nat} {D : ab_D} {w : ab_F} (hk : k = 4) (hg : g = s) : ¬ (ab_h u ac s p (ab_fr k f g n l q) D).2 w := by
  intro hw
  subst hk hg
  unfold ab_h at hw
  rw [ab_in (show ¬ ab_fr 4 f g n l q 3 = 0 by rw [ab_frk]; decide), ab_in (show ¬ ab_fr 4 f g n l q 3 = 1 by rw [ab_frk]; decide), ab_in (show ¬ ab_fr 4 f g n l q 3 = 2 by rw [ab_frk]; decide), ab_in (show ¬ ab_fr 4 f g n l q 3 = 3 by rw [ab_frk]; decide)] at hw
  unfold ab_hW at hw
  rw [ab_ip rf_f5] at hw
  exact hw
theorem rq_p1a {n K i0 : Nat} {X : ab_F} {T T' : zz_T} {Y : ab_S} (h0 : n % 1089 ≠ 0) (ei : i0 = n % 1089 - 1) (g : rq_G i0 T T') (hX : X = rf_sl T i0) (hK1 : K = 1) (hY : Y = rq_H i0 T T') : rq_P n K X T T' Y := by
  obtain ⟨g1, g2, g3⟩ := g
  rw [← hY] at g1 g3
  refine ⟨?_, g2, fun i hi' hu => ?_⟩
  · rcases g1 with z | ⟨z1, z2, z3⟩
    · exact Or.inl z
    · refine Or.inr ⟨hK1, by rw [hX]; exact z1, z3, fun w hw => ?_⟩
      rw [hY] at hw
      unfold rq_H at hw
      exact rq_hw z1 z2 hw
  · rcases g3 i hi' hu with ⟨z, ne⟩ | ⟨z, y⟩
    · exact Or.inl ⟨z, fun _ _ e => absurd (e.trans ei.symm) ne⟩
    · exact Or.inr ⟨h0, z, y⟩
theorem rq_p1b {n K i0 : Nat} {X : ab_F} {T T' : zz_T} {Y : ab_S} (ei : i0 = n % 1089 - 1) (g : (T' = T ∧ (T 32 i0 = 0 ∨ T 4 0 < T 35 i0)) ∨ (T' = zz_s T 32 i0 0 ∧ ¬ T 4 0 < T 35 i0)) (hY : Y = ab_nil (rf_a T)) : rq_P n K X T T' Y := by
  rcases g with ⟨z, z'⟩ | ⟨z, z'⟩
  · rw [z, hY]
    refine ⟨Or.inl rfl, Nat.le_refl _, fun i hi' hu => Or.inl ⟨rf_ssr, fun _ _ e => ?_⟩⟩
    rw [e.trans ei.symm] at hu ⊢
    rcases z' with y | y
    · exact absurd y hu
    · exact y
  · rw [z, hY]
    refine ⟨Or.inl (rf_n (by decide)), ?_, fun i hi' hu => Or.inl ⟨?_, fun _ _ e => ?_⟩⟩
    · unfold rv_o
      rw [zz_sn (by decide)]
      exact Nat.le_refl _
    · have ne : i ≠ i0 := by
        intro e
        apply hu
        rw [zz_se, e, pk_us]
      exact rf_s32 ne
    · exfalso
      apply hu
      rw [zz_se, e.trans ei.symm, pk_us]
theorem rq_p2 {n K N B a b : Nat} {X : ab_F} {Z T T' : zz_T} {Y : ab_S} (hN : N < B) (hB : B ≤ 2 ^ 29) (h0 : n % 1089 ≠ 0) (h1 : ¬ n % 1089 ≤ 1024) (a8 : a < 8) (b8 : b < 8) (hM : ri_M N B Z T) (e1 : T' = mm_ub a b T)
    (hY1 : a ≠ b → Y = ab_u (rf_u T) (rf_l T) (rq_cf T) a b (rf_a T)) (hY3 : a = b → Y = ab_nil (rf_a T)) : rq_P n K X T T' Y := by
  obtain ⟨pb, pQ, p5, pS, pd⟩ := hM.2.1
  unfold mm_ub at e1
  by_cases ab : a = b
  · rw [if_pos ab] at e1
    rw [e1, hY3 ab]
    exact ⟨Or.inl rfl, Nat.le_refl _, fun i hi' hu => Or.inl ⟨rf_ssr, fun _ z => absurd z h1⟩⟩
  · rw [if_neg ab] at e1
    have hk := rf_bk pb hB
    have h27 : T 28 (a + 8 * b) = nI 1 → ∃ m, m < 2 ∧ T 27 (a + 8 * b) = nI m := by
      intro z
      obtain ⟨m, hm, em⟩ := pb.2.2.2.2.2.2.2.2.2.2.2 (a + 8 * b) (by omega)
      have := hM.2.2 a b (by rw [rf_7r a8 b8, z, rf_cn (by omega)]; omega)
      rw [rf_9r a8 b8, em, rf_cn (by omega)] at this
      exact ⟨m, this, em⟩
    obtain ⟨c, d, e14, _, _, _, hd⟩ := hM.1.2.1.2.1 a b a8 b8
    have g := rf_pgurge (cf := rq_cf T) a8 b8 ab p5 hk h27 ⟨e14, by omega, by unfold rq_cf; rw [e14, rf_cn (by omega)]⟩
    have eq := rf_urge (cf := rq_cf T) a8 b8 ab hk h27
    have o2 : ro_2 T T' := by rw [e1]; exact ro_2urge
    rw [← e1, ← hY1 ab] at g eq
    clear e1
    refine ⟨Or.inl eq, (rv_O o2.1).1, fun i hi' hu => ?_⟩
    have old : rf_ss T T' i → (rf_ss T T' i ∧ (n % 1089 ≠ 0 → n % 1089 ≤ 1024 → i = n % 1089 - 1 → T 4 0 < T 35 i)) := fun z => ⟨z, fun _ y => absurd y h1⟩
    rcases g.2.2 i hi' hu with z | ⟨_, _, z⟩
    · exact Or.inl (old z)
    · rcases o2.2.2 i hi' hu with y | ⟨e, y1, y2, y3, y4⟩
      · exact Or.inl (old y)
      · exact Or.inr ⟨h0, z, e, y1, y2, y3, y4⟩
theorem rq_st {N B n : Nat} {Z : zz_T} (hN : N < B) (hB : B + n + 1 ≤ 2 ^ 29) (hM : ri_M N (B + n) Z (rf_S Z n)) : rq_P n (rf_K Z n) (rf_X Z n) (rf_S Z n) (rf_S Z (n + 1)) (rq_Y Z n) := by
  have hlt : n % 1089 < 1089 := Nat.mod_lt _ (by decide)
  have eu : rf_u (rf_S Z n) = rf_u Z := rf_uc (hM.1.2.2.1 6 (by decide))
  obtain ⟨t, ht, e4⟩ := id hM.2.1.1.1
  by_cases h0 : n % 1089 = 0
  · refine rq_p0 (t := t) h0 e4 (by omega) ?_ ?_
    · rw [rf_S1]
      unfold rf_step
      rw [if_pos h0]
    · unfold rq_Y
      rw [show rf_K Z n = 0 from if_pos h0]
      exact ab_do0
  · by_cases h1 : n % 1089 ≤ 1024
    · have hs : rf_s Z n = rf_c (rf_S Z n 34 (n % 1089 - 1)) := if_pos h1
      have hp : rf_p Z n = rf_c (rf_S Z n 33 (n % 1089 - 1)) := if_pos h1
      have hK : rf_K Z n = ab_if (rf_hs (n % 1089 - 1) (rf_S Z n)) 1 3 := by
        unfold rf_K
        rw [if_neg h0, if_pos h1]
      have e1 : rf_S Z (n + 1) = mm_lst (n % 1089 - 1) (rf_S Z n) := by
        rw [rf_S1]
        unfold rf_step
        rw [if_neg h0, if_pos h1]
      by_cases c : rf_hs (n % 1089 - 1) (rf_S Z n)
      · have k1 : rf_K Z n = 1 := by rw [hK, ab_ip c]
        have g := rq_hl (N := N) (B := B + n) (Z := Z) (by omega) (by omega) (show n % 1089 - 1 < 1024 by omega) hM.1 hM.2.1.1 hM.2.1.2.1 hM.2.1.2.2.1 c
        rw [← e1] at g
        refine rq_p1a h0 rfl g rfl k1 ?_
        unfold rq_Y rq_H
        rw [k1, ab_do1, hs, hp, eu]
        exact rf_hx (rf_slx _)
      · have k3 : rf_K Z n = 3 := by rw [hK, ab_in c]
        have g := (rf_lst (i := n % 1089 - 1) (T := rf_S Z n)).2 c
        rw [← e1] at g
        refine rq_p1b rfl g ?_
        unfold rq_Y
        rw [k3]
        exact ab_do3 (by omega)
    · have hs : rf_s Z n = (n % 1089 - 1025) / 8 := if_neg h1
      have hp : rf_p Z n = (n % 1089 - 1025) % 8 := if_neg h1
      have hK : rf_K Z n = if (n % 1089 - 1025) / 8 = (n % 1089 - 1025) % 8 then 3 else 2 := by
        unfold rf_K
        rw [if_neg h0, if_neg h1]
      refine rq_p2 (N := N) (B := B + n) (Z := Z) (a := (n % 1089 - 1025) / 8) (b := (n % 1089 - 1025) % 8) (by omega) (by omega) h0 h1 (by omega) (by omega) hM ?_ (fun ab => ?_) (fun ab => ?_)
      · rw [rf_S1]
        unfold rf_step
        rw [if_neg h0, if_neg h1]
      · unfold rq_Y
        rw [hK, if_neg ab, ab_do2, hs, hp, eu]
      · unfold rq_Y
        rw [hK, if_pos ab]
        exact ab_do3 (by omega)
