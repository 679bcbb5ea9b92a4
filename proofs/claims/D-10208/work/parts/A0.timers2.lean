/-! ## timers: hearing -/
def rt_Q (D : ab_D) : Prop := ∀ i j, rt_q D i j
def rt_P (D : ab_D) : Prop := ∀ i j, rt_p D i j
/-- steps but urgings keep it -/
theorem rt_do1 {u : Nat → Nat → Prop} {ac : Nat → Nat → Nat} {a b : Nat} {x : ab_F} {D : ab_D} (h : rt_Q D) : rt_Q (ab_h u ac a b x D).1 := by
  intro i j
  have now := ab_d0 (u := u) (lv := fun _ _ => False) (cf := fun _ _ => 0) (ac := ac) (k := 1) (a := a) (b := b) (x := x) (D := D)
  have dt := ab_dt (u := u) (lv := fun _ _ => False) (cf := fun _ _ => 0) (ac := ac) (k := 1) (a := a) (b := b) (i := i) (j := j) (x := x) (D := D)
  rw [ab_do1] at now dt
  rw [if_neg (by decide)] at now
  rcases dt with ⟨z6, z7, z8, z9⟩ | z
  · unfold rt_q
    rw [z6, z7, z8, z9, now]
    exact h i j
  · exact absurd z.1 (by decide)
theorem rt_oneh {N s p k f g n l q : Nat} {Z U : zz_T} (hN : N < 2 ^ 30) (s34 : s < 8) (s33 : p < 8) (h5U : zz_5 U) (hkU : rf_k U) (hr : rf_r U k f g n l q) (xt : k = 1 → q = 0) (hJ' : zz_J N Z (mm_hear s (nI p) U)) (hh : rt_Q (rf_a U)) : rt_Q (rf_a (mm_hear s (nI p) U)) := by
  have tk : k = 3 → g = s → ∃ d, d ≤ N ∧ mm_hpT s f (f + 8 * s) U 15 (f + 8 * s) = nI d ∧ mm_hpT s f (f + 8 * s) U 29 (f + 8 * s) = nI 0 := by
    intro k3 gs
    obtain ⟨_, w1, w2, _, _, _, g0, g1, g2, g3, g4, g5⟩ := id hr
    rw [k3] at g0
    rw [gs] at g2
    obtain ⟨kA, kB, _⟩ := hJ'.2.1
    obtain ⟨c', d', _, e15, _, _, hd⟩ := kB f s w1 s34
    rw [rf_hp15 w1 g0 g1 g2 (Or.inl rfl)] at e15
    have e29 := (kA (f + 8 * s) (by omega)).2.1
    rw [rf_hp15 w1 g0 g1 g2 (Or.inr rfl)] at e29
    exact ⟨d', by omega, e15, e29⟩
  have main : ∀ d, d ≤ N → (k = 3 → g = s → mm_hpT s f (f + 8 * s) U 15 (f + 8 * s) = nI d) → (k = 3 → g = s → mm_hpT s f (f + 8 * s) U 29 (f + 8 * s) = nI 0) → rt_Q (rf_a (mm_hear s (nI p) U)) := by
    intro d hd h15 h29
    obtain ⟨_, g2⟩ := rf_gHear (ac := fun _ _ => d) s34 s33 h5U hkU hr xt h15 (by omega) h29 rfl
    rcases g2 with e | ⟨_, _, _, e⟩
    · rw [e]
      exact rt_do1 hh
    · rw [e]
      intro a b
      have w0 : ab_w (ab_w (rf_a U) 7 s f 0) 9 s f 0 0 0 0 = rf_a U 0 0 0 := by rw [ab_wf (by decide), ab_wf (by decide)]
      have w6 : ab_w (ab_w (rf_a U) 7 s f 0) 9 s f 0 6 a b = rf_a U 6 a b := by rw [ab_wf (by decide), ab_wf (by decide)]
      have w8 : ab_w (ab_w (rf_a U) 7 s f 0) 9 s f 0 8 a b = rf_a U 8 a b := by rw [ab_wf (by decide), ab_wf (by decide)]
      unfold rt_q
      rw [w0, w6, w8]
      refine ⟨(hh a b).1, fun h7 => ?_⟩
      by_cases z : a = s ∧ b = f
      · exfalso
        apply h7
        rw [ab_wf (by decide), z.1, z.2, ab_we]
      · have h9 : ab_w (ab_w (rf_a U) 7 s f 0) 9 s f 0 9 a b = rf_a U 9 a b := by
          rw [show ab_w (ab_w (rf_a U) 7 s f 0) 9 s f 0 9 a b = ab_w (rf_a U) 7 s f 0 9 a b from if_neg (fun y => z ⟨y.2.1, y.2.2⟩), ab_wf (by decide)]
        have h7' : ab_w (ab_w (rf_a U) 7 s f 0) 9 s f 0 7 a b = rf_a U 7 a b := by
          rw [ab_wf (by decide)]
          exact if_neg (fun y => z ⟨y.2.1, y.2.2⟩)
        rw [h9]
        rw [h7'] at h7
        exact (hh a b).2 h7
  by_cases k3 : k = 3 ∧ g = s
  · obtain ⟨d, d1, d2, d3⟩ := tk k3.1 k3.2
    exact main d d1 (fun _ _ => d2) (fun _ _ => d3)
  · exact main 0 (by omega) (fun a b => absurd ⟨a, b⟩ k3) (fun a b => absurd ⟨a, b⟩ k3)
theorem rt_lsth {N B i : Nat} {Z T : zz_T} (hN : N < B) (hB : B ≤ 2 ^ 29) (hi : i < 1024) (hJ : zz_J N Z T) (pb : rf_b B T) (pQ : rf_Q B T) (p5 : zz_5 T) (hh : rt_Q (rf_a T)) : rt_Q (rf_a (mm_lst i T)) := by
  by_cases c : rf_hs i T
  · have e2 := (rf_lst (i := i) (T := T)).1 c
    have hJ' := zz_Jlst (i := i) (show N < 2 ^ 30 by omega) hi hJ
    obtain ⟨hsm, s33, s34, fb⟩ := pQ i hi c.1
    have key : ∀ U, U = zz_it (mm_rd1 i) 12 (zz_s T 32 i 0) → zz_J N Z (mm_hear (rf_c (T 34 i)) (nI (rf_c (T 33 i))) U) → rt_Q (rf_a (mm_hear (rf_c (T 34 i)) (nI (rf_c (T 33 i))) U)) := by
      intro U eU hJU
      obtain ⟨hr, e33, e34, hUo⟩ := rf_rd hi c.1 (rf_Qq pQ) hB U eU
      have eaU : rf_a U = rf_a T := rf_same (fun f hf => hUo f (by unfold rf_F at hf; omega) (by unfold rf_F at hf; omega))
      have bU : rf_b B U := rf_bsame (fun f hf => hUo f (by unfold rf_F at hf; omega) (by unfold rf_F at hf; omega)) pb
      exact rt_oneh (Z := Z) (show N < 2 ^ 30 by omega) s34 s33 (zz_5of (hUo 5 (by decide) (by decide)) p5) (rf_bk bU hB) hr fb.2.2.2.2.2.2.1 hJU (by rw [eaU]; exact hh)
    rw [e2] at hJ' ⊢
    unfold mm_lst1 at hJ' ⊢
    generalize eU : zz_it (mm_rd1 i) 12 (zz_s T 32 i 0) = U at hJ' ⊢
    exact key U eU.symm hJ'
  · rcases (rf_lst (i := i) (T := T)).2 c with ⟨z, _⟩ | ⟨z, _⟩
    · rw [z]; exact hh
    · rw [z, rf_n (by decide)]; exact hh

theorem rt_tick {T : zz_T} {t : Nat} (e4 : T 4 0 = nI t) (ht : t + 1 < 2 ^ 31) (h : rt_P (rf_a T)) : rt_Q (rf_a (mm_tick T)) := by
  have ea : rf_a (mm_tick T) = ab_w (rf_a T) 0 0 0 (t + 1) := by
    unfold mm_tick
    rw [rf_4, e4, nI_1, rf_cn ht]
  have e0 : rf_a T 0 0 0 = t := by
    show (if (0 : Nat) = 0 ∧ (0 : Nat) = 0 then rf_c (T 4 0) else 0) = t
    rw [if_pos ⟨rfl, rfl⟩, e4, rf_cn (by omega)]
  intro i j
  obtain ⟨h1, h2⟩ := h i j
  rw [e0] at h1 h2
  unfold rt_q
  rw [ea, ab_we, ab_wf (by decide), ab_wf (by decide), ab_wf (by decide), ab_wf (by decide)]
  refine ⟨by omega, fun h7 => ?_⟩
  have := h2 h7
  exact ⟨this.1, by omega⟩
