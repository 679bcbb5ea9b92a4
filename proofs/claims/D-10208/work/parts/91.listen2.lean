/-! ## one listening in general -/
theorem ri_32 {i : Nat} {T : zz_T} (h : ri_S T) : ri_S (zz_s T 32 i 0) := by
  have e : rf_a (zz_s T 32 i 0) = rf_a T := rf_n (by decide)
  refine ⟨by rw [e]; exact h.1, fun j hj hu => ?_⟩
  rw [e]
  by_cases z : j = i
  · exfalso
    rw [z, zz_se, pk_us] at hu
    exact hu rfl
  · have s := rf_s32 (T := T) z
    rw [rf_sss s]
    exact h.2 j hj (by rw [← s.1]; exact hu)
theorem ri_same {S T : zz_T} (h : ∀ f, f ≠ 43 → T f = S f) (k : ri_S S) : ri_S T := by
  have e : rf_a T = rf_a S := rf_same (fun f hf => h f (by unfold rf_F at hf; omega))
  refine ⟨by rw [e]; exact k.1, fun j hj hu => ?_⟩
  rw [e, rf_sss (S := S) ⟨by rw [h 32 (by decide)], by rw [h 33 (by decide)], by rw [h 34 (by decide)], by rw [h 35 (by decide)], fun q _ => by rw [h 36 (by decide)]⟩]
  exact k.2 j hj (by rw [← h 32 (by decide)]; exact hu)
theorem rf_dd32 {i : Nat} {T : zz_T} (h : rf_dd T) : rf_dd (zz_s T 32 i 0) := by
  intro j hj hu
  by_cases z : j = i
  · exfalso
    rw [z, zz_se, pk_us] at hu
    exact hu rfl
  · rw [zz_sn (by decide), zz_sn (by decide)]
    refine h j hj ?_
    rw [zz_se, pk_un z] at hu
    exact hu
def ri_P (B : Nat) (T : zz_T) : Prop := rf_b B T ∧ rf_Q B T ∧ zz_5 T ∧ ri_S T ∧ rf_dd T
/-- what a piece leaves in the counts -/
theorem rf_hp15 {s p f F : Nat} {U : zz_T} (hf : f < 8) (g0 : U 43 0 = nI 3) (g1 : U 43 1 = nI f) (g2 : U 43 2 = nI s) (hF : F = 15 ∨ F = 29) : mm_hear s (nI p) U F = mm_hpT s f (f + 8 * s) U F := by
  have n0 : ¬ U 43 0 = 0 := fun z => by rw [g0] at z; exact absurd ((nI_eq (by omega) (by omega)).1 (show nI 3 = nI 0 from z)) (by decide)
  have n1 : ¬ U 43 0 = 1 := fun z => by rw [g0] at z; exact absurd ((nI_eq (by omega) (by omega)).1 (show nI 3 = nI 1 from z)) (by decide)
  have n2 : ¬ U 43 0 = 2 := fun z => by rw [g0] at z; exact absurd ((nI_eq (by omega) (by omega)).1 (show nI 3 = nI 2 from z)) (by decide)
  have n3 : U 43 0 = 3 := g0
  unfold mm_hear
  rw [if_neg n0, if_neg n1, if_neg n2, if_pos n3]
  unfold mm_hearPiece
  rw [if_pos g2, g1, nI_clamp (show f < 2 ^ 31 by omega)]
  unfold mm_hp92
  rw [rf_passo (by omega) (by omega) (by omega), rf_anWo (by omega)]
/-- hearing one frame: all that is kept -/
theorem ri_one {N B s p k f g n l q : Nat} {Z U : zz_T} (hN : N < B) (hB : B + 1 ≤ 2 ^ 29) (hB2 : 16 ≤ B) (s34 : s < 8) (s33 : p < 8) (hu : rf_u U s p) (bU : rf_b B U) (QU : rf_Q B U) (h5U : zz_5 U) (SU : ri_S U) (dU : rf_dd U) (hr : rf_r U k f g n l q) (fb : rf_fb B (ab_fr k f g n l q)) (hx : ri_x (rf_a U) (ab_fr k f g n l q)) (hJ' : zz_J N Z (mm_hear s (nI p) U)) : ri_P (B + 1) (mm_hear s (nI p) U) := by
  have hkU := rf_bk bU (by omega)
  obtain ⟨x3, x4, x5, x6, x7, x8, xt, xp⟩ := id fb
  have tk : k = 3 → g = s → ∃ d, d ≤ N ∧ mm_hpT s f (f + 8 * s) U 15 (f + 8 * s) = nI d ∧ mm_hpT s f (f + 8 * s) U 29 (f + 8 * s) = nI 0 := by
    intro k3 gs
    obtain ⟨_, w1, w2, _, _, _, g0, g1, g2, g3, g4, g5⟩ := hr
    rw [k3] at g0
    rw [gs] at g2
    obtain ⟨kA, kB, _⟩ := hJ'.2.1
    obtain ⟨c', d', _, e15, _, _, hd⟩ := kB f s w1 s34
    rw [rf_hp15 w1 g0 g1 g2 (Or.inl rfl)] at e15
    have e29 := (kA (f + 8 * s) (by omega)).2.1
    rw [rf_hp15 w1 g0 g1 g2 (Or.inr rfl)] at e29
    exact ⟨d', by omega, e15, e29⟩
  have main : ∀ d, d ≤ N → (k = 3 → g = s → mm_hpT s f (f + 8 * s) U 15 (f + 8 * s) = nI d) → (k = 3 → g = s → mm_hpT s f (f + 8 * s) U 29 (f + 8 * s) = nI 0) → ri_P (B + 1) (mm_hear s (nI p) U) := by
    intro d hd h15 h29
    have bT := rf_bhearA s34 s33 bU hr x6 x8
    obtain ⟨g1, g2⟩ := rf_gHear (ac := fun _ _ => d) s34 s33 h5U hkU hr xt h15 (by omega) h29 rfl
    refine ⟨bT, ?_, g1.1, ri_hear s34 s33 hu h5U hkU hr xt h15 (by omega) h29 SU hx, rf_ddp bU.1 (by omega) g1 dU⟩
    rcases g2 with e | ⟨e4, e5, _, _⟩
    · exact rf_Qp g1 (rf_Qm QU (by omega)) (fun w hw => rf_hfb (B := B) (by omega) hB2 s34 bU bT e fb (show d < B by omega) hw)
    · refine rf_Qp g1 (rf_Qm QU (by omega)) (fun w hw => ?_)
      exfalso
      have he : ab_h (rf_u U) (fun _ _ => d) s p (ab_fr k f g n l q) (rf_a U) = ab_hW (rf_u U) s (ab_fr k f g n l q) (rf_a U) := by
        rw [e4]
        exact (ab_in (by show ¬ (4 : Nat) = 0; decide)).trans ((ab_in (by show ¬ (4 : Nat) = 1; decide)).trans ((ab_in (by show ¬ (4 : Nat) = 2; decide)).trans (ab_in (by show ¬ (4 : Nat) = 3; decide))))
      rw [he] at hw
      have h0 : ab_hW (rf_u U) s (ab_fr k f g n l q) (rf_a U) = ab_nil (rf_a U) := ab_ip e5
      rw [h0] at hw
      exact hw
  by_cases k3 : k = 3 ∧ g = s
  · obtain ⟨d, d1, d2, d3⟩ := tk k3.1 k3.2
    exact main d d1 (fun _ _ => d2) (fun _ _ => d3)
  · exact main 0 (by omega) (fun a b => absurd ⟨a, b⟩ k3) (fun a b => absurd ⟨a, b⟩ k3)
/-- ONE LISTENING -/
theorem ri_lst {N B i : Nat} {Z T : zz_T} (hN : N < B) (hB : B + 1 ≤ 2 ^ 29) (hB2 : 16 ≤ B) (hi : i < 1024) (hJ : zz_J N Z T) (hl : zz_lk T) (h : ri_P B T) : ri_P (B + 1) (mm_lst i T) := by
  obtain ⟨pb, pQ, p5, pS, pd⟩ := h
  by_cases c : rf_hs i T
  · have e2 := (rf_lst (i := i) (T := T)).1 c
    have hJ' := zz_Jlst (i := i) (show N < 2 ^ 30 by omega) hi hJ
    obtain ⟨hsm, s33, s34, fb⟩ := pQ i hi c.1
    have key : ∀ U, U = zz_it (mm_rd1 i) 12 (zz_s T 32 i 0) → zz_J N Z (mm_hear (rf_c (T 34 i)) (nI (rf_c (T 33 i))) U) → ri_P (B + 1) (mm_hear (rf_c (T 34 i)) (nI (rf_c (T 33 i))) U) := by
      intro U eU hJU
      obtain ⟨hr, e33, e34, hUo⟩ := rf_rd hi c.1 (rf_Qq pQ) (show B ≤ 2 ^ 29 by omega) U eU
      have hk1 := zz_rdk (i := i) (S := zz_s T 32 i 0)
      rw [← eU] at hk1
      have U32 : ∀ f, f ≠ 43 → U f = zz_s T 32 i 0 f := fun f hf => hk1.1 f hf
      have eaU : rf_a U = rf_a T := rf_same (fun f hf => hUo f (by unfold rf_F at hf; omega) (by unfold rf_F at hf; omega))
      have up : rf_u T (rf_c (T 33 i)) (rf_c (T 34 i)) := ⟨s33, s34, by rw [← e34]; exact c.2.2⟩
      refine ri_one (Z := Z) hN hB hB2 s34 s33 ?_ (rf_bsame (fun f hf => hUo f (by unfold rf_F at hf; omega) (by unfold rf_F at hf; omega)) pb) (rf_Qc (S := zz_s T 32 i 0) (fun f hf => U32 f (by omega)) (rf_Q32 pQ)) (zz_5of (hUo 5 (by decide) (by decide)) p5) (ri_same U32 (ri_32 pS)) ?_ hr (rf_fbx fb) ?_ hJU
      · rw [rf_uc (hUo 6 (by decide) (by decide))]
        exact (rf_usy hl _ _ up).1
      · have := rf_dd32 (i := i) pd
        intro j hj hu
        rw [U32 35 (by decide), U32 4 (by decide)]
        exact this j hj (by rw [← U32 32 (by decide)]; exact hu)
      · rw [eaU]
        exact ri_xw (y := rf_sl T i) (fun j h1 h2 => (rf_slx (rf_sl T i) j h1 h2).symm) (pS.2 i hi c.1)
    rw [e2] at hJ' ⊢
    unfold mm_lst1 at hJ' ⊢
    generalize eU : zz_it (mm_rd1 i) 12 (zz_s T 32 i 0) = U at hJ' ⊢
    exact key U eU.symm hJ'
  · rcases (rf_lst (i := i) (T := T)).2 c with ⟨z, _⟩ | ⟨z, _⟩
    · rw [z]
      exact ⟨rf_bm pb (by omega), rf_Qm pQ (by omega), p5, pS, pd⟩
    · rw [z]
      exact ⟨rf_bm (rf_bn (Or.inl (by decide)) pb) (by omega), rf_Qm (rf_Q32 pQ) (by omega), zz_5s (by decide) p5, ri_32 pS, rf_dd32 pd⟩
