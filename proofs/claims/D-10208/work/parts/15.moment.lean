/-! ## listen -/
theorem zz_lq {σ : Type} (W : Nat → Nat → σ → Prop) (f : Nat → σ → σ) (e : Nat) (S : σ) (hx : ∀ n T, T = zz_it f e S → W (n + 1) e T)
    (hs : ∀ n i T, i < e → T = zz_it f i S → W n (i + 1) (f i T) → W (n + 1) i T) : ∃ n, W n 0 S :=
  pk_loop W (fun i s => s = zz_it f i S) e 0 S (Nat.zero_le e) rfl (fun n s h => hx n s h)
    (fun n i s hi h hw => hs n i s hi h (hw _ (by subst h; rfl)))
def mm_rd1 (i k : Nat) (U : zz_T) : zz_T := zz_s U 43 k (U 36 (i * 12 + k))
noncomputable def mm_lst1 (i s r : Nat) (T : zz_T) : zz_T := mm_hear r (nI s) (zz_it (mm_rd1 i) 12 (zz_s T 32 i 0))
noncomputable def mm_lst (i : Nat) (T : zz_T) : zz_T :=
  @ite _ (T 32 i = 0) (Classical.propDecidable _) (T) (@ite _ (T 4 0 < T 35 i) (Classical.propDecidable _) (T) (@ite _ (mm_up (zz_s T 32 i 0) (T 33 i).toNatClampNeg (T 34 i)) (Classical.propDecidable _) (mm_lst1 i (T 33 i).toNatClampNeg (T 34 i).toNatClampNeg T) (zz_s T 32 i 0)))
noncomputable def mm_listen (S : zz_T) : zz_T := zz_it mm_lst 1024 S
/-- what hearing frame i needs of the state -/
def zz_L (i : Nat) (T : zz_T) : Prop := ∃ s r f g l, s < 8 ∧ r < 8 ∧ f < 8 ∧ g < 8 ∧ l ≤ 3 ∧ T 33 i = nI s ∧ T 34 i = nI r ∧ T 36 (i * 12 + 1) = nI f ∧ T 36 (i * 12 + 2) = nI g ∧ (T 36 (i * 12) = 3 → T 36 (i * 12 + 6) = nI l) ∧ zz_5 T ∧ zz_24 T ∧ ∀ p, p < 64 → T 30 p = nI 0
theorem zz_rdk {i : Nat} {S : zz_T} : (∀ f, f ≠ 43 → zz_it (mm_rd1 i) 12 S f = S f) ∧ ∀ k, k < 12 → zz_it (mm_rd1 i) 12 S 43 k = S 36 (i * 12 + k) := by
  refine zz_itI (fun (n : Nat) (V : zz_T) => (∀ f, f ≠ 43 → V f = S f) ∧ ∀ k, k < n → V 43 k = S 36 (i * 12 + k)) ⟨fun _ _ => rfl, fun k hk => absurd hk (by omega)⟩ ?_
  intro n V hn hV
  refine ⟨fun f hf => (zz_sn hf).trans (hV.1 f hf), fun k hk => ?_⟩
  show zz_s V 43 n (V 36 (i * 12 + n)) 43 k = _
  rw [zz_se]
  by_cases e : k = n
  · subst e
    rw [pk_us, hV.1 36 (by decide)]
  · rw [pk_un e]
    exact hV.2 k (by omega)
theorem wk_listen {post : St1 → Prop} {S : zz_T} (h : ∀ i, i < 1024 → ∀ T, T = zz_it mm_lst i S → ¬ T 32 i = 0 → ¬ T 4 0 < T 35 i → zz_L i T) (H : ∀ T, T = mm_listen S → post (zz_u T)) : wpX_listen post (zz_u S) := by
  refine zz_lq (fun n i T => wX_listen_2 post n (nI i) (T 0 0) (T 1 0) (T 2 0) (T 3 0) (T 4 0) (T 5 0) (T 6) (T 7) (T 8) (T 9) (T 10) (T 11) (T 12) (T 13) (T 14) (T 15) (T 16) (T 17) (T 18) (T 19) (T 20) (T 21) (T 22) (T 23) (T 24) (T 25) (T 26) (T 27) (T 28) (T 29) (T 30) (T 31) (T 32) (T 33) (T 34) (T 35) (T 36) (T 37) (T 38) (T 39) (T 40) (T 41) (T 42) (T 43)) mm_lst 1024 S ?_ ?_
  · intro n T hT
    exact pk_le 1024 1024 (fun _ => H T hT) (fun z => absurd z (by omega))
  · intro n i T hi hT hw
    have vi : vp_in (nI i) 1024 := vp_in_nI hi (by decide)
    have hL := h i hi T hT
    refine pk_le 1024 i (fun z => absurd z (by omega)) (fun _ => ⟨vi, ?_⟩)
    rw [nI_clamp (show i < 2 ^ 31 by omega)]
    unfold mm_lst at hw
    by_cases c1 : T 32 i = 0
    · rw [if_pos c1] at hw
      exact br_t c1 (nm_r (nI_1 i) hw)
    · rw [if_neg c1] at hw
      refine br_f c1 ⟨vi, ?_⟩
      by_cases c2 : T 4 0 < T 35 i
      · rw [if_pos c2] at hw
        exact br_t c2 (nm_r (nI_1 i) hw)
      · rw [if_neg c2] at hw
        obtain ⟨s, r, f, g, l, hs, hr, hf, hg, hl, es, er, ef, eg, el, h5, h24, h30⟩ := hL c1 c2
        rw [es, er, nI_clamp (show s < 2 ^ 31 by omega), nI_clamp (show r < 2 ^ 31 by omega)] at hw
        refine br_f c2 (And.intro vi (nm_e ⟨vi, nm_r er ⟨vi, nm_r es ?_⟩⟩))
        refine wk_isUp (S := zz_s T 32 i 0) hs (fun d => br_t rfl (nm_r (nI_1 i) ?_)) (fun d => br_f (by decide) ?_)
        · rw [if_neg d] at hw
          exact hw
        · rw [if_pos d] at hw
          refine zz_lq (fun n' k U => wX_listen_64 post (wX_listen_2 post n) (nI i) (nI r) (nI s) (U 0 0) (U 1 0) (U 2 0) (U 3 0) (U 4 0) (U 5 0) n' (nI k) (U 6) (U 7) (U 8) (U 9) (U 10) (U 11) (U 12) (U 13) (U 14) (U 15) (U 16) (U 17) (U 18) (U 19) (U 20) (U 21) (U 22) (U 23) (U 24) (U 25) (U 26) (U 27) (U 28) (U 29) (U 30) (U 31) (U 32) (U 33) (U 34) (U 35) (U 36) (U 37) (U 38) (U 39) (U 40) (U 41) (U 42) (U 43)) (mm_rd1 i) 12 (zz_s T 32 i 0) ?_ ?_
          · intro n' U hU
            refine pk_le 12 12 (fun _ => ?_) (fun z => absurd z (by omega))
            unfold mm_lst1 at hw
            rw [← hU] at hw
            have hk := zz_rdk (i := i) (S := zz_s T 32 i 0)
            rw [← hU] at hk
            have e36 : ∀ j, zz_s T 32 i 0 36 j = T 36 j := fun j => by rw [zz_sn (by decide)]
            refine wk_hear (S := U) (l := l) hr (zz_5of ((hk.1 5 (by decide)).trans (zz_sn (by decide))) h5) ?_ ⟨⟨f, hf, ?_⟩, ⟨g, hg, ?_⟩⟩ ?_ hl ?_ (nm_r (nI_1 i) hw)
            · intro q hq
              rw [hk.1 24 (by decide), zz_sn (by decide)]
              exact h24 q hq
            · rw [hk.2 1 (by decide), e36]
              exact ef
            · rw [hk.2 2 (by decide), e36]
              exact eg
            · rw [hk.2 0 (by decide), hk.2 6 (by decide), e36, e36]
              exact el
            · intro p hp
              rw [hk.1 30 (by decide), zz_sn (by decide)]
              exact h30 p hp
          · intro n' k U hk _ hw'
            refine pk_le 12 k (fun z => absurd z (by omega)) (fun _ => ⟨?_, ?_⟩)
            · rw [zz_12]
              exact vp_in_nI (by omega) (by decide)
            · rw [zz_12, nI_clamp (show i * 12 + k < 2 ^ 31 by omega)]
              exact zz_st hk rfl (nm_r (nI_1 k) hw')

/-! ## moment -/
noncomputable def mm_ub (a b : Nat) (U : zz_T) : zz_T := if a = b then U else mm_urge a b U
noncomputable def mm_ua (a : Nat) (T : zz_T) : zz_T := zz_it (mm_ub a) 8 T
def mm_tick (S : zz_T) : zz_T := zz_s S 4 0 (S 4 0 + 1)
noncomputable def mm_mom (S : zz_T) : zz_T := zz_it mm_ua 8 (mm_listen (mm_tick S))
/-- what a moment needs of the state -/
def zz_M (S : zz_T) : Prop := (∀ i, i < 1024 → ∀ T, T = zz_it mm_lst i (mm_tick S) → ¬ T 32 i = 0 → ¬ T 4 0 < T 35 i → zz_L i T) ∧
  ∀ a b, a < 8 → b < 8 → a ≠ b → ∀ U, U = zz_it (mm_ub a) b (zz_it mm_ua a (mm_listen (mm_tick S))) → zz_U (a + 8 * b) (mm_snd a b U) U
theorem wk_mom24 {post : St1 → Prop} {J : Int32 → Int32 → Int32 → Int32 → Int32 → Int32 → Int32 → (Nat → Int32) → (Nat → Int32) → (Nat → Int32) → (Nat → Int32) → (Nat → Int32) → (Nat → Int32) → (Nat → Int32) → (Nat → Int32) → (Nat → Int32) → (Nat → Int32) → (Nat → Int32) → (Nat → Int32) → (Nat → Int32) → (Nat → Int32) → (Nat → Int32) → (Nat → Int32) → (Nat → Int32) → (Nat → Int32) → (Nat → Int32) → (Nat → Int32) → (Nat → Int32) → (Nat → Int32) → (Nat → Int32) → (Nat → Int32) → (Nat → Int32) → (Nat → Int32) → (Nat → Int32) → (Nat → Int32) → (Nat → Int32) → (Nat → Int32) → (Nat → Int32) → (Nat → Int32) → (Nat → Int32) → (Nat → Int32) → (Nat → Int32) → (Nat → Int32) → (Nat → Int32) → (Nat → Int32) → Prop} {T : zz_T} {a : Nat} (ha : a < 8)
    (hU : ∀ b, b < 8 → a ≠ b → ∀ U, U = zz_it (mm_ub a) b T → zz_U (a + 8 * b) (mm_snd a b U) U)
    (H : ∀ U, U = mm_ua a T → J (nI (a + 1)) (U 0 0) (U 1 0) (U 2 0) (U 3 0) (U 4 0) (U 5 0) (U 6) (U 7) (U 8) (U 9) (U 10) (U 11) (U 12) (U 13) (U 14) (U 15) (U 16) (U 17) (U 18) (U 19) (U 20) (U 21) (U 22) (U 23) (U 24) (U 25) (U 26) (U 27) (U 28) (U 29) (U 30) (U 31) (U 32) (U 33) (U 34) (U 35) (U 36) (U 37) (U 38) (U 39) (U 40) (U 41) (U 42) (U 43)) : ∃ n, wX_moment_24 post J (nI a) n 0 (T 0 0) (T 1 0) (T 2 0) (T 3 0) (T 4 0) (T 5 0) (T 6) (T 7) (T 8) (T 9) (T 10) (T 11) (T 12) (T 13) (T 14) (T 15) (T 16) (T 17) (T 18) (T 19) (T 20) (T 21) (T 22) (T 23) (T 24) (T 25) (T 26) (T 27) (T 28) (T 29) (T 30) (T 31) (T 32) (T 33) (T 34) (T 35) (T 36) (T 37) (T 38) (T 39) (T 40) (T 41) (T 42) (T 43) := by
  refine zz_lq (fun n b U => wX_moment_24 post J (nI a) n (nI b) (U 0 0) (U 1 0) (U 2 0) (U 3 0) (U 4 0) (U 5 0) (U 6) (U 7) (U 8) (U 9) (U 10) (U 11) (U 12) (U 13) (U 14) (U 15) (U 16) (U 17) (U 18) (U 19) (U 20) (U 21) (U 22) (U 23) (U 24) (U 25) (U 26) (U 27) (U 28) (U 29) (U 30) (U 31) (U 32) (U 33) (U 34) (U 35) (U 36) (U 37) (U 38) (U 39) (U 40) (U 41) (U 42) (U 43)) (mm_ub a) 8 T ?_ ?_
  · intro n U hU'
    exact pk_le 8 8 (fun _ => nm_r (nI_1 a) (H U hU')) (fun z => absurd z (by omega))
  · intro n b U hb hU' hw
    refine pk_le 8 b (fun z => absurd z (by omega)) (fun _ => ?_)
    unfold mm_ub at hw
    by_cases e : a = b
    · rw [if_pos e] at hw
      exact br_t (by rw [e]) (nm_r (nI_1 b) hw)
    · rw [if_neg e] at hw
      refine br_f (fun z => e ((nI_eq (by omega) (by omega)).1 z)) ?_
      exact wk_urge (S := U) ha hb (hU b hb e U hU') (nm_r (nI_1 b) hw)
theorem wk_moment {post : St1 → Prop} {S : zz_T} (h : zz_M S) (H : ∀ T, T = mm_mom S → post (zz_u T)) : wpX_moment post (zz_u S) := by
  unfold wpX_moment zz_u
  dsimp only
  refine nm_e ?_
  refine wk_listen (S := mm_tick S) h.1 ?_
  intro L hL
  have hu := h.2
  unfold mm_mom at H
  rw [← hL] at hu H
  refine zz_lq (fun n a T => wX_moment_16 post n (nI a) (T 0 0) (T 1 0) (T 2 0) (T 3 0) (T 4 0) (T 5 0) (T 6) (T 7) (T 8) (T 9) (T 10) (T 11) (T 12) (T 13) (T 14) (T 15) (T 16) (T 17) (T 18) (T 19) (T 20) (T 21) (T 22) (T 23) (T 24) (T 25) (T 26) (T 27) (T 28) (T 29) (T 30) (T 31) (T 32) (T 33) (T 34) (T 35) (T 36) (T 37) (T 38) (T 39) (T 40) (T 41) (T 42) (T 43)) mm_ua 8 L ?_ ?_
  · intro n T hT
    exact pk_le 8 8 (fun _ => H T hT) (fun z => absurd z (by omega))
  · intro n a T ha hT hw
    refine pk_le 8 a (fun z => absurd z (by omega)) (fun _ => ?_)
    refine wk_mom24 (T := T) ha (fun b hb hab U hU => ?_) (fun U hU => ?_)
    · rw [hT] at hU
      exact hu a b ha hb hab U hU
    · rw [hU]
      exact hw

/-! ## settle -/
noncomputable def mm_run : Nat → zz_T → zz_T
  | 0, T => T
  | n + 1, T => @ite _ (zz_cnt (mm_rd T) 16 = 0) (Classical.propDecidable _) (T) (mm_run n (mm_mom T))
def mm_bits (x : Int32) : Int32 := zz_it (fun i r => r + ((x >>> (nI i &&& 31)) &&& 1)) 16 0
def mm_calm (S : zz_T) : zz_T := zz_it (fun i T => zz_s T 32 i 0) 1024 S
theorem wk_set66 {post : Int32 → St1 → Prop} {S : zz_T} {x : Int32} (H : post (mm_bits x) (zz_u S)) : ∃ n, wX_settle_66 post x (S 0 0) (S 1 0) (S 2 0) (S 3 0) (S 4 0) (S 5 0) (S 6) (S 7) (S 8) (S 9) (S 10) (S 11) (S 12) (S 13) (S 14) (S 15) (S 16) (S 17) (S 18) (S 19) (S 20) (S 21) (S 22) (S 23) (S 24) (S 25) (S 26) (S 27) (S 28) (S 29) (S 30) (S 31) (S 32) (S 33) (S 34) (S 35) (S 36) (S 37) (S 38) (S 39) (S 40) (S 41) (S 42) (S 43) n 0 0 := by
  refine zz_lq (fun n i r => wX_settle_66 post x (S 0 0) (S 1 0) (S 2 0) (S 3 0) (S 4 0) (S 5 0) (S 6) (S 7) (S 8) (S 9) (S 10) (S 11) (S 12) (S 13) (S 14) (S 15) (S 16) (S 17) (S 18) (S 19) (S 20) (S 21) (S 22) (S 23) (S 24) (S 25) (S 26) (S 27) (S 28) (S 29) (S 30) (S 31) (S 32) (S 33) (S 34) (S 35) (S 36) (S 37) (S 38) (S 39) (S 40) (S 41) (S 42) (S 43) n r (nI i)) (fun i r => r + ((x >>> (nI i &&& 31)) &&& 1)) 16 0 ?_ ?_
  · intro n r hr
    unfold mm_bits at H
    rw [← hr] at H
    exact pk_le 16 16 (fun _ => H) (fun z => absurd z (by omega))
  · intro n i r hi _ hw
    exact pk_le 16 i (fun z => absurd z (by omega)) (fun _ => nm_e (nm_r (nI_1 i) hw))
theorem wk_set52 {post : Int32 → St1 → Prop} {S : zz_T} {x : Int32} (H : post (mm_bits (S 2 0 &&& (x ^^^ (-1)))) (zz_u S)) : wX_settle_52 post x (S 0 0) (S 1 0) (S 2 0) (S 3 0) (S 4 0) (S 5 0) (S 6) (S 7) (S 8) (S 9) (S 10) (S 11) (S 12) (S 13) (S 14) (S 15) (S 16) (S 17) (S 18) (S 19) (S 20) (S 21) (S 22) (S 23) (S 24) (S 25) (S 26) (S 27) (S 28) (S 29) (S 30) (S 31) (S 32) (S 33) (S 34) (S 35) (S 36) (S 37) (S 38) (S 39) (S 40) (S 41) (S 42) (S 43) := by
  unfold wX_settle_52
  exact nm_e (wk_set66 H)
theorem wk_set29 {post : Int32 → St1 → Prop} {x : Int32} (J : zz_T → Prop) (hJ : ∀ T, J T → zz_910 T ∧ (zz_cnt (mm_rd T) 16 ≠ 0 → zz_M T ∧ J (mm_mom T))) :
    ∀ n k T, k + n = 60000 → J T → (∀ U, U = mm_run n T → post (mm_bits (U 2 0 &&& (x ^^^ (-1)))) (zz_u U)) → wX_settle_29 post x (n + 1) (nI k) (T 0 0) (T 1 0) (T 2 0) (T 3 0) (T 4 0) (T 5 0) (T 6) (T 7) (T 8) (T 9) (T 10) (T 11) (T 12) (T 13) (T 14) (T 15) (T 16) (T 17) (T 18) (T 19) (T 20) (T 21) (T 22) (T 23) (T 24) (T 25) (T 26) (T 27) (T 28) (T 29) (T 30) (T 31) (T 32) (T 33) (T 34) (T 35) (T 36) (T 37) (T 38) (T 39) (T 40) (T 41) (T 42) (T 43) := by
  intro n
  induction n with
  | zero =>
    intro k T hk _ H
    obtain rfl : k = 60000 := by omega
    exact pk_le 60000 60000 (fun _ => wk_set52 (H T rfl)) (fun z => absurd z (by omega))
  | succ n ih =>
    intro k T hk hT H
    obtain ⟨h9, hm⟩ := hJ T hT
    refine pk_le 60000 k (fun z => absurd z (by omega)) (fun _ => ?_)
    refine wk_ready (S := T) h9 ?_
    have hle := zz_cntle (P := mm_rd T) 16
    by_cases c : zz_cnt (mm_rd T) 16 = 0
    · refine br_t (by rw [c]; decide) (wk_set52 (H T ?_))
      unfold mm_run
      rw [if_pos c]
    · obtain ⟨hM, hJ'⟩ := hm c
      refine br_f (nI_nle (by omega) (by omega)) ?_
      refine wk_moment (S := T) hM ?_
      intro U hU
      refine nm_r (nI_1 k) (ih (k + 1) U (by omega) (by rw [hU]; exact hJ') (fun V hV => H V ?_))
      unfold mm_run
      rw [if_neg c, hV, hU]
theorem wk_settle {post : Int32 → St1 → Prop} {S : zz_T} (J : zz_T → Prop) (hJ : ∀ T, J T → zz_910 T ∧ (zz_cnt (mm_rd T) 16 ≠ 0 → zz_M T ∧ J (mm_mom T))) (h0 : J (mm_calm S))
    (H : ∀ U, U = mm_run 60000 (mm_calm S) → post (mm_bits (U 2 0 &&& (S 2 0 ^^^ (-1)))) (zz_u U)) : wpX_settle post (zz_u S) := by
  refine zz_lq (fun n i T => wX_settle_7 post (S 2 0) (T 0 0) (T 1 0) (T 2 0) (T 3 0) (T 4 0) (T 5 0) n (nI i) (T 6) (T 7) (T 8) (T 9) (T 10) (T 11) (T 12) (T 13) (T 14) (T 15) (T 16) (T 17) (T 18) (T 19) (T 20) (T 21) (T 22) (T 23) (T 24) (T 25) (T 26) (T 27) (T 28) (T 29) (T 30) (T 31) (T 32) (T 33) (T 34) (T 35) (T 36) (T 37) (T 38) (T 39) (T 40) (T 41) (T 42) (T 43)) (fun i T => zz_s T 32 i 0) 1024 S ?_ ?_
  · intro n T hT
    refine pk_le 1024 1024 (fun _ => ?_) (fun z => absurd z (by omega))
    unfold mm_calm at h0 H
    rw [← hT] at h0 H
    exact ⟨60001, wk_set29 J hJ 60000 0 T rfl h0 H⟩
  · intro n i T hi _ hw
    exact pk_le 1024 i (fun z => absurd z (by omega)) (fun _ => zz_st hi rfl (nm_r (nI_1 i) hw))

