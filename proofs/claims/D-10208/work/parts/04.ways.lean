/-! ## tellAll, giveUp, passOn, hasWay, carryOn -/
noncomputable def mm_tl (s k : Nat) (T : zz_T) : zz_T := @ite _ (mm_up T s (nI k)) (Classical.propDecidable _) (mm_send s (nI k) T) (T)
noncomputable def mm_tell (s : Nat) (S : zz_T) : zz_T := zz_it (mm_tl s) 8 S
theorem zz_5tl {s k : Nat} {T : zz_T} (h : zz_5 T) : zz_5 (mm_tl s k T) := by
  unfold mm_tl
  split
  · exact zz_5send h
  · exact h
theorem zz_5tell {s : Nat} {S : zz_T} (h : zz_5 S) : zz_5 (mm_tell s S) := zz_itI (fun _ T => zz_5 T) h (fun _ _ _ hT => zz_5tl hT)
theorem wk_tell {post : St1 → Prop} {S : zz_T} {s : Nat} (hs : s < 8) (h5 : zz_5 S) (H : post (zz_u (mm_tell s S))) : wpX_tellAll post (zz_u S) (nI s) := by
  refine zz_lp (fun n i T => wX_tellAll_2 post (nI s) n (nI i) (T 0 0) (T 1 0) (T 2 0) (T 3 0) (T 4 0) (T 5 0) (T 6) (T 7) (T 8) (T 9) (T 10) (T 11) (T 12) (T 13) (T 14) (T 15) (T 16) (T 17) (T 18) (T 19) (T 20) (T 21) (T 22) (T 23) (T 24) (T 25) (T 26) (T 27) (T 28) (T 29) (T 30) (T 31) (T 32) (T 33) (T 34) (T 35) (T 36) (T 37) (T 38) (T 39) (T 40) (T 41) (T 42) (T 43)) (mm_tl s) (fun _ T => zz_5 T) 8 S h5 (fun _ _ _ hT => zz_5tl hT) ?_ ?_
  · intro n _
    exact pk_le 8 8 (fun _ => H) (fun z => absurd z (by omega))
  · intro n i T hi hT hw
    refine pk_le 8 i (fun z => absurd z (by omega)) (fun _ => ?_)
    refine wk_isUp hs (fun c => br_t rfl ?_) (fun c => br_f (by decide) ?_)
    · rw [show mm_tl s i T = T from if_neg c] at hw
      exact nm_r (nI_1 i) hw
    · rw [show mm_tl s i T = mm_send s (nI i) T from if_pos c] at hw
      exact wk_send hs hT (nm_r (nI_1 i) hw)
theorem zz_5beg {k f g : Int32} {S : zz_T} (h : zz_5 S) : zz_5 (mm_beg k f g S) := by
  refine zz_5s (by decide) (zz_5s (by decide) (zz_5s (by decide) ?_))
  exact zz_itI (fun _ T => zz_5 T) h (fun _ _ _ hT => zz_5s (by decide) hT)
theorem zz_5cpy {S : zz_T} (h : zz_5 S) : zz_5 (mm_cpy S) := zz_itI (fun _ T => zz_5 T) h (fun _ _ _ hT => zz_5s (by decide) hT)
def mm_lossW (s g : Nat) (S : zz_T) : zz_T :=
  zz_s (mm_beg 2 (nI s) (nI g) (zz_s S 18 (s * 8 + g) (-1))) 42 3 (mm_beg 2 (nI s) (nI g) (zz_s S 18 (s * 8 + g) (-1)) 20 (s * 8 + g))
noncomputable def mm_give (s g : Nat) (S : zz_T) : zz_T := mm_tell s (mm_lossW s g S)
theorem zz_5lossW {s g : Nat} {S : zz_T} (h : zz_5 S) : zz_5 (mm_lossW s g S) := zz_5s (by decide) (zz_5beg (zz_5s (by decide) h))
theorem zz_5give {s g : Nat} {S : zz_T} (h : zz_5 S) : zz_5 (mm_give s g S) := zz_5tell (zz_5lossW h)
theorem wk_give {post : St1 → Prop} {S : zz_T} {s g : Nat} (hs : s < 8) (hg : g < 8) (h5 : zz_5 S) (H : post (zz_u (mm_give s g S))) : wpX_giveUp post (zz_u S) (nI s) (nI g) := by
  refine nm_r zz_w ?_
  refine zz_st (k := s * 8 + g) (by omega) rfl ?_
  refine wk_begin (S := zz_s S 18 (s * 8 + g) (-1)) ?_
  refine And.intro (vp_in_nI (by omega) (by decide)) ?_
  rw [nI_clamp (show s * 8 + g < 2 ^ 31 by omega)]
  exact nm_e (wk_tell (S := mm_lossW s g S) hs (zz_5lossW h5) H)
noncomputable def mm_pass (s : Nat) (S : zz_T) : zz_T :=
  @ite _ (S 18 (s * 8 + (S 42 2).toNatClampNeg) = -1) (Classical.propDecidable _) (S) (@ite _ (mm_up S s (S 18 (s * 8 + (S 42 2).toNatClampNeg))) (Classical.propDecidable _) (mm_send s (S 18 (s * 8 + (S 42 2).toNatClampNeg)) S) (mm_give s (S 42 2).toNatClampNeg S))
theorem zz_5pass {s : Nat} {S : zz_T} (h : zz_5 S) : zz_5 (mm_pass s S) := by
  unfold mm_pass
  split
  · exact h
  · split
    · exact zz_5send h
    · exact zz_5give h
theorem wk_pass {post : St1 → Prop} {S : zz_T} {s g : Nat} (hs : s < 8) (hg : g < 8) (eg : S 42 2 = nI g) (h5 : zz_5 S) (H : post (zz_u (mm_pass s S))) : wpX_passOn post (zz_u S) (nI s) := by
  unfold mm_pass at H
  rw [zz_cl (by omega) eg] at H
  refine nm_r (e' := nI g) eg ?_
  refine nm_r zz_w ?_
  refine And.intro (vp_in_nI (by omega) (by decide)) ?_
  rw [nI_clamp (show s * 8 + g < 2 ^ 31 by omega)]
  refine nm_e ⟨fun c => ?_, fun c => ?_⟩
  · rw [if_pos c] at H
    exact H
  · rw [if_neg c] at H
    refine wk_isUp hs (fun u => br_t rfl ?_) (fun u => br_f (by decide) ?_)
    · rw [if_neg u] at H
      exact wk_give hs hg h5 H
    · rw [if_pos u] at H
      exact wk_send hs h5 H
/-- hasWay: whether, and the state -/
def mm_hwP (s g : Nat) (S : zz_T) : Prop := ¬ S 18 (s * 8 + g) = -1 ∧ mm_up S s (S 18 (s * 8 + g))
noncomputable def mm_hw (s g : Nat) (S : zz_T) : zz_T :=
  @ite _ (S 18 (s * 8 + g) = -1) (Classical.propDecidable _) (S) (@ite _ (mm_up S s (S 18 (s * 8 + g))) (Classical.propDecidable _) (S) (mm_give s g S))
theorem zz_5hw {s g : Nat} {S : zz_T} (h : zz_5 S) : zz_5 (mm_hw s g S) := by
  unfold mm_hw
  split
  · exact h
  · split
    · exact h
    · exact zz_5give h
theorem wk_hw {post : Int32 → St1 → Prop} {S : zz_T} {s g : Nat} (hs : s < 8) (hg : g < 8) (h5 : zz_5 S) (H0 : ¬ mm_hwP s g S → post 0 (zz_u (mm_hw s g S))) (H1 : mm_hwP s g S → post 1 (zz_u (mm_hw s g S))) : wpX_hasWay post (zz_u S) (nI s) (nI g) := by
  unfold mm_hw at H0 H1
  refine nm_r zz_w ?_
  refine And.intro (vp_in_nI (by omega) (by decide)) ?_
  rw [nI_clamp (show s * 8 + g < 2 ^ 31 by omega)]
  refine nm_e ⟨fun c => ?_, fun c => ?_⟩
  · rw [if_pos c] at H0
    exact H0 (fun z => z.1 c)
  · rw [if_neg c] at H0 H1
    refine wk_isUp hs (fun u => br_t rfl ?_) (fun u => br_f (by decide) ?_)
    · rw [if_neg u] at H0
      exact wk_give hs hg h5 (H0 (fun z => u z.2))
    · rw [if_pos u] at H1
      exact H1 ⟨c, u⟩
def mm_lifeW (S : zz_T) : zz_T := zz_s (mm_cpy S) 42 5 (mm_cpy S 42 5 - 1)
noncomputable def mm_carry (s : Nat) (S : zz_T) : zz_T := @ite _ (mm_lifeW S 42 5 ≤ 0) (Classical.propDecidable _) (mm_lifeW S) (mm_pass s (mm_lifeW S))
theorem zz_5lifeW {S : zz_T} (h : zz_5 S) : zz_5 (mm_lifeW S) := zz_5s (by decide) (zz_5cpy h)
theorem zz_5carry {s : Nat} {S : zz_T} (h : zz_5 S) : zz_5 (mm_carry s S) := by
  unfold mm_carry
  split
  · exact zz_5lifeW h
  · exact zz_5pass (zz_5lifeW h)
theorem zz_cpyw {S : zz_T} {k : Nat} (hk : k < 12) : mm_cpy S 42 k = S 43 k := by
  have h : ∀ n, n ≤ 12 → zz_it (fun k T => zz_s T 42 k (T 43 k)) n S 43 = S 43 ∧ ∀ j, j < n → zz_it (fun k T => zz_s T 42 k (T 43 k)) n S 42 j = S 43 j := by
    intro n
    induction n with
    | zero => exact fun _ => ⟨rfl, fun j hj => absurd hj (by omega)⟩
    | succ n ih =>
      intro hn
      obtain ⟨h1, h2⟩ := ih (by omega)
      refine ⟨by rw [← h1]; exact zz_sn (by decide), fun j hj => ?_⟩
      show zz_s _ 42 n _ 42 j = _
      rw [zz_se]
      by_cases e : j = n
      · rw [e, pk_us, h1]
      · rw [pk_un e]
        exact h2 j (by omega)
  exact (h 12 (Nat.le_refl _)).2 k hk
theorem zz_cpyo {S : zz_T} {f : Nat} (hf : f ≠ 42) : mm_cpy S f = S f := zz_itn (fun _ _ => zz_sn hf) 12 S
theorem wk_carry {post : St1 → Prop} {S : zz_T} {s g : Nat} (hs : s < 8) (hg : g < 8) (eg : S 43 2 = nI g) (h5 : zz_5 S) (H : post (zz_u (mm_carry s S))) : wpX_carryOn post (zz_u S) (nI s) := by
  unfold mm_carry at H
  refine wk_copy (S := S) ?_
  refine nm_e ⟨fun c => ?_, fun c => ?_⟩
  · rw [if_pos (show mm_lifeW S 42 5 ≤ 0 from c)] at H
    exact H
  · rw [if_neg (show ¬ mm_lifeW S 42 5 ≤ 0 from c)] at H
    refine wk_pass (S := mm_lifeW S) hs hg ?_ (zz_5lifeW h5) H
    show zz_s (mm_cpy S) 42 5 _ 42 2 = nI g
    rw [zz_se, pk_un (by decide), zz_cpyw (by decide), eg]
