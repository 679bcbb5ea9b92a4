/-! ## row -/
/-- what the row says of its message w: 0, or one byte and 1 -/
def mm_due (row : Int64) (w : Nat) : Int32 := ((row >>> ((9 * nI w).toInt64 &&& 63)).toInt32) &&& 511
/-- message m, come, is what the row says -/
def zz_ct (S : zz_T) (m : Nat) (d : Int32) : Prop := (d = 0 → S 11 m = 0) ∧ (¬ d = 0 → S 11 m = 1 ∧ S 13 (m * 8) &&& 255 = d - 1)
theorem wk_row72 {post : Int32 → Prop} {J : Int32 → Int32 → Prop} {S : zz_T} {a b i m : Nat} {row : Int64} {x6 x7 z : Int32} (ha : a < 8) (hb : b < 8) (hi : i < 2 ^ 31) (hm : m < 16) (hf : mm_find S (nI a) (nI b) i = some m)
    (hz : z < 0 ∨ zz_ct S m z) (HJ : J 1 (nI (i + 1))) : wL_row_72 post J (nI a) (nI b) row x6 x7 1 (nI i) z (S 0 0) (S 1 0) (S 2 0) (S 3 0) (S 4 0) (S 5 0) (S 6) (S 7) (S 8) (S 9) (S 10) (S 11) (S 12) (S 13) (S 14) (S 15) (S 16) (S 17) (S 18) (S 19) (S 20) (S 21) (S 22) (S 23) (S 24) (S 25) (S 26) (S 27) (S 28) (S 29) (S 30) (S 31) (S 32) (S 33) (S 34) (S 35) (S 36) (S 37) (S 38) (S 39) (S 40) (S 41) (S 42) (S 43) := by
  unfold wL_row_72
  refine wk_len (S := S) hi (fun e => by rw [hf] at e; cases e) (fun m' _ e => ?_)
  rw [hf] at e
  injection e with e
  subst e
  refine br_f (by decide) ?_
  by_cases c : z < 0
  · exact br_t c (nm_r (nI_1 i) HJ)
  · refine br_f c ?_
    obtain ⟨h0, h1⟩ := hz.resolve_left c
    by_cases d : z = 0
    · exact br_t d (br_t (h0 d) (nm_r (nI_1 i) HJ))
    · obtain ⟨h2, h3⟩ := h1 d
      refine br_f d (br_t h2 ?_)
      rw [zz_p]
      refine wk_byte (S := S) (k := 0) ha hb hi (by decide) (fun e => by rw [hf] at e; cases e) (fun m' _ e => ?_)
      rw [hf] at e
      injection e with e
      subst e
      exact ⟨fun _ => br_t h3 (nm_r (nI_1 i) HJ), fun q => absurd (by rw [h2]; decide) q⟩
theorem wk_row {post : Int32 → Prop} {S : zz_T} {a b n w tk sent : Nat} {row : Int64} (ha : a < 8) (hb : b < 8) (hn : zz_cnt (mm_at S (nI a) (nI b)) 16 = n) (hw : zz_cnt (mm_wt S (nI a) (nI b)) 16 = w) (ht : tk < 2 ^ 30)
    (hs : n + tk + w = sent) (hc : ∀ i, i < n → ∃ m, m < 16 ∧ mm_find S (nI a) (nI b) i = some m ∧ (tk + i < 7 → zz_ct S m (mm_due row (tk + i)))) (H : post 1) : wpL_row post (zz_u S) (nI a) (nI b) row (nI sent) (nI tk) := by
  have hn16 := zz_cntle (P := mm_at S (nI a) (nI b)) 16
  unfold wpL_row zz_u
  dsimp only
  refine wk_arr (S := S) ha hb ?_
  refine wk_wait (S := S) ha hb ?_
  rw [hn] at hn16 ⊢
  rw [hw, nI_add, nI_add, hs]
  refine br_t rfl ?_
  refine zz_lq (fun n' i (u : Unit) => wL_row_35 post (nI a) (nI b) row (nI tk) (nI n) (S 0 0) (S 1 0) (S 2 0) (S 3 0) (S 4 0) (S 5 0) (S 6) (S 7) (S 8) (S 9) (S 10) (S 11) (S 12) (S 13) (S 14) (S 15) (S 16) (S 17) (S 18) (S 19) (S 20) (S 21) (S 22) (S 23) (S 24) (S 25) (S 26) (S 27) (S 28) (S 29) (S 30) (S 31) (S 32) (S 33) (S 34) (S 35) (S 36) (S 37) (S 38) (S 39) (S 40) (S 41) (S 42) (S 43) n' 1 (nI i)) (fun _ u => u) n () ?_ ?_
  · intro n' _ _
    exact pk_le n n (fun _ => ⟨by decide, H⟩) (fun z => absurd z (by omega))
  · intro n' i _ hi _ hw'
    obtain ⟨m, hm, hf, hd⟩ := hc i hi
    refine pk_le n i (fun z => absurd z (by omega)) (fun _ => nm_r (nI_add tk i) ?_)
    by_cases c : tk + i < 7
    · refine br_f (nI_ge c (by decide)) ?_
      exact wk_row72 (S := S) ha hb (by omega) hm hf (Or.inr (hd c)) hw'
    · refine br_t (nI_le (a := 7) (by omega) (by omega)) ?_
      exact wk_row72 (S := S) ha hb (by omega) hm hf (Or.inl (by decide)) hw'

/-! ## settles -/
theorem zz_cnt0 {P : Nat → Prop} : ∀ n, zz_cnt P n = 0 → ∀ i, i < n → ¬ P i
  | 0, _, i, hi => absurd hi (by omega)
  | n + 1, h, i, hi => by
    unfold zz_cnt at h
    by_cases c : P n
    · rw [if_pos c] at h
      omega
    · by_cases e : i = n
      · rw [e]
        exact c
      · exact zz_cnt0 n (by omega) i (by omega)
theorem zz_cnt1 {P : Nat → Prop} : ∀ n, zz_cnt P n ≠ 0 → ∃ i, i < n ∧ P i
  | 0, h => absurd rfl h
  | n + 1, h => by
    by_cases c : P n
    · exact ⟨n, by omega, c⟩
    · unfold zz_cnt at h
      rw [if_neg c] at h
      obtain ⟨i, hi, hp⟩ := zz_cnt1 n h
      exact ⟨i, by omega, hp⟩
theorem wk_settles {post : Int32 → St1 → Prop} {S : zz_T} (h9 : zz_910 S) (J : zz_T → Prop) (hJ : ∀ T, J T → zz_910 T ∧ (zz_cnt (mm_rd T) 16 ≠ 0 → zz_M T ∧ J (mm_mom T))) (h0 : J (mm_calm S))
    (H : ∀ U, U = mm_run 60000 (mm_calm S) → mm_bits (U 2 0 &&& (S 2 0 ^^^ (-1))) = nI (zz_cnt (mm_rd S) 16) ∧ zz_910 U ∧ zz_cnt (mm_rd U) 16 = 0 ∧ post 1 (zz_u U)) : wpL_settles post (zz_u S) := by
  unfold wpL_settles zz_u
  dsimp only
  refine wk_ready (S := S) h9 ?_
  refine wk_settle (S := S) J hJ h0 (fun U hU => ?_)
  obtain ⟨e1, g9, e0, hp⟩ := H U hU
  clear hU
  refine br_t e1 ?_
  refine wk_ready (S := U) g9 (br_t (by rw [e0]; rfl) ?_)
  refine zz_lq (fun n i (u : Unit) => wL_settles_31 post (U 0 0) (U 1 0) (U 2 0) (U 3 0) (U 4 0) (U 5 0) (U 6) (U 7) (U 8) (U 9) (U 10) (U 11) (U 12) (U 13) (U 14) (U 15) (U 16) (U 17) (U 18) (U 19) (U 20) (U 21) (U 22) (U 23) (U 24) (U 25) (U 26) (U 27) (U 28) (U 29) (U 30) (U 31) (U 32) (U 33) (U 34) (U 35) (U 36) (U 37) (U 38) (U 39) (U 40) (U 41) (U 42) (U 43) n 1 (nI i)) (fun _ u => u) 64 () ?_ ?_
  · intro n _ _
    exact pk_le 64 64 (fun _ => ⟨by decide, hp⟩) (fun z => absurd z (by omega))
  · intro n i _ hi _ hw
    refine pk_le 64 i (fun z => absurd z (by omega)) (fun _ => nm_r (zz_and7 (show i < 2 ^ 31 by omega)) (nm_r (zz_shr3 (show i < 2 ^ 31 by omega)) (br_f (by decide) ?_)))
    refine wk_wait (S := U) (show i % 8 < 8 by omega) (show i / 8 < 8 by omega) ?_
    by_cases c : zz_cnt (mm_wt U (nI (i % 8)) (nI (i / 8))) 16 = 0
    · exact br_t (by rw [c]; rfl) (nm_r (nI_1 i) hw)
    · have hle := zz_cntle (P := mm_wt U (nI (i % 8)) (nI (i / 8))) 16
      refine br_f (fun z => c ((nI_eq (by omega) (by decide)).1 (show _ = nI 0 from z))) ?_
      refine wk_dist (S := U) (show i % 8 < 8 by omega) (show i / 8 < 8 by omega) ?_
      obtain ⟨m, hm, w1, w2, w3, w4⟩ := zz_cnt1 16 c
      have hr := zz_cnt0 16 e0 m hm
      cases hd : mm_dist U (i % 8) (i / 8) with
      | none => exact br_t rfl (nm_r (nI_1 i) hw)
      | some k =>
        refine absurd ⟨w1, w2, k, ?_⟩ hr
        rw [w3, w4, nI_clamp (show i % 8 < 2 ^ 31 by omega), nI_clamp (show i / 8 < 2 ^ 31 by omega)]
        exact hd
