/-! ## isUp, begin, copyReadToWire, fly -/
theorem zz_cl {k : Nat} {i : Int32} (h : k < 2 ^ 31) (hi : i = nI k) : i.toNatClampNeg = k := by rw [hi, nI_clamp h]
/-- the link from a to station b (an int) is up -/
def mm_up (S : zz_T) (a : Nat) (b : Int32) : Prop := ¬ ((S 6 a >>> (b &&& 31)) &&& 1) = 0
theorem wk_isUp {post : Int32 → Prop} {S : zz_T} {a : Nat} {b : Int32} (ha : a < 8) (H0 : ¬ mm_up S a b → post 0) (H1 : mm_up S a b → post 1) : wpX_isUp post (zz_u S) (nI a) b := by
  refine And.intro (vp_in_nI ha (by decide)) ?_
  rw [nI_clamp (show a < 2 ^ 31 by omega)]
  exact ⟨fun h => H0 (fun z => z h), fun h => H1 h⟩
def mm_beg (kind fr goal : Int32) (S : zz_T) : zz_T := zz_s (zz_s (zz_s (zz_it (fun k T => zz_s T 42 k 0) 12 S) 42 0 kind) 42 1 fr) 42 2 goal
theorem wk_begin {post : St1 → Prop} {S : zz_T} {k f g : Int32} (H : post (zz_u (mm_beg k f g S))) : wpX_begin post (zz_u S) k f g := by
  refine zz_lp (fun n i T => wX_begin_3 post k f g (T 0 0) (T 1 0) (T 2 0) (T 3 0) (T 4 0) (T 5 0) n (nI i) (T 6) (T 7) (T 8) (T 9) (T 10) (T 11) (T 12) (T 13) (T 14) (T 15) (T 16) (T 17) (T 18) (T 19) (T 20) (T 21) (T 22) (T 23) (T 24) (T 25) (T 26) (T 27) (T 28) (T 29) (T 30) (T 31) (T 32) (T 33) (T 34) (T 35) (T 36) (T 37) (T 38) (T 39) (T 40) (T 41) (T 42) (T 43)) (fun k T => zz_s T 42 k 0) (fun _ _ => True) 12 S trivial (fun _ _ _ _ => trivial) ?_ ?_
  · intro n _
    exact pk_le 12 12 (fun _ => nm_e (nm_e (nm_e H))) (fun z => absurd z (by omega))
  · intro n i T hi _ hw
    exact pk_le 12 i (fun z => absurd z (by omega)) (fun _ => zz_st (k := i) (by omega) rfl (nm_r (nI_1 i) hw))
def mm_cpy (S : zz_T) : zz_T := zz_it (fun k T => zz_s T 42 k (T 43 k)) 12 S
theorem wk_copy {post : St1 → Prop} {S : zz_T} (H : post (zz_u (mm_cpy S))) : wpX_copyReadToWire post (zz_u S) := by
  refine zz_lp (fun n i T => wX_copyReadToWire_2 post (T 0 0) (T 1 0) (T 2 0) (T 3 0) (T 4 0) (T 5 0) n (nI i) (T 6) (T 7) (T 8) (T 9) (T 10) (T 11) (T 12) (T 13) (T 14) (T 15) (T 16) (T 17) (T 18) (T 19) (T 20) (T 21) (T 22) (T 23) (T 24) (T 25) (T 26) (T 27) (T 28) (T 29) (T 30) (T 31) (T 32) (T 33) (T 34) (T 35) (T 36) (T 37) (T 38) (T 39) (T 40) (T 41) (T 42) (T 43)) (fun k T => zz_s T 42 k (T 43 k)) (fun _ _ => True) 12 S trivial (fun _ _ _ _ => trivial) ?_ ?_
  · intro n _
    exact pk_le 12 12 (fun _ => H) (fun z => absurd z (by omega))
  · intro n i T hi _ hw
    refine pk_le 12 i (fun z => absurd z (by omega)) (fun _ => ?_)
    refine ⟨vp_in_nI (by omega) (by decide), ?_⟩
    rw [nI_clamp (show i < 2 ^ 31 by omega)]
    exact ⟨vp_in_nI (by omega) (by decide), nm_e (nm_r (nI_1 i) hw)⟩
def mm_fly (s to due : Int32) (S : zz_T) : zz_T :=
  zz_it (fun k T => zz_s T 36 ((S 5 0).toNatClampNeg * 12 + k) (T 42 k)) 12
    (zz_s (zz_s (zz_s (zz_s (zz_s S 5 0 (nI (((S 5 0).toNatClampNeg + 1) % 1024))) 32 (S 5 0).toNatClampNeg 1) 33 (S 5 0).toNatClampNeg s.toInt8.toInt32) 34 (S 5 0).toNatClampNeg to.toInt8.toInt32) 35 (S 5 0).toNatClampNeg due)
theorem wk_fly {post : St1 → Prop} {S : zz_T} {s to due : Int32} {j : Nat} (hj : S 5 0 = nI j) (h : j < 1024) (H : post (zz_u (mm_fly s to due S))) : wpX_fly post (zz_u S) s to due := by
  have hc : (S 5 0).toNatClampNeg = j := zz_cl (by omega) hj
  unfold mm_fly at H
  rw [hc] at H
  refine And.intro (by decide) ?_
  refine nm_r (e' := nI ((j + 1) % 1024)) ?_ ?_
  · show S 5 0 + 1 - (S 5 0 + 1) / 1024 * 1024 = _
    rw [hj, nI_1, show (1024 : Int32) = nI 1024 from rfl, pk_rem (by omega) (by omega) (by omega)]
  · refine zz_st h hj (zz_st h hj (zz_st h hj (zz_st h hj ?_)))
    refine zz_lp (fun n i T => wX_fly_57 post (S 5 0) (T 0 0) (T 1 0) (T 2 0) (T 3 0) (T 4 0) (T 5 0) n (nI i) (T 6) (T 7) (T 8) (T 9) (T 10) (T 11) (T 12) (T 13) (T 14) (T 15) (T 16) (T 17) (T 18) (T 19) (T 20) (T 21) (T 22) (T 23) (T 24) (T 25) (T 26) (T 27) (T 28) (T 29) (T 30) (T 31) (T 32) (T 33) (T 34) (T 35) (T 36) (T 37) (T 38) (T 39) (T 40) (T 41) (T 42) (T 43)) (fun k T => zz_s T 36 (j * 12 + k) (T 42 k)) (fun _ _ => True) 12
      (zz_s (zz_s (zz_s (zz_s (zz_s S 5 0 (nI ((j + 1) % 1024))) 32 j 1) 33 j s.toInt8.toInt32) 34 j to.toInt8.toInt32) 35 j due) trivial (fun _ _ _ _ => trivial) ?_ ?_
    · intro n _
      exact pk_le 12 12 (fun _ => H) (fun z => absurd z (by omega))
    · intro n i T hi _ hw
      refine pk_le 12 i (fun z => absurd z (by omega)) (fun _ => ?_)
      refine ⟨vp_in_nI (by omega) (by decide), ?_⟩
      rw [nI_clamp (show i < 2 ^ 31 by omega)]
      exact zz_st (k := j * 12 + i) (by omega) (by rw [hj]; exact zz_12) (nm_r (nI_1 i) hw)
