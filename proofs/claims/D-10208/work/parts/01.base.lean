/-- the state as a picture: field, place. Fields 0..5: draftLength, present, there, serials, now, airNext (at place 0); 5 + k: the array a_k -/
abbrev zz_T : Type := Nat → Nat → Int32
def zz_u (S : zz_T) : St1 := (S 0 0, S 1 0, S 2 0, S 3 0, S 4 0, S 5 0, S 6, S 7, S 8, S 9, S 10, S 11, S 12, S 13, S 14, S 15, S 16, S 17, S 18, S 19, S 20, S 21, S 22, S 23, S 24, S 25, S 26, S 27, S 28, S 29, S 30, S 31, S 32, S 33, S 34, S 35, S 36, S 37, S 38, S 39, S 40, S 41, S 42, S 43)
/-- one place written -/
def zz_s (S : zz_T) (f i : Nat) (v : Int32) : zz_T := fun g => if g = f then upd (S f) i v else S g
theorem zz_se {S : zz_T} {f i : Nat} {v : Int32} : zz_s S f i v f = upd (S f) i v := if_pos rfl
theorem zz_sn {S : zz_T} {f i g : Nat} {v : Int32} (h : g ≠ f) : zz_s S f i v g = S g := if_neg h
/-- f 0, f 1, .., f (n - 1), one after the other -/
def zz_it {σ : Type} (f : Nat → σ → σ) : Nat → σ → σ
  | 0, s => s
  | n + 1, s => f n (zz_it f n s)
theorem zz_lp {σ : Type} (W : Nat → Nat → σ → Prop) (f : Nat → σ → σ) (I : Nat → σ → Prop) (e : Nat) (S : σ) (h0 : I 0 S)
    (hI : ∀ i s, i < e → I i s → I (i + 1) (f i s)) (hx : ∀ n, I e (zz_it f e S) → W (n + 1) e (zz_it f e S))
    (hs : ∀ n i s, i < e → I i s → W n (i + 1) (f i s) → W (n + 1) i s) : ∃ n, W n 0 S :=
  pk_loop W (fun i s => I i s ∧ s = zz_it f i S) e 0 S (Nat.zero_le e) ⟨h0, rfl⟩
    (fun n s h => by
      obtain ⟨h1, rfl⟩ := h
      exact hx n h1)
    (fun n i s hi h hw => by
      obtain ⟨h1, rfl⟩ := h
      exact hs n i _ hi h1 (hw _ ⟨hI i _ hi h1, rfl⟩))
/-- a store -/
theorem zz_st {i : Int32} {N k : Nat} {a : Nat → Int32} {v : Int32} {P : (Nat → Int32) → Prop} (hk : k < N) (hi : i = nI k) (h : P (upd a k v)) (hN : N < 2 ^ 31 := by decide) :
    vp_in i N ∧ ∀ a', a' = upd a i.toNatClampNeg v → P a' := by
  subst hi
  refine ⟨vp_in_nI hk hN, fun a' ha => ?_⟩
  rw [ha, nI_clamp (Nat.lt_trans hk hN)]
  exact h
theorem zz_w {s i : Nat} : nI s * 8 + nI i = nI (s * 8 + i) := by
  rw [show (8 : Int32) = nI 8 from rfl, pk_mul, nI_add]
theorem zz_p {s i : Nat} : nI s + 8 * nI i = nI (s + 8 * i) := by
  rw [show (8 : Int32) = nI 8 from rfl, pk_mul, nI_add]
theorem zz_64 {s i : Nat} : nI s * 64 + nI i = nI (s * 64 + i) := by
  rw [show (64 : Int32) = nI 64 from rfl, pk_mul, nI_add]
theorem zz_12 {s i : Nat} : nI s * 12 + nI i = nI (s * 12 + i) := by
  rw [show (12 : Int32) = nI 12 from rfl, pk_mul, nI_add]
/-! ## clear -/
def mm_clr1 (s i : Nat) (S : zz_T) : zz_T :=
  zz_s (zz_s (zz_s (zz_s (zz_s (zz_s (zz_s (zz_s (zz_s S 18 (s * 8 + i) (-1)) 20 (s * 8 + i) 0) 19 (s * 8 + i) 0) 21 (s * 8 + i) (S 4 0 - 24)) 25 (s + 8 * i) 0) 28 (s + 8 * i) 0) 27 (s + 8 * i) 0) 29 (i + 8 * s) 0) 30 (i + 8 * s) 0
def mm_clr2 (s i : Nat) (S : zz_T) : zz_T := zz_s S 22 (s * 64 + i) (-1)
def mm_clear (s : Nat) (S : zz_T) : zz_T := zz_it (mm_clr2 s) 64 (zz_it (mm_clr1 s) 8 S)
theorem wk_clear {post : St1 → Prop} {S : zz_T} {s : Nat} (hs : s < 8) (H : post (zz_u (mm_clear s S))) : wpX_clear post (zz_u S) (nI s) := by
  refine zz_lp (fun n i T => wX_clear_2 post (nI s) (T 0 0) (T 1 0) (T 2 0) (T 3 0) (T 4 0) (T 5 0) n (nI i) (T 6) (T 7) (T 8) (T 9) (T 10) (T 11) (T 12) (T 13) (T 14) (T 15) (T 16) (T 17) (T 18) (T 19) (T 20) (T 21) (T 22) (T 23) (T 24) (T 25) (T 26) (T 27) (T 28) (T 29) (T 30) (T 31) (T 32) (T 33) (T 34) (T 35) (T 36) (T 37) (T 38) (T 39) (T 40) (T 41) (T 42) (T 43)) (mm_clr1 s) (fun _ _ => True) 8 S trivial (fun _ _ _ _ => trivial) ?_ ?_
  · intro n _
    refine pk_le 8 8 (fun _ => ?_) (fun z => absurd z (by omega))
    refine zz_lp (fun n i T => wX_clear_111 post (nI s) (T 0 0) (T 1 0) (T 2 0) (T 3 0) (T 4 0) (T 5 0) n (nI i) (T 6) (T 7) (T 8) (T 9) (T 10) (T 11) (T 12) (T 13) (T 14) (T 15) (T 16) (T 17) (T 18) (T 19) (T 20) (T 21) (T 22) (T 23) (T 24) (T 25) (T 26) (T 27) (T 28) (T 29) (T 30) (T 31) (T 32) (T 33) (T 34) (T 35) (T 36) (T 37) (T 38) (T 39) (T 40) (T 41) (T 42) (T 43)) (mm_clr2 s) (fun _ _ => True) 64 (zz_it (mm_clr1 s) 8 S) trivial (fun _ _ _ _ => trivial) ?_ ?_
    · intro n _
      exact pk_le 64 64 (fun _ => H) (fun z => absurd z (by omega))
    · intro n i T hi _ hw
      exact pk_le 64 i (fun z => absurd z (by omega)) (fun _ => zz_st (k := s * 64 + i) (by omega) zz_64 (nm_r (nI_1 i) hw))
  · intro n i T hi _ hw
    exact pk_le 8 i (fun z => absurd z (by omega)) (fun _ => nm_r zz_w (zz_st (k := s * 8 + i) (by omega) rfl (zz_st (k := s * 8 + i) (by omega) rfl (zz_st (k := s * 8 + i) (by omega) rfl (zz_st (k := s * 8 + i) (by omega) rfl
      (zz_st (k := s + 8 * i) (by omega) zz_p (zz_st (k := s + 8 * i) (by omega) zz_p (zz_st (k := s + 8 * i) (by omega) zz_p (zz_st (k := i + 8 * s) (by omega) zz_p (zz_st (k := i + 8 * s) (by omega) zz_p (nm_r (nI_1 i) hw)))))))))))
