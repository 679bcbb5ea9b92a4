/-! ## forget, disturb, write, link -/
theorem wk_clear2 {post : St1 → Prop} {S : zz_T} {s : Nat} (hs : s < 8) (H : ∀ C : zz_T, C = mm_clear s S → post (zz_u C)) : wpX_clear post (zz_u S) (nI s) := wk_clear hs (H _ rfl)
theorem wk_forget {post : Int32 → St1 → Prop} {S : zz_T} {a : Nat} (ha : a < 8) (H : ∀ C : zz_T, C = mm_clear a S → post 1 (zz_u (zz_s C 16 a (C 16 a + 1)))) : wpX_forget post (zz_u S) (nI a) := by
  have hv : vp_in (nI a) 8 := vp_in_nI ha (by decide)
  unfold wpX_forget zz_u
  dsimp only
  refine wk_sta ha (br_f (by decide) ?_)
  refine wk_clear2 (S := S) ha (fun C hC => ?_)
  have H' := H C hC
  clear hC
  exact ⟨hv, zz_st ha rfl (by rw [nI_clamp (show a < 2 ^ 31 by omega)]; exact H')⟩
theorem wk_disturb {post : Int32 → St1 → Prop} {S : zz_T} {a : Nat} {k d : Int32} (ha : a < 8) (k0 : ¬ k < 0) (k1 : ¬ 20 < k) (d0 : ¬ d < 0) (d1 : d ≤ 2)
    (H : ∀ T : zz_T, (∀ f, f < 38 ∨ 41 < f → T f = S f) → (∃ i, ∀ j, j ≠ i → T 38 j = S 38 j) → post 1 (zz_u T)) : wpX_disturb post (zz_u S) (nI a) k d := by
  unfold wpX_disturb zz_u
  dsimp only
  refine wk_sta ha (br_f (by decide) (br_f k0 (br_f k1 (br_f d0 (br_t d1 ⟨17, ?_⟩)))))
  have key : ∀ n i, i + n = 16 → wX_disturb_31 post (nI a) k d (S 0 0) (S 1 0) (S 2 0) (S 3 0) (S 4 0) (S 5 0) (S 6) (S 7) (S 8) (S 9) (S 10) (S 11) (S 12) (S 13) (S 14) (S 15) (S 16) (S 17) (S 18) (S 19) (S 20) (S 21) (S 22) (S 23) (S 24) (S 25) (S 26) (S 27) (S 28) (S 29) (S 30) (S 31) (S 32) (S 33) (S 34) (S 35) (S 36) (S 37) (S 38) (S 39) (S 40) (S 41) (S 42) (S 43) (n + 1) (nI i) := by
    intro n
    induction n with
    | zero =>
      intro i hi
      obtain rfl : i = 16 := by omega
      exact pk_le 16 16 (fun _ => H S (fun _ _ => rfl) ⟨0, fun _ _ => rfl⟩) (fun z => absurd z (by omega))
    | succ n ih =>
      intro i hi
      have hi' : i < 16 := by omega
      refine pk_le 16 i (fun z => absurd z (by omega)) (fun _ => ⟨vp_in_nI hi' (by decide), fun _ => ?_, fun _ => nm_r (nI_1 i) (ih (i + 1) (by omega))⟩)
      refine zz_st hi' rfl (zz_st hi' rfl ⟨vp_in_nI ha (by decide), zz_st hi' rfl (zz_st hi' rfl ?_)⟩)
      refine H (zz_s (zz_s (zz_s (zz_s S 38 i 1) 39 i _) 40 i _) 41 i _) (fun f hf => ?_) ⟨i, fun j hj => ?_⟩
      · rw [zz_sn (by omega), zz_sn (by omega), zz_sn (by omega), zz_sn (by omega)]
      · rw [zz_sn (by decide), zz_sn (by decide), zz_sn (by decide), zz_se, pk_un hj]
  exact key 16 0 rfl
theorem wk_write {post : Int32 → St1 → Prop} {S : zz_T} {d : Nat} {b : Int32} (b0 : ¬ b < 0) (b1 : b ≤ 255) (hd : d < 8) (e : S 0 0 = nI d)
    (H : post (nI (d + 1)) (zz_u (zz_s (zz_s S 7 d b) 0 0 (nI (d + 1))))) : wpX_write post (zz_u S) b := by
  unfold wpX_write zz_u
  dsimp only
  rw [e]
  refine br_f b0 (br_t b1 (br_t (nI_lt hd (by decide)) ?_))
  exact zz_st hd rfl (nm_r (nI_1 d) H)
def mm_lkv (x : Int32) (b : Nat) (up : Int32) : Int32 := if up = 0 then x &&& (((1 : Int32) <<< (nI b &&& 31)) ^^^ (-1)) else x ||| ((1 : Int32) <<< (nI b &&& 31))
def mm_link1 (a b : Nat) (up : Int32) (S : zz_T) : zz_T := zz_s S 6 a (mm_lkv (S 6 a) b up).toInt8.toInt32
def mm_link (a b : Nat) (up : Int32) (S : zz_T) : zz_T := mm_link1 b a up (mm_link1 a b up S)
theorem wk_link {post : Int32 → St1 → Prop} {S : zz_T} {a b : Nat} {up : Int32} (ha : a < 8) (hb : b < 8) (hab : a ≠ b) (H : post 1 (zz_u (mm_link a b up S))) : wpX_link post (zz_u S) (nI a) (nI b) up := by
  have va : vp_in (nI a) 8 := vp_in_nI ha (by decide)
  have vb : vp_in (nI b) 8 := vp_in_nI hb (by decide)
  unfold mm_link at H
  have key : wX_link_55 post (nI a) (nI b) up (mm_lkv (S 6 a) b up) (nI a) (S 0 0) (S 1 0) (S 2 0) (S 3 0) (S 4 0) (S 5 0) (S 6) (S 7) (S 8) (S 9) (S 10) (S 11) (S 12) (S 13) (S 14) (S 15) (S 16) (S 17) (S 18) (S 19) (S 20) (S 21) (S 22) (S 23) (S 24) (S 25) (S 26) (S 27) (S 28) (S 29) (S 30) (S 31) (S 32) (S 33) (S 34) (S 35) (S 36) (S 37) (S 38) (S 39) (S 40) (S 41) (S 42) (S 43) := by
    unfold wX_link_55
    refine zz_st ha rfl ?_
    change (up = 0 → vp_in (nI b) 8 ∧ _) ∧ (¬ up = 0 → vp_in (nI b) 8 ∧ _)
    refine ⟨fun c => ⟨vb, zz_st hb rfl ?_⟩, fun c => ⟨vb, zz_st hb rfl ?_⟩⟩
    · rw [nI_clamp (show b < 2 ^ 31 by omega)]
      unfold mm_link1 at H
      rw [show ∀ x, mm_lkv x a up = x &&& (((1 : Int32) <<< (nI a &&& 31)) ^^^ (-1)) from fun x => if_pos c] at H
      exact H
    · rw [nI_clamp (show b < 2 ^ 31 by omega)]
      unfold mm_link1 at H
      rw [show ∀ x, mm_lkv x a up = x ||| ((1 : Int32) <<< (nI a &&& 31)) from fun x => if_neg c] at H
      exact H
  unfold wpX_link zz_u
  dsimp only
  refine wk_sta ha (br_f (by decide) (wk_sta hb (br_f (by decide) (br_f (fun z => hab ((nI_eq (by omega) (by omega)).1 z)) ?_))))
  rw [nI_clamp (show a < 2 ^ 31 by omega)]
  refine ⟨fun c => ⟨va, ?_⟩, fun c => ⟨va, ?_⟩⟩
  · unfold mm_lkv at key
    rw [if_pos c] at key
    exact key
  · unfold mm_lkv at key
    rw [if_neg c] at key
    exact key

/-! ## find, length, byteAt, take -/
theorem zz_cntle {P : Nat → Prop} : ∀ n, zz_cnt P n ≤ n
  | 0 => Nat.le_refl 0
  | n + 1 => by
    unfold zz_cnt
    have := zz_cntle (P := P) n
    split <;> omega
noncomputable def mm_erl (S : zz_T) (a b : Int32) (m : Nat) : Nat := zz_cnt (fun k => mm_at S a b k ∧ ¬ S 8 m ≤ S 8 k) 16
noncomputable def mm_find (S : zz_T) (a b : Int32) (i : Nat) : Option Nat := zz_fst (fun m => mm_at S a b m ∧ mm_erl S a b m = i) 16 0
theorem wk_find27 {post J : Int32 → Prop} {S : zz_T} {a b : Int32} {i m : Nat} (hi : i < 2 ^ 31) (hm : m < 16) (H1 : mm_erl S a b m = i → post (nI m)) (H0 : mm_erl S a b m ≠ i → J (nI (m + 1))) : ∃ n, wX_find_27 post J a b (nI i) (nI m) (S 0 0) (S 1 0) (S 2 0) (S 3 0) (S 4 0) (S 5 0) (S 6) (S 7) (S 8) (S 9) (S 10) (S 11) (S 12) (S 13) (S 14) (S 15) (S 16) (S 17) (S 18) (S 19) (S 20) (S 21) (S 22) (S 23) (S 24) (S 25) (S 26) (S 27) (S 28) (S 29) (S 30) (S 31) (S 32) (S 33) (S 34) (S 35) (S 36) (S 37) (S 38) (S 39) (S 40) (S 41) (S 42) (S 43) n 0 0 := by
  have vm : vp_in (nI m) 16 := vp_in_nI hm (by decide)
  refine zz_lp (fun n k r => wX_find_27 post J a b (nI i) (nI m) (S 0 0) (S 1 0) (S 2 0) (S 3 0) (S 4 0) (S 5 0) (S 6) (S 7) (S 8) (S 9) (S 10) (S 11) (S 12) (S 13) (S 14) (S 15) (S 16) (S 17) (S 18) (S 19) (S 20) (S 21) (S 22) (S 23) (S 24) (S 25) (S 26) (S 27) (S 28) (S 29) (S 30) (S 31) (S 32) (S 33) (S 34) (S 35) (S 36) (S 37) (S 38) (S 39) (S 40) (S 41) (S 42) (S 43) n (nI r) (nI k)) (fun k r => r + @ite _ ((fun k => mm_at S a b k ∧ ¬ S 8 m ≤ S 8 k) k) (Classical.propDecidable _) (1) (0)) (fun k r => r = zz_cnt (fun k => mm_at S a b k ∧ ¬ S 8 m ≤ S 8 k) k) 16 0 rfl (fun k r _ h => by rw [h]; rfl) ?_ ?_
  · intro n h
    refine pk_le 16 16 (fun _ => ?_) (fun z => absurd z (by omega))
    have hle := zz_cntle (P := (fun k => mm_at S a b k ∧ ¬ S 8 m ≤ S 8 k)) 16
    unfold mm_erl at H1 H0
    rw [← h] at H1 H0 hle
    exact ⟨fun e => H1 ((nI_eq (by omega) hi).1 e), fun e => nm_r (nI_1 m) (H0 (fun z => e (by rw [z])))⟩
  · intro n k r hk _ hw
    have vk : vp_in (nI k) 16 := vp_in_nI hk (by decide)
    have h0 : ¬ (fun k => mm_at S a b k ∧ ¬ S 8 m ≤ S 8 k) k → ∀ x, x = nI r + 0 → ∀ y, y = nI k + 1 → wX_find_27 post J a b (nI i) (nI m) (S 0 0) (S 1 0) (S 2 0) (S 3 0) (S 4 0) (S 5 0) (S 6) (S 7) (S 8) (S 9) (S 10) (S 11) (S 12) (S 13) (S 14) (S 15) (S 16) (S 17) (S 18) (S 19) (S 20) (S 21) (S 22) (S 23) (S 24) (S 25) (S 26) (S 27) (S 28) (S 29) (S 30) (S 31) (S 32) (S 33) (S 34) (S 35) (S 36) (S 37) (S 38) (S 39) (S 40) (S 41) (S 42) (S 43) n x y := by
      intro c
      rw [show r + @ite _ ((fun k => mm_at S a b k ∧ ¬ S 8 m ≤ S 8 k) k) (Classical.propDecidable _) (1) (0) = r from by rw [if_neg c]; rfl] at hw
      exact nm_r (e' := nI r) (by rw [show (0 : Int32) = nI 0 from rfl, nI_add]; rfl) (nm_r (nI_1 k) hw)
    have h1 : (fun k => mm_at S a b k ∧ ¬ S 8 m ≤ S 8 k) k → ∀ x, x = nI r + 1 → ∀ y, y = nI k + 1 → wX_find_27 post J a b (nI i) (nI m) (S 0 0) (S 1 0) (S 2 0) (S 3 0) (S 4 0) (S 5 0) (S 6) (S 7) (S 8) (S 9) (S 10) (S 11) (S 12) (S 13) (S 14) (S 15) (S 16) (S 17) (S 18) (S 19) (S 20) (S 21) (S 22) (S 23) (S 24) (S 25) (S 26) (S 27) (S 28) (S 29) (S 30) (S 31) (S 32) (S 33) (S 34) (S 35) (S 36) (S 37) (S 38) (S 39) (S 40) (S 41) (S 42) (S 43) n x y := by
      intro c
      rw [show r + @ite _ ((fun k => mm_at S a b k ∧ ¬ S 8 m ≤ S 8 k) k) (Classical.propDecidable _) (1) (0) = r + 1 from by rw [if_pos c]] at hw
      exact nm_r (nI_1 r) (nm_r (nI_1 k) hw)
    refine pk_le 16 k (fun z => absurd z (by omega)) (fun _ => ?_)
    refine wk_at (S := S) hk (fun c => br_t rfl (h0 (fun z => c z.1))) (fun c => br_f (by decide) ⟨vk, vm, ?_⟩)
    rw [nI_clamp (show k < 2 ^ 31 by omega), nI_clamp (show m < 2 ^ 31 by omega)]
    exact ⟨fun d => h0 (fun z => z.2 d), fun d => h1 ⟨c, d⟩⟩
theorem wk_find {post : Int32 → Prop} {S : zz_T} {a b : Int32} {i : Nat} (hi : i < 2 ^ 31) (H : post (mm_oI (mm_find S a b i))) : wpX_find post (zz_u S) a b (nI i) := by
  unfold wpX_find zz_u
  dsimp only
  refine ⟨17, ?_⟩
  have key : ∀ n m, m + n = 16 → post (mm_oI (zz_fst (fun m => mm_at S a b m ∧ mm_erl S a b m = i) n m)) → wX_find_3 post a b (nI i) (S 0 0) (S 1 0) (S 2 0) (S 3 0) (S 4 0) (S 5 0) (S 6) (S 7) (S 8) (S 9) (S 10) (S 11) (S 12) (S 13) (S 14) (S 15) (S 16) (S 17) (S 18) (S 19) (S 20) (S 21) (S 22) (S 23) (S 24) (S 25) (S 26) (S 27) (S 28) (S 29) (S 30) (S 31) (S 32) (S 33) (S 34) (S 35) (S 36) (S 37) (S 38) (S 39) (S 40) (S 41) (S 42) (S 43) (n + 1) (nI m) := by
    intro n
    induction n with
    | zero =>
      intro m hm H
      obtain rfl : m = 16 := by omega
      exact pk_le 16 16 (fun _ => H) (fun z => absurd z (by omega))
    | succ n ih =>
      intro m hm H
      have hm' : m < 16 := by omega
      unfold zz_fst at H
      have hno : ¬ (mm_at S a b m ∧ mm_erl S a b m = i) → wX_find_3 post a b (nI i) (S 0 0) (S 1 0) (S 2 0) (S 3 0) (S 4 0) (S 5 0) (S 6) (S 7) (S 8) (S 9) (S 10) (S 11) (S 12) (S 13) (S 14) (S 15) (S 16) (S 17) (S 18) (S 19) (S 20) (S 21) (S 22) (S 23) (S 24) (S 25) (S 26) (S 27) (S 28) (S 29) (S 30) (S 31) (S 32) (S 33) (S 34) (S 35) (S 36) (S 37) (S 38) (S 39) (S 40) (S 41) (S 42) (S 43) (n + 1) (nI (m + 1)) := by
        intro c
        rw [if_neg c] at H
        exact ih (m + 1) (by omega) H
      refine pk_le 16 m (fun z => absurd z (by omega)) (fun _ => ?_)
      refine wk_at (S := S) hm' (fun c => br_t rfl (nm_r (nI_1 m) (hno (fun z => c z.1)))) (fun c => br_f (by decide) ?_)
      refine wk_find27 hi hm' (fun e => ?_) (fun e => hno (fun z => e z.2))
      rw [if_pos ⟨c, e⟩] at H
      exact H
  exact key 16 0 rfl H
theorem wk_len {post : Int32 → Prop} {S : zz_T} {a b : Int32} {i : Nat} (hi : i < 2 ^ 31) (H0 : mm_find S a b i = none → post (-1)) (H1 : ∀ m, m < 16 → mm_find S a b i = some m → post (S 11 m)) : wpX_length post (zz_u S) a b (nI i) := by
  unfold wpX_length zz_u
  dsimp only
  refine wk_find (S := S) hi ?_
  cases h : mm_find S a b i with
  | none => exact ⟨fun z => absurd z (by decide), fun _ => H0 h⟩
  | some m =>
    have hm : m < 16 := by
      have := (zz_fst_some 16 0 m h).2.1
      omega
    refine ⟨fun _ => ⟨vp_in_nI hm (by decide), ?_⟩, fun z => absurd (nI_pos' (show m < 2 ^ 31 by omega)) z⟩
    show post (S 11 (nI m).toNatClampNeg)
    rw [nI_clamp (show m < 2 ^ 31 by omega)]
    exact H1 m hm h
theorem wk_byte {post : Int32 → Prop} {S : zz_T} {a b i k : Nat} (ha : a < 8) (hb : b < 8) (hi : i < 2 ^ 31) (hk : k < 8) (H0 : mm_find S (nI a) (nI b) i = none → post (-1))
    (H1 : ∀ m, m < 16 → mm_find S (nI a) (nI b) i = some m → (nI k < S 11 m → post (S 13 (m * 8 + k) &&& 255)) ∧ (¬ nI k < S 11 m → post (-1))) : wpX_byteAt post (zz_u S) (nI (a + 8 * b)) (nI i) (nI k) := by
  unfold wpX_byteAt zz_u
  dsimp only
  refine br_f (nI_pos (by omega)) (br_t (nI_lt (show a + 8 * b < 64 by omega) (by decide)) ?_)
  rw [pk_andN (show a + 8 * b < 2 ^ 32 by omega) 3 (by decide), pk_shrN (show a + 8 * b < 2 ^ 31 by omega) _ 3 (by decide), show (a + 8 * b) % 2 ^ 3 = a by omega, show (a + 8 * b) / 2 ^ 3 = b by omega]
  refine wk_find (S := S) hi ?_
  unfold wX_byteAt_26
  cases h : mm_find S (nI a) (nI b) i with
  | none => exact br_t (by decide) (H0 h)
  | some m =>
    have hm : m < 16 := by
      have := (zz_fst_some 16 0 m h).2.1
      omega
    obtain ⟨h1, h2⟩ := H1 m hm h
    rw [show mm_oI (some m) = nI m from rfl]
    refine br_f (nI_pos (by omega)) (br_f (nI_pos (by omega)) ⟨vp_in_nI hm (by decide), ?_⟩)
    rw [nI_clamp (show m < 2 ^ 31 by omega), zz_w, nI_clamp (show m * 8 + k < 2 ^ 31 by omega)]
    exact ⟨fun c => ⟨vp_in_nI (by omega) (by decide), h1 c⟩, h2⟩
def mm_take (m : Nat) (S : zz_T) : zz_T := zz_s (zz_s S 1 0 (S 1 0 &&& (((1 : Int32) <<< (nI m &&& 31)) ^^^ (-1)))) 2 0 (S 2 0 &&& (((1 : Int32) <<< (nI m &&& 31)) ^^^ (-1)))
theorem wk_take {post : Int32 → St1 → Prop} {S : zz_T} {a b : Int32} (H0 : mm_find S a b 0 = none → post (-1) (zz_u S)) (H1 : ∀ m, m < 16 → mm_find S a b 0 = some m → post (S 11 m) (zz_u (mm_take m S))) : wpX_take post (zz_u S) a b := by
  unfold wpX_take zz_u
  dsimp only
  refine wk_find (S := S) (i := 0) (by decide) ?_
  cases h : mm_find S a b 0 with
  | none => exact ⟨fun z => absurd z (by decide), fun _ => H0 h⟩
  | some m =>
    have hm : m < 16 := by
      have := (zz_fst_some 16 0 m h).2.1
      omega
    refine ⟨fun _ => nm_e (nm_e ⟨vp_in_nI hm (by decide), ?_⟩), fun z => absurd (nI_pos' (show m < 2 ^ 31 by omega)) z⟩
    show post (S 11 (nI m).toNatClampNeg) _
    rw [nI_clamp (show m < 2 ^ 31 by omega)]
    exact H1 m hm h

/-! ## post -/
def mm_post1 (a b m : Nat) (S : zz_T) : zz_T :=
  zz_s (zz_s (zz_s (zz_s (zz_s (zz_s (zz_s S 1 0 (S 1 0 ||| ((1 : Int32) <<< (nI m &&& 31)))) 2 0 (S 2 0 &&& (((1 : Int32) <<< (nI m &&& 31)) ^^^ (-1)))) 8 m (S 3 0)) 3 0 (S 3 0 + 1)) 9 m (nI a).toInt8.toInt32) 10 m (nI b).toInt8.toInt32) 11 m (S 0 0).toInt8.toInt32
def mm_post2 (m k : Nat) (S : zz_T) : zz_T := zz_s S 12 (m * 8 + k) (S 7 k).toInt8.toInt32
def mm_post (a b m d : Nat) (S : zz_T) : zz_T := zz_s (zz_it (mm_post2 m) d (mm_post1 a b m S)) 0 0 0
theorem wk_p43 {post : Int32 → St1 → Prop} {S : zz_T} {a b m d : Nat} (hm : m < 16) (hd : d ≤ 8) (e : S 0 0 = nI d)
    (H : ∀ T : zz_T, T = mm_post a b m d S → post (nI (zz_cnt (mm_has T) 16)) (zz_u T)) : wX_post_43 post (nI a) (nI b) (nI m) (S 0 0) (S 1 0) (S 2 0) (S 3 0) (S 4 0) (S 5 0) (S 6) (S 7) (S 8) (S 9) (S 10) (S 11) (S 12) (S 13) (S 14) (S 15) (S 16) (S 17) (S 18) (S 19) (S 20) (S 21) (S 22) (S 23) (S 24) (S 25) (S 26) (S 27) (S 28) (S 29) (S 30) (S 31) (S 32) (S 33) (S 34) (S 35) (S 36) (S 37) (S 38) (S 39) (S 40) (S 41) (S 42) (S 43) := by
  unfold wX_post_43
  refine br_f (fun z => absurd ((nI_eq (show m < 2 ^ 31 by omega) (by decide)).1 (show nI m = nI 16 from z)) (by omega)) (nm_e (nm_e (zz_st hm rfl (nm_e (zz_st hm rfl (zz_st hm rfl (zz_st hm rfl ?_)))))))
  refine zz_lp (fun n i T => wX_post_128 post (nI m) (T 0 0) (T 1 0) (T 2 0) (T 3 0) (T 4 0) (T 5 0) n (nI i) (T 6) (T 7) (T 8) (T 9) (T 10) (T 11) (T 12) (T 13) (T 14) (T 15) (T 16) (T 17) (T 18) (T 19) (T 20) (T 21) (T 22) (T 23) (T 24) (T 25) (T 26) (T 27) (T 28) (T 29) (T 30) (T 31) (T 32) (T 33) (T 34) (T 35) (T 36) (T 37) (T 38) (T 39) (T 40) (T 41) (T 42) (T 43)) (mm_post2 m) (fun _ T => T 0 0 = nI d) d (mm_post1 a b m S) e (fun i T _ h => h) ?_ ?_
  · intro n h
    have H' := H _ rfl
    unfold mm_post at H'
    clear H
    revert h H'
    generalize zz_it (mm_post2 m) d (mm_post1 a b m S) = T
    intro h H'
    refine br_t ?_ (wk_msg (post := fun r => post r (zz_u (zz_s T 0 0 0))) (S := zz_s T 0 0 0) H')
    rw [h]
    exact nI_le (Nat.le_refl d) (by omega)
  · intro n i T hi h hw
    refine br_f ?_ ⟨vp_in_nI (show i < 8 by omega) (by decide), ?_⟩
    · rw [h]
      exact nI_ge hi (by omega)
    · rw [nI_clamp (show i < 2 ^ 31 by omega)]
      exact zz_st (k := m * 8 + i) (by omega) zz_w (nm_r (nI_1 i) hw)
theorem wk_post {post : Int32 → St1 → Prop} {S : zz_T} {a b d : Nat} (ha : a < 8) (hb : b < 8) (hab : a ≠ b) (hd : d ≤ 8) (e : S 0 0 = nI d)
    (H0 : (∀ j, j < 16 → mm_has S j) → post (-2) (zz_u S))
    (H1 : ∀ m, m < 16 → ¬ mm_has S m → (∀ j, j < m → mm_has S j) → ∀ T : zz_T, T = mm_post a b m d S → post (nI (zz_cnt (mm_has T) 16)) (zz_u T)) : wpX_post post (zz_u S) (nI a) (nI b) := by
  unfold wpX_post zz_u
  dsimp only
  refine wk_sta ha (br_f (by decide) (wk_sta hb (br_f (by decide) (br_f (fun z => hab ((nI_eq (by omega) (by omega)).1 z)) ⟨17, ?_⟩))))
  have key : ∀ n m, m + n = 16 → (∀ j, j < m → mm_has S j) → wX_post_23 post (nI a) (nI b) (S 0 0) (S 1 0) (S 2 0) (S 3 0) (S 4 0) (S 5 0) (S 6) (S 7) (S 8) (S 9) (S 10) (S 11) (S 12) (S 13) (S 14) (S 15) (S 16) (S 17) (S 18) (S 19) (S 20) (S 21) (S 22) (S 23) (S 24) (S 25) (S 26) (S 27) (S 28) (S 29) (S 30) (S 31) (S 32) (S 33) (S 34) (S 35) (S 36) (S 37) (S 38) (S 39) (S 40) (S 41) (S 42) (S 43) (n + 1) (nI m) := by
    intro n
    induction n with
    | zero =>
      intro m hm h
      obtain rfl : m = 16 := by omega
      refine pk_le 16 16 (fun _ => ?_) (fun z => absurd z (by omega))
      unfold wX_post_43
      exact br_t rfl (H0 h)
    | succ n ih =>
      intro m hm h
      have hm' : m < 16 := by omega
      refine pk_le 16 m (fun z => absurd z (by omega)) (fun _ => ?_)
      refine wk_has (S := S) (fun c => br_t rfl (wk_p43 hm' hd e (H1 m hm' c h))) (fun c => br_f (by decide) (nm_r (nI_1 m) (ih (m + 1) (by omega) ?_)))
      intro j hj
      rcases Nat.lt_succ_iff_lt_or_eq.1 hj with h' | h'
      · exact h j h'
      · rw [h']
        exact c
  exact key 16 0 rfl (fun j hj => absurd hj (by omega))

