/-! ## the constructor -/
def zz_0 : zz_T := fun _ _ => 0
def mm_ini1 (s : Nat) (T : zz_T) : zz_T := mm_clear s (zz_s T 16 s 1)
def mm_ini : zz_T := zz_it mm_ini1 8 zz_0
theorem wk_init {post : St1 → Prop} (H : ∀ T : zz_T, T = mm_ini → post (zz_u T)) : wpX_init post 38 19144 (0, 0, 0, 0, 0, 0) := by
  unfold wpX_init
  dsimp only
  refine ⟨by decide, by decide, by decide, by decide, by decide, by decide, by decide, by decide, by decide, by decide, by decide, by decide, by decide, by decide, by decide, by decide, by decide, by decide, by decide, by decide, by decide, by decide, by decide, by decide, by decide, by decide, by decide, by decide, by decide, by decide, by decide, by decide, by decide, by decide, by decide, by decide, by decide, by decide, by decide, by decide, by decide, by decide, by decide, by decide, by decide, by decide, by decide, by decide, by decide, by decide, by decide, by decide, by decide, by decide, by decide, by decide, by decide, by decide, by decide, by decide, by decide, by decide, by decide, by decide, by decide, by decide, by decide, by decide, by decide, by decide, by decide, by decide, by decide, by decide, by decide, by decide, ?_⟩
  refine zz_lq (fun n i T => wX_init_320 post 38 19144 38 19144 n (nI i) (T 0 0) (T 1 0) (T 2 0) (T 3 0) (T 4 0) (T 5 0) (T 6) (T 7) (T 8) (T 9) (T 10) (T 11) (T 12) (T 13) (T 14) (T 15) (T 16) (T 17) (T 18) (T 19) (T 20) (T 21) (T 22) (T 23) (T 24) (T 25) (T 26) (T 27) (T 28) (T 29) (T 30) (T 31) (T 32) (T 33) (T 34) (T 35) (T 36) (T 37) (T 38) (T 39) (T 40) (T 41) (T 42) (T 43)) mm_ini1 8 zz_0 ?_ ?_
  · intro n T hT
    exact pk_le 8 8 (fun _ => H T hT) (fun z => absurd z (by omega))
  · intro n i T hi hT hw
    refine pk_le 8 i (fun z => absurd z (by omega)) (fun _ => zz_st hi rfl ?_)
    refine wk_clear2 (S := zz_s T 16 i 1) hi (fun C hC => ?_)
    have e : C = mm_ini1 i T := hC
    rw [← e] at hw
    clear hC e
    exact nm_r (nI_1 i) hw

/-! ## ways -/
theorem zz_oI1 {o : Option Nat} (h : ∀ n, o = some n → n < 8) : mm_oI o = 1 ↔ o = some 1 := by
  cases o with
  | none => exact ⟨fun z => absurd z (by decide), fun z => by cases z⟩
  | some n =>
    have hn := h n rfl
    refine ⟨fun z => ?_, fun z => by rw [z]; rfl⟩
    rw [(nI_eq (show n < 2 ^ 31 by omega) (show 1 < 2 ^ 31 by decide)).1 (show nI n = nI 1 from z)]
theorem zz_dlt {S : zz_T} {a b n : Nat} (h : mm_dist S a b = some n) : n < 8 := by
  have := (zz_fst_some 8 0 n h).2.1
  omega
theorem wk_ways {post : Int32 → Prop} {S : zz_T} {a b : Nat} (ha : a < 8) (hb : b < 8) (h1 : mm_dist S a b = mm_dist S b a) (h2 : mm_dist S a a = some 0)
    (h3 : mm_dist S a b = some 1 ↔ ((S 6 a &&& 255) >>> (nI b &&& 31)) &&& 1 = 1) (H : post 1) : wpL_ways post (zz_u S) (nI a) (nI b) := by
  have e3 : mm_oI (mm_dist S a b) = 1 ↔ mm_dist S a b = some 1 := zz_oI1 (fun n h => zz_dlt h)
  unfold wpL_ways zz_u
  dsimp only
  refine wk_dist (S := S) ha hb ?_
  refine wk_links (S := S) ha ?_
  refine ⟨fun c => ?_, fun c => ?_⟩
  · unfold wL_ways_25
    refine wk_dist (S := S) hb ha (br_t (by rw [h1]) ?_)
    refine wk_dist (S := S) ha ha (br_t (by rw [h2]; rfl) ?_)
    refine br_t (e3.2 (h3.2 c)) ?_
    unfold wL_ways_56
    exact br_t rfl H
  · unfold wL_ways_25
    refine wk_dist (S := S) hb ha (br_t (by rw [h1]) ?_)
    refine wk_dist (S := S) ha ha (br_t (by rw [h2]; rfl) ?_)
    refine br_f (fun z => c (h3.1 (e3.1 z))) ?_
    unfold wL_ways_56
    exact br_t rfl H

/-! ## sums -/
noncomputable def mm_sum1 (S : zz_T) (c r : Nat) : Nat := r + zz_cnt (mm_wt S (nI (c % 8)) (nI (c / 8))) 16 + zz_cnt (mm_at S (nI (c % 8)) (nI (c / 8))) 16
theorem zz_and7 {c : Nat} (h : c < 2 ^ 31) : nI c &&& 7 = nI (c % 8) := by
  rw [pk_andN (show c < 2 ^ 32 by omega) 3 (by decide)]
theorem zz_shr3 {c : Nat} (h : c < 2 ^ 31) : nI c >>> ((3 : Int32) &&& 31) = nI (c / 8) := by
  rw [pk_shrN h _ 3 (by decide)]
theorem wk_sums {post : Int32 → Prop} {S : zz_T} (h : zz_it (mm_sum1 S) 64 0 = zz_cnt (mm_has S) 16) (H : post 1) : wpL_sums post (zz_u S) := by
  refine zz_lq (fun n i r => wL_sums_4 post (S 0 0) (S 1 0) (S 2 0) (S 3 0) (S 4 0) (S 5 0) (S 6) (S 7) (S 8) (S 9) (S 10) (S 11) (S 12) (S 13) (S 14) (S 15) (S 16) (S 17) (S 18) (S 19) (S 20) (S 21) (S 22) (S 23) (S 24) (S 25) (S 26) (S 27) (S 28) (S 29) (S 30) (S 31) (S 32) (S 33) (S 34) (S 35) (S 36) (S 37) (S 38) (S 39) (S 40) (S 41) (S 42) (S 43) n (nI r) (nI i)) (mm_sum1 S) 64 0 ?_ ?_
  · intro n r hr
    rw [h] at hr
    have hle := zz_cntle (P := mm_has S) 16
    rw [← hr] at hle
    refine pk_le 64 64 (fun _ => ?_) (fun z => absurd z (by omega))
    refine wk_msg (S := S) (br_t (by rw [hr]) (br_f ?_ H))
    exact Int32.not_lt.2 (nI_le (b := 16) (by omega) (by decide))
  · intro n i r hi _ hw
    refine pk_le 64 i (fun z => absurd z (by omega)) (fun _ => ?_)
    rw [zz_and7 (show i < 2 ^ 31 by omega), zz_shr3 (show i < 2 ^ 31 by omega)]
    refine wk_wait (S := S) (show i % 8 < 8 by omega) (show i / 8 < 8 by omega) ?_
    refine wk_arr (S := S) (show i % 8 < 8 by omega) (show i / 8 < 8 by omega) ?_
    refine nm_r (e' := nI (mm_sum1 S i r)) ?_ (nm_r (nI_1 i) hw)
    unfold mm_sum1
    rw [nI_add, nI_add]

/-! ## view -/
noncomputable def mm_view1 (S : zz_T) (a : Nat) (v : Int64) : Int64 :=
  ((v * 257 + (S 6 a &&& 255).toInt64) * 31 + (nI (zz_cnt (mm_wt S (nI a) (nI (7 - a))) 16)).toInt64) + (7 * nI (zz_cnt (mm_at S (nI a) (nI ((a + 1) % 8))) 16)).toInt64
noncomputable def mm_view (S : zz_T) : Int64 :=
  zz_it (mm_view1 S) 8 (((nI (zz_cnt (mm_rd S) 16)).toInt64 + 31 * (nI (zz_cnt (mm_has S) 16)).toInt64) + 1009 * (S 0 0).toInt64)
theorem wk_view {post : Int64 → Prop} {S : zz_T} (h9 : zz_910 S) (H : post (mm_view S)) : wpL_view post (zz_u S) := by
  unfold wpL_view zz_u
  dsimp only
  refine wk_ready (S := S) h9 ?_
  refine wk_msg (S := S) ?_
  refine wk_draft (S := S) ?_
  refine nm_e ?_
  refine zz_lq (fun n i v => wL_view_28 post (S 0 0) (S 1 0) (S 2 0) (S 3 0) (S 4 0) (S 5 0) (S 6) (S 7) (S 8) (S 9) (S 10) (S 11) (S 12) (S 13) (S 14) (S 15) (S 16) (S 17) (S 18) (S 19) (S 20) (S 21) (S 22) (S 23) (S 24) (S 25) (S 26) (S 27) (S 28) (S 29) (S 30) (S 31) (S 32) (S 33) (S 34) (S 35) (S 36) (S 37) (S 38) (S 39) (S 40) (S 41) (S 42) (S 43) n v (nI i)) (mm_view1 S) 8 _ ?_ ?_
  · intro n v hv
    refine pk_le 8 8 (fun _ => ?_) (fun z => absurd z (by omega))
    rw [hv]
    exact H
  · intro n i v hi _ hw
    refine pk_le 8 i (fun z => absurd z (by omega)) (fun _ => ?_)
    refine wk_links (S := S) hi (nm_e ?_)
    rw [show (7 : Int32) - nI i = nI (7 - i) from by rw [show (7 : Int32) = nI 7 from rfl, pk_sub (by omega)]]
    refine wk_wait (S := S) hi (show 7 - i < 8 by omega) ?_
    rw [nI_1 i, zz_and7 (show i + 1 < 2 ^ 31 by omega)]
    refine wk_arr (S := S) hi (show (i + 1) % 8 < 8 by omega) (nm_e (nm_e hw))
