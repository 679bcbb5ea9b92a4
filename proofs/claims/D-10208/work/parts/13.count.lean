/-! ## waiting, isAt, arrived, messages, links -/
def mm_at (S : zz_T) (a b : Int32) (m : Nat) : Prop := mm_has S m ∧ mm_isT S m ∧ S 9 m = a ∧ S 10 m = b
theorem wk_at {post : Int32 → Prop} {S : zz_T} {m : Nat} {a b : Int32} (hm : m < 16) (H0 : ¬ mm_at S a b m → post 0) (H1 : mm_at S a b m → post 1) : wpX_isAt post (zz_u S) (nI m) a b := by
  have hv : vp_in (nI m) 16 := vp_in_nI hm (by decide)
  unfold wpX_isAt zz_u
  dsimp only
  rw [nI_clamp (show m < 2 ^ 31 by omega)]
  refine wk_has (S := S) (fun c => br_t rfl (H0 (fun z => c z.1))) (fun c => br_f (by decide) ?_)
  refine wk_isT (S := S) (fun d => br_t rfl (H0 (fun z => d z.2.1))) (fun d => br_f (by decide) ?_)
  exact ⟨hv, fun e => ⟨hv, fun f => H1 ⟨c, d, e, f⟩, fun f => H0 (fun z => f z.2.2.2)⟩, fun e => H0 (fun z => e z.2.2.1)⟩

theorem wk_wait1 {post : Int32 → Prop} {S : zz_T} {a b : Int32} (H : post (nI (zz_cnt (mm_wt S a b) 16))) : ∃ n, wX_waiting_21 post a b (S 0 0) (S 1 0) (S 2 0) (S 3 0) (S 4 0) (S 5 0) (S 6) (S 7) (S 8) (S 9) (S 10) (S 11) (S 12) (S 13) (S 14) (S 15) (S 16) (S 17) (S 18) (S 19) (S 20) (S 21) (S 22) (S 23) (S 24) (S 25) (S 26) (S 27) (S 28) (S 29) (S 30) (S 31) (S 32) (S 33) (S 34) (S 35) (S 36) (S 37) (S 38) (S 39) (S 40) (S 41) (S 42) (S 43) n 0 0 := by
  refine zz_lp (fun n i r => wX_waiting_21 post a b (S 0 0) (S 1 0) (S 2 0) (S 3 0) (S 4 0) (S 5 0) (S 6) (S 7) (S 8) (S 9) (S 10) (S 11) (S 12) (S 13) (S 14) (S 15) (S 16) (S 17) (S 18) (S 19) (S 20) (S 21) (S 22) (S 23) (S 24) (S 25) (S 26) (S 27) (S 28) (S 29) (S 30) (S 31) (S 32) (S 33) (S 34) (S 35) (S 36) (S 37) (S 38) (S 39) (S 40) (S 41) (S 42) (S 43) n (nI r) (nI i)) (fun i r => r + @ite _ ((mm_wt S a b) i) (Classical.propDecidable _) (1) (0)) (fun i r => r = zz_cnt (mm_wt S a b) i) 16 0 rfl (fun i r _ h => by rw [h]; rfl) ?_ ?_
  · intro n h
    rw [← h] at H
    exact pk_le 16 16 (fun _ => H) (fun z => absurd z (by omega))
  · intro n i r hi _ hw
    have h0 : ¬ (mm_wt S a b) i → ∀ x, x = nI r + 0 → ∀ y, y = nI i + 1 → wX_waiting_21 post a b (S 0 0) (S 1 0) (S 2 0) (S 3 0) (S 4 0) (S 5 0) (S 6) (S 7) (S 8) (S 9) (S 10) (S 11) (S 12) (S 13) (S 14) (S 15) (S 16) (S 17) (S 18) (S 19) (S 20) (S 21) (S 22) (S 23) (S 24) (S 25) (S 26) (S 27) (S 28) (S 29) (S 30) (S 31) (S 32) (S 33) (S 34) (S 35) (S 36) (S 37) (S 38) (S 39) (S 40) (S 41) (S 42) (S 43) n x y := by
      intro c
      rw [show r + @ite _ ((mm_wt S a b) i) (Classical.propDecidable _) (1) (0) = r from by rw [if_neg c]; rfl] at hw
      exact nm_r (e' := nI r) (by rw [show (0 : Int32) = nI 0 from rfl, nI_add]; rfl) (nm_r (nI_1 i) hw)
    have h1 : (mm_wt S a b) i → ∀ x, x = nI r + 1 → ∀ y, y = nI i + 1 → wX_waiting_21 post a b (S 0 0) (S 1 0) (S 2 0) (S 3 0) (S 4 0) (S 5 0) (S 6) (S 7) (S 8) (S 9) (S 10) (S 11) (S 12) (S 13) (S 14) (S 15) (S 16) (S 17) (S 18) (S 19) (S 20) (S 21) (S 22) (S 23) (S 24) (S 25) (S 26) (S 27) (S 28) (S 29) (S 30) (S 31) (S 32) (S 33) (S 34) (S 35) (S 36) (S 37) (S 38) (S 39) (S 40) (S 41) (S 42) (S 43) n x y := by
      intro c
      rw [show r + @ite _ ((mm_wt S a b) i) (Classical.propDecidable _) (1) (0) = r + 1 from by rw [if_pos c]] at hw
      exact nm_r (nI_1 r) (nm_r (nI_1 i) hw)
    have hv : vp_in (nI i) 16 := vp_in_nI hi (by decide)
    refine pk_le 16 i (fun z => absurd z (by omega)) (fun _ => ?_)
    refine wk_has (S := S) (fun c => br_t rfl (h0 (fun z => c z.1))) (fun c => br_f (by decide) ?_)
    refine wk_isT (S := S) (fun d => br_t rfl ?_) (fun d => br_f (by decide) (h0 (fun z => z.2.1 d)))
    refine ⟨hv, ?_⟩
    rw [nI_clamp (show i < 2 ^ 31 by omega)]
    exact ⟨fun e => ⟨hv, fun f => h1 ⟨c, d, e, f⟩, fun f => h0 (fun z => f z.2.2.2)⟩, fun e => h0 (fun z => e z.2.2.1)⟩

theorem wk_arr1 {post : Int32 → Prop} {S : zz_T} {a b : Int32} (H : post (nI (zz_cnt (mm_at S a b) 16))) : ∃ n, wX_arrived_21 post a b (S 0 0) (S 1 0) (S 2 0) (S 3 0) (S 4 0) (S 5 0) (S 6) (S 7) (S 8) (S 9) (S 10) (S 11) (S 12) (S 13) (S 14) (S 15) (S 16) (S 17) (S 18) (S 19) (S 20) (S 21) (S 22) (S 23) (S 24) (S 25) (S 26) (S 27) (S 28) (S 29) (S 30) (S 31) (S 32) (S 33) (S 34) (S 35) (S 36) (S 37) (S 38) (S 39) (S 40) (S 41) (S 42) (S 43) n 0 0 := by
  refine zz_lp (fun n i r => wX_arrived_21 post a b (S 0 0) (S 1 0) (S 2 0) (S 3 0) (S 4 0) (S 5 0) (S 6) (S 7) (S 8) (S 9) (S 10) (S 11) (S 12) (S 13) (S 14) (S 15) (S 16) (S 17) (S 18) (S 19) (S 20) (S 21) (S 22) (S 23) (S 24) (S 25) (S 26) (S 27) (S 28) (S 29) (S 30) (S 31) (S 32) (S 33) (S 34) (S 35) (S 36) (S 37) (S 38) (S 39) (S 40) (S 41) (S 42) (S 43) n (nI r) (nI i)) (fun i r => r + @ite _ ((mm_at S a b) i) (Classical.propDecidable _) (1) (0)) (fun i r => r = zz_cnt (mm_at S a b) i) 16 0 rfl (fun i r _ h => by rw [h]; rfl) ?_ ?_
  · intro n h
    rw [← h] at H
    exact pk_le 16 16 (fun _ => H) (fun z => absurd z (by omega))
  · intro n i r hi _ hw
    have h0 : ¬ (mm_at S a b) i → ∀ x, x = nI r + 0 → ∀ y, y = nI i + 1 → wX_arrived_21 post a b (S 0 0) (S 1 0) (S 2 0) (S 3 0) (S 4 0) (S 5 0) (S 6) (S 7) (S 8) (S 9) (S 10) (S 11) (S 12) (S 13) (S 14) (S 15) (S 16) (S 17) (S 18) (S 19) (S 20) (S 21) (S 22) (S 23) (S 24) (S 25) (S 26) (S 27) (S 28) (S 29) (S 30) (S 31) (S 32) (S 33) (S 34) (S 35) (S 36) (S 37) (S 38) (S 39) (S 40) (S 41) (S 42) (S 43) n x y := by
      intro c
      rw [show r + @ite _ ((mm_at S a b) i) (Classical.propDecidable _) (1) (0) = r from by rw [if_neg c]; rfl] at hw
      exact nm_r (e' := nI r) (by rw [show (0 : Int32) = nI 0 from rfl, nI_add]; rfl) (nm_r (nI_1 i) hw)
    have h1 : (mm_at S a b) i → ∀ x, x = nI r + 1 → ∀ y, y = nI i + 1 → wX_arrived_21 post a b (S 0 0) (S 1 0) (S 2 0) (S 3 0) (S 4 0) (S 5 0) (S 6) (S 7) (S 8) (S 9) (S 10) (S 11) (S 12) (S 13) (S 14) (S 15) (S 16) (S 17) (S 18) (S 19) (S 20) (S 21) (S 22) (S 23) (S 24) (S 25) (S 26) (S 27) (S 28) (S 29) (S 30) (S 31) (S 32) (S 33) (S 34) (S 35) (S 36) (S 37) (S 38) (S 39) (S 40) (S 41) (S 42) (S 43) n x y := by
      intro c
      rw [show r + @ite _ ((mm_at S a b) i) (Classical.propDecidable _) (1) (0) = r + 1 from by rw [if_pos c]] at hw
      exact nm_r (nI_1 r) (nm_r (nI_1 i) hw)
    have hv : vp_in (nI i) 16 := vp_in_nI hi (by decide)
    refine pk_le 16 i (fun z => absurd z (by omega)) (fun _ => ?_)
    exact wk_at (S := S) hi (fun c => br_t rfl (h0 c)) (fun c => br_f (by decide) (h1 c))

theorem wk_msg1 {post : Int32 → Prop} {S : zz_T} (H : post (nI (zz_cnt (mm_has S) 16))) : ∃ n, wX_messages_4 post (S 0 0) (S 1 0) (S 2 0) (S 3 0) (S 4 0) (S 5 0) (S 6) (S 7) (S 8) (S 9) (S 10) (S 11) (S 12) (S 13) (S 14) (S 15) (S 16) (S 17) (S 18) (S 19) (S 20) (S 21) (S 22) (S 23) (S 24) (S 25) (S 26) (S 27) (S 28) (S 29) (S 30) (S 31) (S 32) (S 33) (S 34) (S 35) (S 36) (S 37) (S 38) (S 39) (S 40) (S 41) (S 42) (S 43) n 0 0 := by
  refine zz_lp (fun n i r => wX_messages_4 post (S 0 0) (S 1 0) (S 2 0) (S 3 0) (S 4 0) (S 5 0) (S 6) (S 7) (S 8) (S 9) (S 10) (S 11) (S 12) (S 13) (S 14) (S 15) (S 16) (S 17) (S 18) (S 19) (S 20) (S 21) (S 22) (S 23) (S 24) (S 25) (S 26) (S 27) (S 28) (S 29) (S 30) (S 31) (S 32) (S 33) (S 34) (S 35) (S 36) (S 37) (S 38) (S 39) (S 40) (S 41) (S 42) (S 43) n (nI r) (nI i)) (fun i r => r + @ite _ ((mm_has S) i) (Classical.propDecidable _) (1) (0)) (fun i r => r = zz_cnt (mm_has S) i) 16 0 rfl (fun i r _ h => by rw [h]; rfl) ?_ ?_
  · intro n h
    rw [← h] at H
    exact pk_le 16 16 (fun _ => H) (fun z => absurd z (by omega))
  · intro n i r hi _ hw
    have h0 : ¬ (mm_has S) i → ∀ x, x = nI r + 0 → ∀ y, y = nI i + 1 → wX_messages_4 post (S 0 0) (S 1 0) (S 2 0) (S 3 0) (S 4 0) (S 5 0) (S 6) (S 7) (S 8) (S 9) (S 10) (S 11) (S 12) (S 13) (S 14) (S 15) (S 16) (S 17) (S 18) (S 19) (S 20) (S 21) (S 22) (S 23) (S 24) (S 25) (S 26) (S 27) (S 28) (S 29) (S 30) (S 31) (S 32) (S 33) (S 34) (S 35) (S 36) (S 37) (S 38) (S 39) (S 40) (S 41) (S 42) (S 43) n x y := by
      intro c
      rw [show r + @ite _ ((mm_has S) i) (Classical.propDecidable _) (1) (0) = r from by rw [if_neg c]; rfl] at hw
      exact nm_r (e' := nI r) (by rw [show (0 : Int32) = nI 0 from rfl, nI_add]; rfl) (nm_r (nI_1 i) hw)
    have h1 : (mm_has S) i → ∀ x, x = nI r + 1 → ∀ y, y = nI i + 1 → wX_messages_4 post (S 0 0) (S 1 0) (S 2 0) (S 3 0) (S 4 0) (S 5 0) (S 6) (S 7) (S 8) (S 9) (S 10) (S 11) (S 12) (S 13) (S 14) (S 15) (S 16) (S 17) (S 18) (S 19) (S 20) (S 21) (S 22) (S 23) (S 24) (S 25) (S 26) (S 27) (S 28) (S 29) (S 30) (S 31) (S 32) (S 33) (S 34) (S 35) (S 36) (S 37) (S 38) (S 39) (S 40) (S 41) (S 42) (S 43) n x y := by
      intro c
      rw [show r + @ite _ ((mm_has S) i) (Classical.propDecidable _) (1) (0) = r + 1 from by rw [if_pos c]] at hw
      exact nm_r (nI_1 r) (nm_r (nI_1 i) hw)
    have hv : vp_in (nI i) 16 := vp_in_nI hi (by decide)
    refine pk_le 16 i (fun z => absurd z (by omega)) (fun _ => ?_)
    exact wk_has (S := S) (fun c => br_t rfl (h0 c)) (fun c => br_f (by decide) (h1 c))

theorem wk_wait {post : Int32 → Prop} {S : zz_T} {a b : Nat} (ha : a < 8) (hb : b < 8) (H : post (nI (zz_cnt (mm_wt S (nI a) (nI b)) 16))) : wpX_waiting post (zz_u S) (nI a) (nI b) := by
  unfold wpX_waiting zz_u
  dsimp only
  exact wk_sta ha (br_f (by decide) (wk_sta hb (br_f (by decide) (wk_wait1 H))))
theorem wk_arr {post : Int32 → Prop} {S : zz_T} {a b : Nat} (ha : a < 8) (hb : b < 8) (H : post (nI (zz_cnt (mm_at S (nI a) (nI b)) 16))) : wpX_arrived post (zz_u S) (nI a) (nI b) := by
  unfold wpX_arrived zz_u
  dsimp only
  exact wk_sta ha (br_f (by decide) (wk_sta hb (br_f (by decide) (wk_arr1 H))))
theorem wk_msg {post : Int32 → Prop} {S : zz_T} (H : post (nI (zz_cnt (mm_has S) 16))) : wpX_messages post (zz_u S) := wk_msg1 H
theorem wk_links {post : Int32 → Prop} {S : zz_T} {a : Nat} (ha : a < 8) (H : post (S 6 a &&& 255)) : wpX_links post (zz_u S) (nI a) := by
  unfold wpX_links zz_u
  dsimp only
  rw [nI_clamp (show a < 2 ^ 31 by omega)]
  exact wk_sta ha (br_f (by decide) ⟨vp_in_nI ha (by decide), H⟩)
theorem wk_draft {post : Int32 → Prop} {S : zz_T} (H : post (S 0 0)) : wpX_draft post (zz_u S) := H
def mm_forget (a : Nat) (S : zz_T) : zz_T := zz_s (mm_clear a S) 16 a (mm_clear a S 16 a + 1)

