/-! ## the law's loop -/
/-- what holds before step k of a script -/
def zz_V (X : Nat → zz_T → Prop) (so go k : Nat) (row : Int64) (sent tk : Nat) (S : zz_T) : Prop :=
  ∃ ns, ns ≤ k ∧ zz_I ns S ∧ zz_D so go row sent tk S ∧ S 0 0 = 0 ∧ (sent < 7 → zr_0 row sent) ∧ sent ≤ k ∧ X k S
/-- what is asked of X -/
def zz_X (so go : Nat) (X : Nat → zz_T → Prop) : Prop :=
  X 0 mm_ini ∧ (∀ k a b up S, a < 8 → b < 8 → a ≠ b → X k S → X (k + 1) (mm_link a b up S)) ∧ (∀ k a S C, a < 8 → C = mm_clear a S → X k S → X (k + 1) (zz_s C 16 a (C 16 a + 1))) ∧
  (∀ k S T, (∀ f, f < 38 ∨ 41 < f → T f = S f) → (∃ i, ∀ j, j ≠ i → T 38 j = S 38 j) → X k S → X (k + 1) T) ∧ (∀ k m S, m < 16 → X k S → X (k + 1) (mm_take m S)) ∧ (∀ k S, X k S → X (k + 1) S) ∧
  (∀ k b S, X k S → X k (zz_s (zz_s S 7 0 b) 0 0 (nI 1))) ∧
  (∀ k ns a b m d S T, k < 260 → a < 8 → b < 8 → a ≠ b → m < 16 → d ≤ 1 → ((a = so ∧ b = go) ∨ a = 0 ∨ a = 4) → zz_I ns S → ¬ mm_has S m → T = mm_post a b m d S → X k S → X (k + 1) T) ∧
  (∀ k ns S U, k ≤ 260 → ns ≤ k → zz_I ns S → X k S → U = mm_run 60000 (mm_calm S) → zz_cnt (mm_rd U) 16 = 0 ∧ X (k + 1) U)
theorem wk_511 {post : Int32 → Prop} {X : Nat → zz_T → Prop} {L : Nat} {xs : Nat → Int32} {J : Int64 → Int32 → Int32 → Int32 → Int32 → Int32 → Int32 → Int32 → Int32 → Int32 → (Nat → Int32) → (Nat → Int32) → (Nat → Int32) → (Nat → Int32) → (Nat → Int32) → (Nat → Int32) → (Nat → Int32) → (Nat → Int32) → (Nat → Int32) → (Nat → Int32) → (Nat → Int32) → (Nat → Int32) → (Nat → Int32) → (Nat → Int32) → (Nat → Int32) → (Nat → Int32) → (Nat → Int32) → (Nat → Int32) → (Nat → Int32) → (Nat → Int32) → (Nat → Int32) → (Nat → Int32) → (Nat → Int32) → (Nat → Int32) → (Nat → Int32) → (Nat → Int32) → (Nat → Int32) → (Nat → Int32) → (Nat → Int32) → (Nat → Int32) → (Nat → Int32) → (Nat → Int32) → (Nat → Int32) → (Nat → Int32) → (Nat → Int32) → (Nat → Int32) → (Nat → Int32) → (Nat → Int32) → Prop} {so go k sent tk a b kc ks : Nat} {row : Int64} {S : zz_T} (hso : so < 8) (hgo : go < 8) (ha : a < 8) (hb : b < 8) (hab : a ≠ b) (hk : k < 2 ^ 20)
    (hV : zz_V X so go (k + 1) row sent tk S) (H : J row (nI sent) (nI tk) (nI (k + 1)) (S 0 0) (S 1 0) (S 2 0) (S 3 0) (S 4 0) (S 5 0) (S 6) (S 7) (S 8) (S 9) (S 10) (S 11) (S 12) (S 13) (S 14) (S 15) (S 16) (S 17) (S 18) (S 19) (S 20) (S 21) (S 22) (S 23) (S 24) (S 25) (S 26) (S 27) (S 28) (S 29) (S 30) (S 31) (S 32) (S 33) (S 34) (S 35) (S 36) (S 37) (S 38) (S 39) (S 40) (S 41) (S 42) (S 43)) :
    wL_law_511 post L xs J (nI so) (nI go) row (nI sent) (nI tk) (nI k) (nI a) (nI b) kc ks (S 0 0) (S 1 0) (S 2 0) (S 3 0) (S 4 0) (S 5 0) (S 6) (S 7) (S 8) (S 9) (S 10) (S 11) (S 12) (S 13) (S 14) (S 15) (S 16) (S 17) (S 18) (S 19) (S 20) (S 21) (S 22) (S 23) (S 24) (S 25) (S 26) (S 27) (S 28) (S 29) (S 30) (S 31) (S 32) (S 33) (S 34) (S 35) (S 36) (S 37) (S 38) (S 39) (S 40) (S 41) (S 42) (S 43) := by
  obtain ⟨ns, hns, hI, hD, h0, hr, hs, hX⟩ := hV
  obtain ⟨r1, r2⟩ := zz_row hI.2.2.2.2.1 hD
  have hle := hD.1
  unfold wL_law_511
  refine wk_ways (S := S) ha hb (zz_dsym hI.1 ha hb) (zz_d0 ha) (zz_d1 ha hb hab) (br_f (by decide) ?_)
  refine wk_sums (S := S) (zz_sum hI.2.2.2.2.1.2.2.1) (br_f (by decide) ?_)
  refine wk_row (S := S) hso hgo rfl rfl (by omega) r1 r2 (br_f (by decide) ?_)
  exact nm_r (nI_1 k) H

/-! ## a post -/
theorem wk_full {post : Int32 → Prop} {X : Nat → zz_T → Prop} {L : Nat} {xs : Nat → Int32} {J : Int64 → Int32 → Int32 → Int32 → Int32 → Int32 → Int32 → Int32 → Int32 → Int32 → (Nat → Int32) → (Nat → Int32) → (Nat → Int32) → (Nat → Int32) → (Nat → Int32) → (Nat → Int32) → (Nat → Int32) → (Nat → Int32) → (Nat → Int32) → (Nat → Int32) → (Nat → Int32) → (Nat → Int32) → (Nat → Int32) → (Nat → Int32) → (Nat → Int32) → (Nat → Int32) → (Nat → Int32) → (Nat → Int32) → (Nat → Int32) → (Nat → Int32) → (Nat → Int32) → (Nat → Int32) → (Nat → Int32) → (Nat → Int32) → (Nat → Int32) → (Nat → Int32) → (Nat → Int32) → (Nat → Int32) → (Nat → Int32) → (Nat → Int32) → (Nat → Int32) → (Nat → Int32) → (Nat → Int32) → (Nat → Int32) → (Nat → Int32) → (Nat → Int32) → (Nat → Int32) → (Nat → Int32) → Prop} {so go k ns sent tk a b kc ks d : Nat} {row : Int64} {x13 x14 : Int32} {S : zz_T} (ha : a < 8) (hb : b < 8) (hk : k ≤ 260) (hns : ns ≤ k) (hX : zz_X so go X)
    (hI : zz_I ns S) (hx : X k S) (hd : d ≤ 1) (e0 : S 0 0 = nI d) (hp : (d = 0 ∧ x14 ≤ 0) ∨ (d = 1 ∧ ¬ x14 ≤ 0)) (hall : ∀ j, j < 16 → mm_has S j) (H : post 1) :
    wL_law_210 post L xs J (nI so) (nI go) row (nI sent) (nI tk) (nI k) (nI a) (nI b) x13 x14 (nI (zz_cnt (mm_at S (nI a) (nI b)) 16)) (-2) kc ks (S 0 0) (S 1 0) (S 2 0) (S 3 0) (S 4 0) (S 5 0) (S 6) (S 7) (S 8) (S 9) (S 10) (S 11) (S 12) (S 13) (S 14) (S 15) (S 16) (S 17) (S 18) (S 19) (S 20) (S 21) (S 22) (S 23) (S 24) (S 25) (S 26) (S 27) (S 28) (S 29) (S 30) (S 31) (S 32) (S 33) (S 34) (S 35) (S 36) (S 37) (S 38) (S 39) (S 40) (S 41) (S 42) (S 43) := by
  have hset : wpL_settles (fun r u => (r = 0 → post 0) ∧ (¬ r = 0 → post 1)) (zz_u S) :=
    wk_setl (S := S) (show ns < 2 ^ 30 by omega) hI (fun U hU => (hX.2.2.2.2.2.2.2.2 k ns S U hk hns hI hx hU).1) (fun U _ _ _ _ _ => br_f (by decide) H)
  have h16 : zz_cnt (mm_has S) 16 = 16 := by
    rw [zz_cntc (P := mm_has S) (Q := fun _ => True) 16 (fun m hm => ⟨fun _ => trivial, fun _ => hall m hm⟩)]
    have : ∀ n, zz_cnt (fun _ => True) n = n := by
      intro n
      induction n with
      | zero => rfl
      | succ n ih =>
        unfold zz_cnt
        rw [ih, if_pos trivial]
    exact this 16
  have h331 : ∀ z, wL_law_331 post L xs (nI a) (nI b) (nI (zz_cnt (mm_at S (nI a) (nI b)) 16)) z z kc ks (S 0 0) (S 1 0) (S 2 0) (S 3 0) (S 4 0) (S 5 0) (S 6) (S 7) (S 8) (S 9) (S 10) (S 11) (S 12) (S 13) (S 14) (S 15) (S 16) (S 17) (S 18) (S 19) (S 20) (S 21) (S 22) (S 23) (S 24) (S 25) (S 26) (S 27) (S 28) (S 29) (S 30) (S 31) (S 32) (S 33) (S 34) (S 35) (S 36) (S 37) (S 38) (S 39) (S 40) (S 41) (S 42) (S 43) := by
    intro z
    unfold wL_law_331
    refine br_t rfl (wk_arr (S := S) ha hb (br_t rfl ?_))
    exact hset
  unfold wL_law_210
  refine br_t (by decide) ?_
  unfold wL_law_238 wL_law_239
  refine br_t rfl ?_
  unfold wL_law_268 wL_law_270
  refine br_t rfl ?_
  unfold wL_law_286
  refine br_f (by decide) (br_t rfl (wk_msg (S := S) (br_t (by rw [h16]; rfl) (wk_draft (S := S) ?_))))
  rcases hp with ⟨rfl, h⟩ | ⟨rfl, h⟩
  · refine br_t (by rw [e0]; decide) ?_
    unfold wL_law_321
    exact br_t h (h331 0)
  · refine br_f (by rw [e0]; decide) ?_
    unfold wL_law_321
    exact br_f h (h331 1)
theorem wk_put {post : Int32 → Prop} {X : Nat → zz_T → Prop} {L : Nat} {xs : Nat → Int32} {J : Int64 → Int32 → Int32 → Int32 → Int32 → Int32 → Int32 → Int32 → Int32 → Int32 → (Nat → Int32) → (Nat → Int32) → (Nat → Int32) → (Nat → Int32) → (Nat → Int32) → (Nat → Int32) → (Nat → Int32) → (Nat → Int32) → (Nat → Int32) → (Nat → Int32) → (Nat → Int32) → (Nat → Int32) → (Nat → Int32) → (Nat → Int32) → (Nat → Int32) → (Nat → Int32) → (Nat → Int32) → (Nat → Int32) → (Nat → Int32) → (Nat → Int32) → (Nat → Int32) → (Nat → Int32) → (Nat → Int32) → (Nat → Int32) → (Nat → Int32) → (Nat → Int32) → (Nat → Int32) → (Nat → Int32) → (Nat → Int32) → (Nat → Int32) → (Nat → Int32) → (Nat → Int32) → (Nat → Int32) → (Nat → Int32) → (Nat → Int32) → (Nat → Int32) → (Nat → Int32) → (Nat → Int32) → Prop} {so go k ns sent tk a b a' b' m kc ks d u : Nat} {row : Int64} {x13 x15 : Int32} {S T : zz_T} (hso : so < 8) (hgo : go < 8) (ha : a < 8) (hb : b < 8) (hab : a ≠ b) (ha' : a' < 8) (hb' : b' < 8) (hab' : a' ≠ b') (hk : k < 260) (hX : zz_X so go X)
    (hns : ns ≤ k) (hI : zz_I ns S) (hD : zz_D so go row sent tk S) (hr : sent < 7 → zr_0 row sent) (hs : sent ≤ k) (hx : X k S) (hd : d ≤ 1) (e0 : S 0 0 = nI d) (hu : u ≤ 256) (hud : d = if u = 0 then 0 else 1) (h7 : 0 < d → S 7 0 = nI (u - 1))
    (hc : (x13 = 0 ∧ a' = a ∧ b' = b ∧ (a = 0 ∨ a = 4)) ∨ (¬ x13 = 0 ∧ a' = so ∧ b' = go)) (hm : m < 16) (hn : ¬ mm_has S m) (hT : T = mm_post a' b' m d S)
    (H : ∀ row' sent', zz_V X so go (k + 1) row' sent' tk T → J row' (nI sent') (nI tk) (nI (k + 1)) (T 0 0) (T 1 0) (T 2 0) (T 3 0) (T 4 0) (T 5 0) (T 6) (T 7) (T 8) (T 9) (T 10) (T 11) (T 12) (T 13) (T 14) (T 15) (T 16) (T 17) (T 18) (T 19) (T 20) (T 21) (T 22) (T 23) (T 24) (T 25) (T 26) (T 27) (T 28) (T 29) (T 30) (T 31) (T 32) (T 33) (T 34) (T 35) (T 36) (T 37) (T 38) (T 39) (T 40) (T 41) (T 42) (T 43)) :
    wL_law_210 post L xs J (nI so) (nI go) row (nI sent) (nI tk) (nI k) (nI a) (nI b) x13 (nI u) x15 (nI (zz_cnt (mm_has T) 16)) kc ks (T 0 0) (T 1 0) (T 2 0) (T 3 0) (T 4 0) (T 5 0) (T 6) (T 7) (T 8) (T 9) (T 10) (T 11) (T 12) (T 13) (T 14) (T 15) (T 16) (T 17) (T 18) (T 19) (T 20) (T 21) (T 22) (T 23) (T 24) (T 25) (T 26) (T 27) (T 28) (T 29) (T 30) (T 31) (T 32) (T 33) (T 34) (T 35) (T 36) (T 37) (T 38) (T 39) (T 40) (T 41) (T 42) (T 43) := by
  have hI' := zz_Ipost (show ns < 2 ^ 30 by omega) ha' hb' hm hd e0 hn hI T hT
  have hx' : X (k + 1) T := hX.2.2.2.2.2.2.2.1 k ns a' b' m d S T hk ha' hb' hab' hm hd (hc.elim (fun z => Or.inr (by rw [z.2.1]; exact z.2.2.2)) (fun z => Or.inl ⟨z.2.1, z.2.2⟩)) hI hn hT hx
  obtain ⟨_, e0', hh, _⟩ := zz_post ha' hb' hm hd e0 T hT
  have hpos : zz_cnt (mm_has T) 16 ≠ 0 := fun z => zz_cnt0 16 z m hm ((hh m hm).2 (Or.inr rfl))
  have hle := zz_cntle (P := mm_has T) 16
  have hV0 : ¬ (a' = so ∧ b' = go) → zz_V X so go (k + 1) row sent tk T := fun z => ⟨ns + 1, by omega, hI', zz_Dother ha' hb' hso hgo hm hd e0 hn hD z T hT, e0', hr, by omega, hx'⟩
  have hV1 : a' = so ∧ b' = go → ∀ row', (∀ w, w < sent → w < 7 → mm_due row' w = mm_due row w) → (sent < 7 → mm_due row' sent = nI u) → (sent + 1 < 7 → zr_0 row' (sent + 1)) → zz_V X so go (k + 1) row' (sent + 1) tk T :=
    fun z row' z1 z2 z3 => ⟨ns + 1, by omega, hI', zz_Dpost (show ns < 2 ^ 30 by omega) ha' hb' hm hd e0 hn hI hD z hu hud h7 z1 z2 T hT, e0', z3, by omega, hx'⟩
  clear hT
  have hno : ¬ (a' = so ∧ b' = go) → wL_law_238 post L xs J (nI so) (nI go) row (nI sent) (nI tk) (nI k) (nI a) (nI b) (nI u) x15 (nI (zz_cnt (mm_has T) 16)) kc ks (T 0 0) (T 1 0) (T 2 0) (T 3 0) (T 4 0) (T 5 0) (T 6) (T 7) (T 8) (T 9) (T 10) (T 11) (T 12) (T 13) (T 14) (T 15) (T 16) (T 17) (T 18) (T 19) (T 20) (T 21) (T 22) (T 23) (T 24) (T 25) (T 26) (T 27) (T 28) (T 29) (T 30) (T 31) (T 32) (T 33) (T 34) (T 35) (T 36) (T 37) (T 38) (T 39) (T 40) (T 41) (T 42) (T 43) := by
    intro z
    unfold wL_law_238 wL_law_239
    refine br_t rfl ?_
    unfold wL_law_268 wL_law_270
    refine br_t rfl ?_
    unfold wL_law_286
    refine br_t (nI_pos' (by omega)) ?_
    exact wk_511 hso hgo ha hb hab (by omega) (hV0 z) (H row sent (hV0 z))
  have hyes : a' = so ∧ b' = go → wL_law_234 post L xs J (nI so) (nI go) row (nI sent) (nI tk) (nI k) (nI a) (nI b) (nI u) x15 (nI (zz_cnt (mm_has T) 16)) kc ks (T 0 0) (T 1 0) (T 2 0) (T 3 0) (T 4 0) (T 5 0) (T 6) (T 7) (T 8) (T 9) (T 10) (T 11) (T 12) (T 13) (T 14) (T 15) (T 16) (T 17) (T 18) (T 19) (T 20) (T 21) (T 22) (T 23) (T 24) (T 25) (T 26) (T 27) (T 28) (T 29) (T 30) (T 31) (T 32) (T 33) (T 34) (T 35) (T 36) (T 37) (T 38) (T 39) (T 40) (T 41) (T 42) (T 43) := by
    intro z
    unfold wL_law_234 wL_law_239
    refine br_f (by decide) ?_
    by_cases c : sent < 7
    · obtain ⟨z1, z2, z3⟩ := zr_put c (show u < 512 by omega) (hr c)
      have hv := hV1 z _ (fun w hw _ => z3 w hw) (fun _ => z2) (fun _ => z1)
      refine br_f (nI_ge c (by decide)) ?_
      unfold wL_law_270
      refine br_f (by decide) ?_
      unfold wL_law_286
      refine br_t (nI_pos' (by omega)) ?_
      rw [nI_1]
      exact wk_511 hso hgo ha hb hab (by omega) hv (H _ _ hv)
    · have hv := hV1 z row (fun _ _ _ => rfl) (fun w => absurd w c) (fun w => absurd w (by omega))
      refine br_t (nI_le (a := 7) (by omega) (by omega)) ?_
      unfold wL_law_268 wL_law_270
      refine br_f (by decide) ?_
      unfold wL_law_286
      refine br_t (nI_pos' (by omega)) ?_
      rw [nI_1]
      exact wk_511 hso hgo ha hb hab (by omega) hv (H _ _ hv)
  unfold wL_law_210
  refine br_f (nI_nle (by omega) (by omega)) ?_
  rcases hc with ⟨c1, rfl, rfl, _⟩ | ⟨c1, c2, c3⟩
  · refine br_t c1 ?_
    by_cases e1 : a' = so
    · refine br_t (by rw [e1]) ?_
      by_cases e2 : b' = go
      · exact br_t (by rw [e2]) (hyes ⟨e1, e2⟩)
      · exact br_f (fun z => e2 ((nI_eq (by omega) (by omega)).1 z)) (hno (fun z => e2 z.2))
    · exact br_f (fun z => e1 ((nI_eq (by omega) (by omega)).1 z)) (hno (fun z => e1 z.1))
  · exact br_f c1 (hyes ⟨c2, c3⟩)
