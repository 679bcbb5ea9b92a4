/-! ## distance, isConnected, ready -/
/-- bit k of a mask -/
def zz_b (r : Int32) (k : Nat) : Prop := ¬ (r >>> (nI k &&& 31)) &&& 1 = 0
noncomputable def mm_wid1 (S : zz_T) (r : Int32) (s : Nat) (w : Int32) : Int32 := @ite _ (zz_b r s) (Classical.propDecidable _) (w ||| (S 6 s &&& 255)) (w ||| 0)
noncomputable def mm_wid (S : zz_T) (r : Int32) : Int32 := zz_it (mm_wid1 S r) 8 r
noncomputable def mm_rch (S : zz_T) (a : Nat) : Nat → Int32
  | 0 => (1 : Int32) <<< (nI a &&& 31)
  | n + 1 => mm_wid S (mm_rch S a n)
/-- the first n from i on, of k places, with P n -/
noncomputable def zz_fst (P : Nat → Prop) : Nat → Nat → Option Nat
  | 0, _ => none
  | k + 1, i => @ite _ (P i) (Classical.propDecidable _) (some i) (zz_fst P k (i + 1))
theorem zz_fst_some {P : Nat → Prop} : ∀ k i n, zz_fst P k i = some n → i ≤ n ∧ n < i + k ∧ P n ∧ ∀ j, i ≤ j → j < n → ¬ P j := by
  intro k
  induction k with
  | zero => intro i n h; cases h
  | succ k ih =>
    intro i n h
    unfold zz_fst at h
    by_cases c : P i
    · rw [if_pos c] at h
      injection h with h
      subst h
      exact ⟨Nat.le_refl _, by omega, c, fun j h1 h2 => absurd h1 (by omega)⟩
    · rw [if_neg c] at h
      obtain ⟨h1, h2, h3, h4⟩ := ih (i + 1) n h
      refine ⟨by omega, by omega, h3, fun j h5 h6 => ?_⟩
      by_cases e : j = i
      · rw [e]; exact c
      · exact h4 j (by omega) h6
theorem zz_fst_none {P : Nat → Prop} : ∀ k i, zz_fst P k i = none → ∀ j, i ≤ j → j < i + k → ¬ P j := by
  intro k
  induction k with
  | zero => intro i _ j h1 h2; omega
  | succ k ih =>
    intro i h j h1 h2
    unfold zz_fst at h
    by_cases c : P i
    · rw [if_pos c] at h
      cases h
    · rw [if_neg c] at h
      by_cases e : j = i
      · rw [e]; exact c
      · exact ih (i + 1) h j (by omega) (by omega)
noncomputable def mm_dist (S : zz_T) (a b : Nat) : Option Nat := zz_fst (fun n => zz_b (mm_rch S a n) b) 8 0
theorem wk_sta {post : Int32 → Prop} {a : Nat} (ha : a < 8) (H : post 1) : wpX_isStation post () (nI a) :=
  And.intro (fun z => absurd z (nI_pos (by omega))) (fun _ => And.intro (fun z => absurd z (nI_ge (b := 8) ha (by decide))) (fun _ => H))
theorem wk_dist {post : Int32 → Prop} {S : zz_T} {a b : Nat} (ha : a < 8) (hb : b < 8) (H : post (mm_oI (mm_dist S a b))) : wpX_distance post (zz_u S) (nI a) (nI b) := by
  have h23 : ∀ k i, i + k = 8 → post (mm_oI (zz_fst (fun n => zz_b (mm_rch S a n) b) k i)) → wX_distance_23 post (nI b) (S 0 0) (S 1 0) (S 2 0) (S 3 0) (S 4 0) (S 5 0) (S 6) (S 7) (S 8) (S 9) (S 10) (S 11) (S 12) (S 13) (S 14) (S 15) (S 16) (S 17) (S 18) (S 19) (S 20) (S 21) (S 22) (S 23) (S 24) (S 25) (S 26) (S 27) (S 28) (S 29) (S 30) (S 31) (S 32) (S 33) (S 34) (S 35) (S 36) (S 37) (S 38) (S 39) (S 40) (S 41) (S 42) (S 43) (k + 1) (mm_rch S a i) (nI i) := by
    intro k
    induction k with
    | zero =>
      intro i hi H
      have e : i = 8 := by omega
      subst e
      exact pk_le 8 8 (fun _ => H) (fun z => absurd z (by omega))
    | succ k ih =>
      intro i hi H
      refine pk_le 8 i (fun z => absurd z (by omega)) (fun _ => ?_)
      unfold zz_fst at H
      refine ⟨fun c => ?_, fun c => ?_⟩
      · rw [if_neg (show ¬ zz_b (mm_rch S a i) b from fun z => z c)] at H
        refine zz_lp (fun n j w => wX_distance_47 post (wX_distance_23 post (nI b) (S 0 0) (S 1 0) (S 2 0) (S 3 0) (S 4 0) (S 5 0) (S 6) (S 7) (S 8) (S 9) (S 10) (S 11) (S 12) (S 13) (S 14) (S 15) (S 16) (S 17) (S 18) (S 19) (S 20) (S 21) (S 22) (S 23) (S 24) (S 25) (S 26) (S 27) (S 28) (S 29) (S 30) (S 31) (S 32) (S 33) (S 34) (S 35) (S 36) (S 37) (S 38) (S 39) (S 40) (S 41) (S 42) (S 43) (k + 1)) (nI b) (mm_rch S a i) (nI i) (S 0 0) (S 1 0) (S 2 0) (S 3 0) (S 4 0) (S 5 0) (S 6) (S 7) (S 8) (S 9) (S 10) (S 11) (S 12) (S 13) (S 14) (S 15) (S 16) (S 17) (S 18) (S 19) (S 20) (S 21) (S 22) (S 23) (S 24) (S 25) (S 26) (S 27) (S 28) (S 29) (S 30) (S 31) (S 32) (S 33) (S 34) (S 35) (S 36) (S 37) (S 38) (S 39) (S 40) (S 41) (S 42) (S 43) n w (nI j)) (mm_wid1 S (mm_rch S a i)) (fun _ _ => True) 8 (mm_rch S a i) trivial (fun _ _ _ _ => trivial) ?_ ?_
        · intro n _
          exact pk_le 8 8 (fun _ => nm_r (nI_1 i) (ih (i + 1) (by omega) H)) (fun z => absurd z (by omega))
        · intro n j w hj _ hw
          refine pk_le 8 j (fun z => absurd z (by omega)) (fun _ => ⟨fun d => ?_, fun d => ⟨vp_in_nI hj (by decide), ?_⟩⟩)
          · rw [show mm_wid1 S (mm_rch S a i) j w = w ||| 0 from if_neg (fun z => z d)] at hw
            exact nm_e (nm_r (nI_1 j) hw)
          · rw [show mm_wid1 S (mm_rch S a i) j w = w ||| (S 6 j &&& 255) from if_pos d] at hw
            rw [nI_clamp (show j < 2 ^ 31 by omega)]
            exact nm_e (nm_r (nI_1 j) hw)
      · rw [if_pos (show zz_b (mm_rch S a i) b from c)] at H
        exact H
  unfold wpX_distance zz_u
  dsimp only
  refine wk_sta ha (br_f (by decide) (wk_sta hb (br_f (by decide) (nm_e ⟨9, ?_⟩))))
  exact h23 8 0 (by omega) H
/-- message m is ready: it waits, and its goal can be reached -/
def mm_rd (S : zz_T) (m : Nat) : Prop := mm_has S m ∧ ¬ mm_isT S m ∧ ∃ n, mm_dist S (S 9 m).toNatClampNeg (S 10 m).toNatClampNeg = some n
noncomputable def zz_cnt (P : Nat → Prop) : Nat → Nat
  | 0 => 0
  | n + 1 => zz_cnt P n + @ite _ (P n) (Classical.propDecidable _) (1) (0)
theorem wk_conn {post : Int32 → Prop} {S : zz_T} {m a b : Nat} (hm : m < 16) (ea : S 9 m = nI a) (eb : S 10 m = nI b) (ha : a < 8) (hb : b < 8) (H0 : ¬ (∃ n, mm_dist S a b = some n) → post 0) (H1 : (∃ n, mm_dist S a b = some n) → post 1) : wpX_isConnected post (zz_u S) (nI m) := by
  unfold wpX_isConnected zz_u
  dsimp only
  rw [nI_clamp (show m < 2 ^ 31 by omega), ea, eb]
  refine ⟨vp_in_nI hm (by decide), vp_in_nI hm (by decide), ?_⟩
  refine wk_dist (S := S) ha hb ?_
  cases h : mm_dist S a b with
  | none => exact ⟨fun _ => H0 (fun ⟨n, e⟩ => by rw [h] at e; cases e), fun z => absurd rfl z⟩
  | some n =>
    have hn := (zz_fst_some 8 0 n h).2.1
    refine ⟨fun z => absurd z (fun y => ?_), fun _ => H1 ⟨n, h⟩⟩
    exact absurd (show nI n < 0 by rw [show nI n = -1 from y]; decide) (nI_pos (by omega))
/-- sources and goals of the messages are stations -/
def zz_910 (S : zz_T) : Prop := ∀ m, m < 16 → (∃ a, a < 8 ∧ S 9 m = nI a) ∧ (∃ b, b < 8 ∧ S 10 m = nI b)
theorem wk_ready {post : Int32 → Prop} {S : zz_T} (h9 : zz_910 S) (H : post (nI (zz_cnt (mm_rd S) 16))) : wpX_ready post (zz_u S) := by
  refine zz_lp (fun n i r => wX_ready_4 post (S 0 0) (S 1 0) (S 2 0) (S 3 0) (S 4 0) (S 5 0) (S 6) (S 7) (S 8) (S 9) (S 10) (S 11) (S 12) (S 13) (S 14) (S 15) (S 16) (S 17) (S 18) (S 19) (S 20) (S 21) (S 22) (S 23) (S 24) (S 25) (S 26) (S 27) (S 28) (S 29) (S 30) (S 31) (S 32) (S 33) (S 34) (S 35) (S 36) (S 37) (S 38) (S 39) (S 40) (S 41) (S 42) (S 43) n (nI r) (nI i)) (fun i r => r + @ite _ (mm_rd S i) (Classical.propDecidable _) (1) (0)) (fun i r => r = zz_cnt (mm_rd S) i) 16 0 rfl (fun i r _ h => by rw [h]; rfl) ?_ ?_
  · intro n h
    rw [← h] at H
    exact pk_le 16 16 (fun _ => H) (fun z => absurd z (by omega))
  · intro n i r hi _ hw
    obtain ⟨⟨a, ha, ea⟩, ⟨b, hb, eb⟩⟩ := h9 i hi
    have h0 : ¬ mm_rd S i → ∀ x, x = nI r + 0 → ∀ y, y = nI i + 1 → wX_ready_4 post (S 0 0) (S 1 0) (S 2 0) (S 3 0) (S 4 0) (S 5 0) (S 6) (S 7) (S 8) (S 9) (S 10) (S 11) (S 12) (S 13) (S 14) (S 15) (S 16) (S 17) (S 18) (S 19) (S 20) (S 21) (S 22) (S 23) (S 24) (S 25) (S 26) (S 27) (S 28) (S 29) (S 30) (S 31) (S 32) (S 33) (S 34) (S 35) (S 36) (S 37) (S 38) (S 39) (S 40) (S 41) (S 42) (S 43) n x y := by
      intro c
      rw [show r + @ite _ (mm_rd S i) (Classical.propDecidable _) (1) (0) = r from by rw [if_neg c]; rfl] at hw
      exact nm_r (e' := nI r) (by rw [show (0 : Int32) = nI 0 from rfl, nI_add]; rfl) (nm_r (nI_1 i) hw)
    have h1 : mm_rd S i → ∀ x, x = nI r + 1 → ∀ y, y = nI i + 1 → wX_ready_4 post (S 0 0) (S 1 0) (S 2 0) (S 3 0) (S 4 0) (S 5 0) (S 6) (S 7) (S 8) (S 9) (S 10) (S 11) (S 12) (S 13) (S 14) (S 15) (S 16) (S 17) (S 18) (S 19) (S 20) (S 21) (S 22) (S 23) (S 24) (S 25) (S 26) (S 27) (S 28) (S 29) (S 30) (S 31) (S 32) (S 33) (S 34) (S 35) (S 36) (S 37) (S 38) (S 39) (S 40) (S 41) (S 42) (S 43) n x y := by
      intro c
      rw [show r + @ite _ (mm_rd S i) (Classical.propDecidable _) (1) (0) = r + 1 from by rw [if_pos c]] at hw
      exact nm_r (nI_1 r) (nm_r (nI_1 i) hw)
    have er : mm_rd S i ↔ mm_has S i ∧ ¬ mm_isT S i ∧ ∃ n, mm_dist S a b = some n := by
      unfold mm_rd
      rw [zz_cl (show a < 2 ^ 31 by omega) ea, zz_cl (show b < 2 ^ 31 by omega) eb]
    refine pk_le 16 i (fun z => absurd z (by omega)) (fun _ => ?_)
    refine wk_has (S := S) (fun c => br_t rfl (h0 (fun z => c z.1))) (fun c => br_f (by decide) ?_)
    refine wk_isT (S := S) (fun d => br_t rfl ?_) (fun d => br_f (by decide) (h0 (fun z => z.2.1 d)))
    exact wk_conn (S := S) hi ea eb ha hb (fun e => br_t rfl (h0 (fun z => e (er.1 z).2.2))) (fun e => br_f (by decide) (h1 (er.2 ⟨c, d, e⟩)))
