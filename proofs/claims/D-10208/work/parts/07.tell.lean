/-! ## hearTell, hearLoss -/
noncomputable def mm_ht1 (s : Nat) (sender : Int32) (S : zz_T) : zz_T := mm_learn s (S 43 1).toNatClampNeg sender (S 43 4 + 1) (S 43 3) S
noncomputable def mm_ht2 (s : Nat) (sender : Int32) (S : zz_T) : zz_T := zz_s (mm_cpy (mm_ht1 s sender S)) 42 4 (mm_cpy (mm_ht1 s sender S) 42 4 + 1)
noncomputable def mm_hearTell (s : Nat) (sender : Int32) (S : zz_T) : zz_T := @ite _ (S 43 2 = nI s) (Classical.propDecidable _) (mm_ht1 s sender S) (mm_pass s (mm_ht2 s sender S))
theorem zz_5ht1 {s : Nat} {b : Int32} {S : zz_T} (h : zz_5 S) : zz_5 (mm_ht1 s b S) := zz_5learn h
theorem zz_5ht2 {s : Nat} {b : Int32} {S : zz_T} (h : zz_5 S) : zz_5 (mm_ht2 s b S) := zz_5s (by decide) (zz_5cpy (zz_5ht1 h))
theorem zz_ht43 {s : Nat} {b : Int32} {S : zz_T} : mm_ht1 s b S 43 = S 43 := zz_lno (by decide) (by decide) (by decide)
theorem zz_5hearTell {s : Nat} {b : Int32} {S : zz_T} (h : zz_5 S) : zz_5 (mm_hearTell s b S) := by
  unfold mm_hearTell
  split
  · exact zz_5ht1 h
  · exact zz_5pass (zz_5ht2 h)
theorem wk_learnE {post : St1 → Prop} {S : zz_T} {s g : Nat} {gI next links number : Int32} (e : gI = nI g) (hs : s < 8) (hg : g < 8) (H : post (zz_u (mm_learn s g next links number S))) :
    wpX_learn post (zz_u S) (nI s) gI next links number := by
  rw [e]
  exact wk_learn hs hg H
theorem wk_hearTell {post : St1 → Prop} {S : zz_T} {s : Nat} {sender : Int32} (hs : s < 8) (h5 : zz_5 S) (h43 : zz_43 S) (H : post (zz_u (mm_hearTell s sender S))) : wpX_hearTell post (zz_u S) (nI s) sender := by
  obtain ⟨⟨f, hf, ef⟩, ⟨g, hg, eg⟩⟩ := h43
  unfold mm_hearTell at H
  have e1 : mm_ht1 s sender S = mm_learn s f sender (S 43 4 + 1) (S 43 3) S := by
    unfold mm_ht1
    rw [zz_cl (by omega) ef]
  have k1 : mm_learn s f sender (S 43 4 + 1) (S 43 3) S 43 = S 43 := zz_lno (by decide) (by decide) (by decide)
  unfold wpX_hearTell zz_u
  dsimp only
  refine wk_learnE (S := S) ef hs hf ?_
  refine And.intro (fun c => ?_) (fun c => ?_)
  · rw [if_pos (show S 43 2 = nI s from (congrFun k1 2).symm.trans c), e1] at H
    exact H
  · rw [if_neg (show ¬ S 43 2 = nI s from fun z => c ((congrFun k1 2).trans z))] at H
    unfold mm_ht2 at H
    rw [e1] at H
    refine wk_copy (S := mm_learn s f sender (S 43 4 + 1) (S 43 3) S) ?_
    refine nm_e ?_
    refine wk_pass (g := g) (S := zz_s (mm_cpy (mm_learn s f sender (S 43 4 + 1) (S 43 3) S)) 42 4 (mm_cpy (mm_learn s f sender (S 43 4 + 1) (S 43 3) S) 42 4 + 1)) hs hg ?_ (zz_5s (by decide) (zz_5cpy (zz_5learn h5))) H
    rw [zz_se, pk_un (by decide), zz_cpyw (by decide), k1, eg]
noncomputable def mm_hearLoss (s : Nat) (sender : Int32) (S : zz_T) : zz_T :=
  @ite _ (¬ nI s = S 43 2 ∧ S 18 (s * 8 + (S 43 2).toNatClampNeg) = sender ∧ ¬ S 43 3 < S 20 (s * 8 + (S 43 2).toNatClampNeg)) (Classical.propDecidable _) (mm_give s (S 43 2).toNatClampNeg S) (S)
theorem zz_5hearLoss {s : Nat} {b : Int32} {S : zz_T} (h : zz_5 S) : zz_5 (mm_hearLoss s b S) := by
  unfold mm_hearLoss
  split
  · exact zz_5give h
  · exact h
theorem wk_hearLoss {post : St1 → Prop} {S : zz_T} {s : Nat} {sender : Int32} (hs : s < 8) (h5 : zz_5 S) (h43 : zz_43 S) (H : post (zz_u (mm_hearLoss s sender S))) : wpX_hearLoss post (zz_u S) (nI s) sender := by
  obtain ⟨_, ⟨g, hg, eg⟩⟩ := h43
  unfold mm_hearLoss at H
  rw [zz_cl (by omega) eg, eg] at H
  have hv : vp_in (nI (s * 8 + g)) 64 := vp_in_nI (by omega) (by decide)
  refine nm_r (e' := nI g) eg (nm_r zz_w ?_)
  refine And.intro (fun c => ?_) (fun c => And.intro hv ?_)
  · rw [if_neg (fun z => z.1 c)] at H
    exact H
  · rw [nI_clamp (show s * 8 + g < 2 ^ 31 by omega)]
    refine ⟨fun c2 => ⟨hv, fun c3 => ?_, fun c3 => ?_⟩, fun c2 => ?_⟩
    · rw [if_neg (fun z => z.2.2 c3)] at H
      exact H
    · rw [if_pos ⟨c, c2, c3⟩] at H
      exact wk_give hs hg h5 H
    · rw [if_neg (fun z => c2 z.2.1)] at H
      exact H
/-! ## has, isThere, firstWaiting -/
def mm_has (S : zz_T) (m : Nat) : Prop := ¬ (S 1 0 >>> (nI m &&& 31)) &&& 1 = 0
def mm_isT (S : zz_T) (m : Nat) : Prop := ¬ (S 2 0 >>> (nI m &&& 31)) &&& 1 = 0
theorem wk_has {post : Int32 → Prop} {S : zz_T} {m : Nat} (H0 : ¬ mm_has S m → post 0) (H1 : mm_has S m → post 1) : wpX_has post (zz_u S) (nI m) :=
  And.intro (fun h => H0 (fun z => z h)) (fun h => H1 h)
theorem wk_isT {post : Int32 → Prop} {S : zz_T} {m : Nat} (H0 : ¬ mm_isT S m → post 0) (H1 : mm_isT S m → post 1) : wpX_isThere post (zz_u S) (nI m) :=
  And.intro (fun h => H0 (fun z => z h)) (fun h => H1 h)
/-- message m waits at a for b -/
def mm_wt (S : zz_T) (a b : Int32) (m : Nat) : Prop := mm_has S m ∧ ¬ mm_isT S m ∧ S 9 m = a ∧ S 10 m = b
noncomputable def mm_fw1 (S : zz_T) (a b : Int32) (m : Nat) (r : Option Nat) : Option Nat :=
  @ite _ (mm_wt S a b m) (Classical.propDecidable _) (match r with | none => some m | some k => @ite _ (S 8 k ≤ S 8 m) (Classical.propDecidable _) (some k) (some m)) (r)
noncomputable def mm_fw (S : zz_T) (a b : Int32) : Option Nat := zz_it (mm_fw1 S a b) 16 none
def mm_oI : Option Nat → Int32
  | none => -1
  | some k => nI k
theorem mm_fwI {S : zz_T} {a b : Int32} {i : Nat} {r : Option Nat} (hi : i < 16) (h : ∀ k, r = some k → k < 16) : ∀ k, mm_fw1 S a b i r = some k → k < 16 := by
  intro k
  unfold mm_fw1
  split
  · cases r with
    | none => intro e; injection e with e; omega
    | some q =>
      show (@ite _ (S 8 q ≤ S 8 i) (Classical.propDecidable _) (some q) (some i)) = some k → _
      split
      · intro e; injection e with e; rw [← e]; exact h q rfl
      · intro e; injection e with e; omega
  · exact h k
theorem mm_fwlt {S : zz_T} {a b : Int32} : ∀ k, mm_fw S a b = some k → k < 16 :=
  zz_itI (fun _ r => ∀ k, r = some k → k < 16) (fun k e => by cases e) (fun _ _ hk h => mm_fwI hk h)
theorem wk_fw {post : Int32 → Prop} {S : zz_T} {a b : Int32} (H : post (mm_oI (mm_fw S a b))) : wpX_firstWaiting post (zz_u S) a b := by
  refine zz_lp (fun n i r => wX_firstWaiting_5 post a b (S 0 0) (S 1 0) (S 2 0) (S 3 0) (S 4 0) (S 5 0) (S 6) (S 7) (S 8) (S 9) (S 10) (S 11) (S 12) (S 13) (S 14) (S 15) (S 16) (S 17) (S 18) (S 19) (S 20) (S 21) (S 22) (S 23) (S 24) (S 25) (S 26) (S 27) (S 28) (S 29) (S 30) (S 31) (S 32) (S 33) (S 34) (S 35) (S 36) (S 37) (S 38) (S 39) (S 40) (S 41) (S 42) (S 43) n (mm_oI r) (nI i)) (mm_fw1 S a b) (fun _ r => ∀ k, r = some k → k < 16) 16 none (fun k e => by cases e) (fun _ _ hk h => mm_fwI hk h) ?_ ?_
  · intro n _
    exact pk_le 16 16 (fun _ => H) (fun z => absurd z (by omega))
  · intro n i r hi hr hw
    have hv : vp_in (nI i) 16 := vp_in_nI hi (by decide)
    refine pk_le 16 i (fun z => absurd z (by omega)) (fun _ => ?_)
    have hno : ¬ mm_wt S a b i → wX_firstWaiting_56 post (wX_firstWaiting_5 post a b (S 0 0) (S 1 0) (S 2 0) (S 3 0) (S 4 0) (S 5 0) (S 6) (S 7) (S 8) (S 9) (S 10) (S 11) (S 12) (S 13) (S 14) (S 15) (S 16) (S 17) (S 18) (S 19) (S 20) (S 21) (S 22) (S 23) (S 24) (S 25) (S 26) (S 27) (S 28) (S 29) (S 30) (S 31) (S 32) (S 33) (S 34) (S 35) (S 36) (S 37) (S 38) (S 39) (S 40) (S 41) (S 42) (S 43) n) a b (mm_oI r) (nI i) (S 0 0) (S 1 0) (S 2 0) (S 3 0) (S 4 0) (S 5 0) (S 6) (S 7) (S 8) (S 9) (S 10) (S 11) (S 12) (S 13) (S 14) (S 15) (S 16) (S 17) (S 18) (S 19) (S 20) (S 21) (S 22) (S 23) (S 24) (S 25) (S 26) (S 27) (S 28) (S 29) (S 30) (S 31) (S 32) (S 33) (S 34) (S 35) (S 36) (S 37) (S 38) (S 39) (S 40) (S 41) (S 42) (S 43) := by
      intro c
      rw [show mm_fw1 S a b i r = r from if_neg c] at hw
      exact And.intro (fun _ => nm_r (nI_1 i) hw) (fun z => absurd rfl z)
    have hyes : mm_wt S a b i → wX_firstWaiting_57 post (wX_firstWaiting_5 post a b (S 0 0) (S 1 0) (S 2 0) (S 3 0) (S 4 0) (S 5 0) (S 6) (S 7) (S 8) (S 9) (S 10) (S 11) (S 12) (S 13) (S 14) (S 15) (S 16) (S 17) (S 18) (S 19) (S 20) (S 21) (S 22) (S 23) (S 24) (S 25) (S 26) (S 27) (S 28) (S 29) (S 30) (S 31) (S 32) (S 33) (S 34) (S 35) (S 36) (S 37) (S 38) (S 39) (S 40) (S 41) (S 42) (S 43) n) a b (mm_oI r) (nI i) 1 (S 0 0) (S 1 0) (S 2 0) (S 3 0) (S 4 0) (S 5 0) (S 6) (S 7) (S 8) (S 9) (S 10) (S 11) (S 12) (S 13) (S 14) (S 15) (S 16) (S 17) (S 18) (S 19) (S 20) (S 21) (S 22) (S 23) (S 24) (S 25) (S 26) (S 27) (S 28) (S 29) (S 30) (S 31) (S 32) (S 33) (S 34) (S 35) (S 36) (S 37) (S 38) (S 39) (S 40) (S 41) (S 42) (S 43) := by
      intro c
      refine And.intro (fun z => absurd z (by decide)) (fun _ => ?_)
      cases r with
      | none =>
        rw [show mm_fw1 S a b i none = some i from if_pos c] at hw
        exact ⟨fun _ => nm_r (nI_1 i) hw, fun z => absurd (show (-1 : Int32) < 0 by decide) z⟩
      | some q =>
        have hq := hr q rfl
        rw [show mm_fw1 S a b i (some q) = @ite _ (S 8 q ≤ S 8 i) (Classical.propDecidable _) (some q) (some i) from if_pos c] at hw
        refine ⟨fun z => absurd z (nI_pos (by omega)), fun _ => ⟨hv, vp_in_nI hq (by decide), ?_⟩⟩
        show (S 8 (nI q).toNatClampNeg ≤ S 8 (nI i).toNatClampNeg → _) ∧ (¬ S 8 (nI q).toNatClampNeg ≤ S 8 (nI i).toNatClampNeg → _)
        rw [nI_clamp (show q < 2 ^ 31 by omega), nI_clamp (show i < 2 ^ 31 by omega)]
        refine ⟨fun d => nm_r (nI_1 i) ?_, fun d => nm_r (nI_1 i) ?_⟩
        · rw [if_pos d] at hw
          exact hw
        · rw [if_neg d] at hw
          exact hw
    refine wk_has (fun c => br_t rfl (hno (fun z => c z.1))) (fun c => br_f (by decide) ?_)
    refine wk_isT (fun c2 => br_t rfl ?_) (fun c2 => br_f (by decide) (hno (fun z => z.2.1 c2)))
    refine ⟨hv, ?_⟩
    rw [nI_clamp (show i < 2 ^ 31 by omega)]
    exact ⟨fun c3 => ⟨hv, fun c4 => hyes ⟨c, c2, c3, c4⟩, fun c4 => hno (fun z => c4 z.2.2.2)⟩, fun c3 => hno (fun z => c3 z.2.2.1)⟩
