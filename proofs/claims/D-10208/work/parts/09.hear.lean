/-! ## hearPiece, hearAnswer, hear -/
def mm_anW (s f p : Nat) (T : zz_T) : zz_T :=
  zz_s (zz_s (zz_s (mm_beg 4 (nI s) (nI f) T) 42 3 (mm_beg 4 (nI s) (nI f) T 15 p)) 42 4 (mm_beg 4 (nI s) (nI f) T 29 p)) 42 5 8
noncomputable def mm_hp92 (s f p : Nat) (T : zz_T) : zz_T := mm_pass s (mm_anW s f p T)
theorem zz_5anW {s f p : Nat} {T : zz_T} (h : zz_5 T) : zz_5 (mm_anW s f p T) := zz_5s (by decide) (zz_5s (by decide) (zz_5s (by decide) (zz_5beg h)))
theorem wk_hp92 {post : St1 → Prop} {T : zz_T} {s f p : Nat} (hs : s < 8) (hf : f < 8) (hp : p < 64) (h5 : zz_5 T) (H : post (zz_u (mm_hp92 s f p T))) : wX_hearPiece_92 post (nI s) (nI f) (nI p) (T 0 0) (T 1 0) (T 2 0) (T 3 0) (T 4 0) (T 5 0) (T 6) (T 7) (T 8) (T 9) (T 10) (T 11) (T 12) (T 13) (T 14) (T 15) (T 16) (T 17) (T 18) (T 19) (T 20) (T 21) (T 22) (T 23) (T 24) (T 25) (T 26) (T 27) (T 28) (T 29) (T 30) (T 31) (T 32) (T 33) (T 34) (T 35) (T 36) (T 37) (T 38) (T 39) (T 40) (T 41) (T 42) (T 43) := by
  have hv : vp_in (nI p) 64 := vp_in_nI hp (by decide)
  unfold wX_hearPiece_92
  refine wk_begin (S := T) ?_
  refine And.intro hv ?_
  rw [nI_clamp (show p < 2 ^ 31 by omega)]
  refine nm_e ⟨hv, nm_e (nm_e ?_)⟩
  refine wk_pass (g := f) (S := mm_anW s f p T) hs hf ?_ (zz_5anW h5) H
  unfold mm_anW
  rw [zz_se, pk_un (by decide), zz_se, pk_un (by decide), zz_se, pk_un (by decide), zz_beg2]
def mm_hpK (p : Nat) (S : zz_T) : zz_T := zz_s (mm_keep p S) 29 p (mm_keep p S 29 p + 1).toInt8.toInt32
noncomputable def mm_hpT (s f p : Nat) (S : zz_T) : zz_T :=
  @ite _ (S 43 3 = S 15 p ∧ S 43 4 = S 29 p) (Classical.propDecidable _) (@ite _ (S 43 7 = 1) (Classical.propDecidable _) (mm_acc f s (mm_hpK p S)) (mm_hpK p S)) (S)
theorem zz_5hpK {p : Nat} {S : zz_T} (h : zz_5 S) : zz_5 (mm_hpK p S) := zz_5s (by decide) (zz_5keep h)
theorem zz_5hpT {s f p : Nat} {S : zz_T} (h : zz_5 S) : zz_5 (mm_hpT s f p S) := by
  unfold mm_hpT
  split
  · split
    · exact zz_5acc (zz_5hpK h)
    · exact zz_5hpK h
  · exact h
noncomputable def mm_hearPiece (s : Nat) (S : zz_T) : zz_T :=
  @ite _ (S 43 2 = nI s) (Classical.propDecidable _) (mm_hp92 s (S 43 1).toNatClampNeg ((S 43 1).toNatClampNeg + 8 * s) (mm_hpT s (S 43 1).toNatClampNeg ((S 43 1).toNatClampNeg + 8 * s) S)) (mm_carry s S)
theorem zz_5hearPiece {s : Nat} {S : zz_T} (h : zz_5 S) : zz_5 (mm_hearPiece s S) := by
  unfold mm_hearPiece
  split
  · exact zz_5pass (zz_5anW (zz_5hpT h))
  · exact zz_5carry h
theorem wk_hearPiece {post : St1 → Prop} {S : zz_T} {s l : Nat} (hs : s < 8) (h5 : zz_5 S) (h43 : zz_43 S) (e6 : S 43 6 = nI l) (hl : l ≤ 3) (h30 : ∀ p, p < 64 → S 30 p = nI 0) (H : post (zz_u (mm_hearPiece s S))) : wpX_hearPiece post (zz_u S) (nI s) := by
  obtain ⟨⟨f, hf, ef⟩, ⟨g, hg, eg⟩⟩ := h43
  unfold mm_hearPiece at H
  rw [zz_cl (by omega) ef] at H
  have hp : f + 8 * s < 64 := by omega
  have hv : vp_in (nI (f + 8 * s)) 64 := vp_in_nI hp (by decide)
  unfold wpX_hearPiece zz_u
  dsimp only
  refine And.intro (fun c => nm_r (e' := nI f) ef ?_) (fun c => ?_)
  · rw [if_pos c] at H
    unfold wpX_pair
    dsimp only
    rw [zz_p, nI_clamp (show f + 8 * s < 2 ^ 31 by omega)]
    have h92 : mm_hpT s f (f + 8 * s) S = S → wX_hearPiece_92 post (nI s) (nI f) (nI (f + 8 * s)) (S 0 0) (S 1 0) (S 2 0) (S 3 0) (S 4 0) (S 5 0) (S 6) (S 7) (S 8) (S 9) (S 10) (S 11) (S 12) (S 13) (S 14) (S 15) (S 16) (S 17) (S 18) (S 19) (S 20) (S 21) (S 22) (S 23) (S 24) (S 25) (S 26) (S 27) (S 28) (S 29) (S 30) (S 31) (S 32) (S 33) (S 34) (S 35) (S 36) (S 37) (S 38) (S 39) (S 40) (S 41) (S 42) (S 43) := by
      intro e
      rw [e] at H
      exact wk_hp92 hs hf hp h5 H
    refine ⟨hv, fun c3 => ⟨hv, fun c4 => ?_, fun c4 => h92 (if_neg (fun z => c4 z.2))⟩, fun c3 => h92 (if_neg (fun z => c3 z.1))⟩
    have eT : mm_hpT s f (f + 8 * s) S = @ite _ (S 43 7 = 1) (Classical.propDecidable _) (mm_acc f s (mm_hpK (f + 8 * s) S)) (mm_hpK (f + 8 * s) S) := if_pos ⟨c3, c4⟩
    rw [eT] at H
    refine wk_keep (S := S) hp e6 hl (h30 _ hp) ?_
    refine And.intro hv ?_
    refine ⟨hv, nm_e ?_⟩
    have k43 : mm_keep (f + 8 * s) S 43 = S 43 := zz_keepo (by decide) (by decide)
    refine ⟨fun c7 => ?_, fun c7 => ?_⟩
    · rw [if_pos (show S 43 7 = 1 from (congrFun k43 7).symm.trans c7)] at H
      refine wk_acc (S := mm_hpK (f + 8 * s) S) (q := l) hf hs ?_ (by omega) ?_
      · show mm_keep (f + 8 * s) S 30 (f + 8 * s) = nI l
        exact zz_keep30 e6 hl (h30 _ hp)
      · exact wk_hp92 (T := mm_acc f s (mm_hpK (f + 8 * s) S)) hs hf hp (zz_5acc (zz_5hpK h5)) H
    · rw [if_neg (show ¬ S 43 7 = 1 from fun z => c7 ((congrFun k43 7).trans z))] at H
      exact wk_hp92 (T := mm_hpK (f + 8 * s) S) hs hf hp (zz_5hpK h5) H
  · rw [if_neg c] at H
    exact wk_carry (S := S) hs hg eg h5 H
def mm_anS (p : Nat) (S : zz_T) : zz_T := zz_s (zz_s (zz_s (zz_s S 14 p (S 43 3)) 25 p (S 43 4).toInt8.toInt32) 28 p 0) 27 p 0
def mm_anP (p : Nat) (S : zz_T) : Prop := ¬ S 43 3 < S 14 p ∧ S 43 3 ≤ S 14 p + 1 ∧ ¬ (S 43 3 = S 14 p ∧ S 43 4 = S 25 p)
noncomputable def mm_hearAnswer (s : Nat) (S : zz_T) : zz_T :=
  @ite _ (S 43 2 = nI s) (Classical.propDecidable _) (@ite _ (mm_anP (s + 8 * (S 43 1).toNatClampNeg) S) (Classical.propDecidable _) (mm_anS (s + 8 * (S 43 1).toNatClampNeg) S) (S)) (mm_carry s S)
theorem zz_5hearAnswer {s : Nat} {S : zz_T} (h : zz_5 S) : zz_5 (mm_hearAnswer s S) := by
  unfold mm_hearAnswer
  split
  · split
    · exact zz_5s (by decide) (zz_5s (by decide) (zz_5s (by decide) (zz_5s (by decide) h)))
    · exact h
  · exact zz_5carry h
theorem wk_hearAnswer {post : St1 → Prop} {S : zz_T} {s : Nat} (hs : s < 8) (h5 : zz_5 S) (h43 : zz_43 S) (H : post (zz_u (mm_hearAnswer s S))) : wpX_hearAnswer post (zz_u S) (nI s) := by
  obtain ⟨⟨f, hf, ef⟩, ⟨g, hg, eg⟩⟩ := h43
  unfold mm_hearAnswer at H
  rw [zz_cl (by omega) ef] at H
  have hp : s + 8 * f < 64 := by omega
  have hv : vp_in (nI (s + 8 * f)) 64 := vp_in_nI hp (by decide)
  unfold wpX_hearAnswer zz_u
  dsimp only
  refine And.intro (fun c => ?_) (fun c => ?_)
  · rw [if_pos c] at H
    unfold wpX_pair
    dsimp only
    rw [ef, zz_p, nI_clamp (show s + 8 * f < 2 ^ 31 by omega)]
    have hno : ¬ mm_anP (s + 8 * f) S → post (zz_u S) := fun z => by
      rw [if_neg z] at H
      exact H
    have hyes : mm_anP (s + 8 * f) S → wX_hearAnswer_82 post (nI (s + 8 * f)) (S 43 3) (S 0 0) (S 1 0) (S 2 0) (S 3 0) (S 4 0) (S 5 0) (S 6) (S 7) (S 8) (S 9) (S 10) (S 11) (S 12) (S 13) (S 14) (S 15) (S 16) (S 17) (S 18) (S 19) (S 20) (S 21) (S 22) (S 23) (S 24) (S 25) (S 26) (S 27) (S 28) (S 29) (S 30) (S 31) (S 32) (S 33) (S 34) (S 35) (S 36) (S 37) (S 38) (S 39) (S 40) (S 41) (S 42) (S 43) := fun z => by
      rw [if_pos z] at H
      exact And.intro (fun z => absurd z (by decide)) (fun _ => zz_st hp rfl (zz_st hp rfl (zz_st hp rfl (zz_st hp rfl H))))
    refine nm_e ⟨hv, fun c1 => hno (fun z => z.1 c1), fun c1 => ⟨hv, fun c2 => ⟨hv, fun c3 => ⟨hv, fun c4 => ?_, fun c4 => hyes ⟨c1, c2, fun z => c4 z.2⟩⟩, fun c3 => hyes ⟨c1, c2, fun z => c3 z.1⟩⟩, fun c2 => hno (fun z => c2 z.2.1)⟩⟩
    exact And.intro (fun _ => hno (fun z => z.2.2 ⟨c3, c4⟩)) (fun z => absurd rfl z)
  · rw [if_neg c] at H
    exact wk_carry (S := S) hs hg eg h5 H
noncomputable def mm_hear (s : Nat) (sender : Int32) (S : zz_T) : zz_T :=
  @ite _ (S 43 0 = 0) (Classical.propDecidable _) (mm_hearAsk s sender S) (@ite _ (S 43 0 = 1) (Classical.propDecidable _) (mm_hearTell s sender S) (@ite _ (S 43 0 = 2) (Classical.propDecidable _) (mm_hearLoss s sender S) (@ite _ (S 43 0 = 3) (Classical.propDecidable _) (mm_hearPiece s S) (mm_hearAnswer s S))))
theorem zz_5hear {s : Nat} {b : Int32} {S : zz_T} (h : zz_5 S) : zz_5 (mm_hear s b S) := by
  unfold mm_hear
  split
  · exact zz_5hearAsk h
  · split
    · exact zz_5hearTell h
    · split
      · exact zz_5hearLoss h
      · split
        · exact zz_5hearPiece h
        · exact zz_5hearAnswer h
theorem wk_hear {post : St1 → Prop} {S : zz_T} {s l : Nat} {sender : Int32} (hs : s < 8) (h5 : zz_5 S) (h24 : zz_24 S) (h43 : zz_43 S) (e6 : S 43 0 = 3 → S 43 6 = nI l) (hl : l ≤ 3) (h30 : ∀ p, p < 64 → S 30 p = nI 0) (H : post (zz_u (mm_hear s sender S))) : wpX_hear post (zz_u S) (nI s) sender := by
  unfold mm_hear at H
  unfold wpX_hear zz_u
  dsimp only
  refine nm_e (And.intro (fun c => ?_) (fun c => And.intro (fun c1 => ?_) (fun c1 => And.intro (fun c2 => ?_) (fun c2 => And.intro (fun c3 => ?_) (fun c3 => ?_)))))
  · rw [if_pos c] at H
    exact wk_hearAsk (S := S) hs h5 h24 h43 H
  · rw [if_neg c, if_pos c1] at H
    exact wk_hearTell (S := S) hs h5 h43 H
  · rw [if_neg c, if_neg c1, if_pos c2] at H
    exact wk_hearLoss (S := S) hs h5 h43 H
  · rw [if_neg c, if_neg c1, if_neg c2, if_pos c3] at H
    exact wk_hearPiece (S := S) hs h5 h43 (e6 c3) hl h30 H
  · rw [if_neg c, if_neg c1, if_neg c2, if_neg c3] at H
    exact wk_hearAnswer (S := S) hs h5 h43 H
