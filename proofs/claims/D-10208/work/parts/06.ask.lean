/-! ## ask, hearAsk, hearTell, hearLoss -/
theorem zz_lno {s g f : Nat} {a b c : Int32} {S : zz_T} (h1 : f ≠ 18) (h2 : f ≠ 19) (h3 : f ≠ 20) : mm_learn s g a b c S f = S f := by
  unfold mm_learn
  split
  · unfold mm_lnS
    rw [zz_sn h3, zz_sn h2, zz_sn h1]
  · rfl
theorem zz_seeo {s f : Nat} {a b : Int32} {S : zz_T} (h1 : f ≠ 22) (h2 : f ≠ 23) (h3 : f ≠ 24) : mm_see s a b S f = S f := by
  unfold mm_see
  rw [zz_sn h3, zz_sn h2, zz_sn h1]
theorem zz_bego {k f g : Int32} {S : zz_T} {h : Nat} (h1 : h ≠ 42) : mm_beg k f g S h = S h := by
  unfold mm_beg
  rw [zz_sn h1, zz_sn h1, zz_sn h1]
  exact zz_itn (fun _ _ => zz_sn h1) 12 S
theorem zz_beg2 {k f g : Int32} {S : zz_T} : mm_beg k f g S 42 2 = g := by
  unfold mm_beg
  rw [zz_se, pk_us]
/-- seenNext holds a place -/
def zz_24 (S : zz_T) : Prop := ∀ s, s < 8 → ∃ k, k < 64 ∧ S 24 s = nI k
/-- the frame that is read names stations -/
def zz_43 (S : zz_T) : Prop := (∃ f, f < 8 ∧ S 43 1 = nI f) ∧ (∃ g, g < 8 ∧ S 43 2 = nI g)
def mm_ask0 (s g : Nat) (S : zz_T) : zz_T := zz_s (zz_s (zz_s S 21 (s * 8 + g) (S 4 0)) 16 s (S 16 s + 1)) 17 s (S 17 s + 1)
def mm_ask2 (s g : Nat) (S : zz_T) : zz_T := mm_beg 0 (nI s) (nI g) (mm_see s (nI s) (mm_ask0 s g S 17 s) (mm_ask0 s g S))
def mm_ask3 (s g : Nat) (S : zz_T) : zz_T := zz_s (zz_s (zz_s (mm_ask2 s g S) 42 3 (mm_ask2 s g S 16 s)) 42 4 0) 42 5 (mm_ask2 s g S 17 s)
noncomputable def mm_ask (s g : Nat) (S : zz_T) : zz_T := @ite _ (24 ≤ S 4 0 - S 21 (s * 8 + g)) (Classical.propDecidable _) (mm_tell s (mm_ask3 s g S)) (S)
theorem zz_5ask3 {s g : Nat} {S : zz_T} (h : zz_5 S) : zz_5 (mm_ask3 s g S) :=
  zz_5s (by decide) (zz_5s (by decide) (zz_5s (by decide) (zz_5beg (zz_5see (zz_5s (by decide) (zz_5s (by decide) (zz_5s (by decide) h)))))))
theorem zz_5ask {s g : Nat} {S : zz_T} (h : zz_5 S) : zz_5 (mm_ask s g S) := by
  unfold mm_ask
  split
  · exact zz_5tell (zz_5ask3 h)
  · exact h
theorem wk_ask {post : St1 → Prop} {S : zz_T} {s g : Nat} (hs : s < 8) (hg : g < 8) (h5 : zz_5 S) (h24 : zz_24 S) (H : post (zz_u (mm_ask s g S))) : wpX_ask post (zz_u S) (nI s) (nI g) := by
  have hv : vp_in (nI (s * 8 + g)) 64 := vp_in_nI (by omega) (by decide)
  have h8 : vp_in (nI s) 8 := vp_in_nI hs (by decide)
  unfold mm_ask at H
  refine nm_r zz_w ?_
  refine And.intro hv ?_
  rw [nI_clamp (show s * 8 + g < 2 ^ 31 by omega), nI_clamp (show s < 2 ^ 31 by omega)]
  refine ⟨fun c => ?_, fun c => ?_⟩
  · rw [if_pos (show (24 : Int32) ≤ S 4 0 - S 21 (s * 8 + g) from c)] at H
    refine ⟨hv, nm_e ⟨h8, h8, nm_e ⟨h8, h8, nm_e ⟨h8, ?_⟩⟩⟩⟩
    obtain ⟨k, hk, ek⟩ := h24 s hs
    refine wk_see (S := mm_ask0 s g S) hs (show mm_ask0 s g S 24 s = nI k from ek) hk ?_
    refine wk_begin (S := mm_see s (nI s) (mm_ask0 s g S 17 s) (mm_ask0 s g S)) ?_
    exact ⟨h8, nm_e (nm_e ⟨h8, nm_e (wk_tell (S := mm_ask3 s g S) hs (zz_5ask3 h5) H)⟩)⟩
  · rw [if_neg (show ¬ (24 : Int32) ≤ S 4 0 - S 21 (s * 8 + g) from c)] at H
    exact H
def mm_ha1 (s : Nat) (S : zz_T) : zz_T := mm_see s (S 43 1) (S 43 5) S
noncomputable def mm_ha2 (s : Nat) (sender : Int32) (S : zz_T) : zz_T := mm_learn s (S 43 1).toNatClampNeg sender (S 43 4 + 1) (S 43 3) (mm_ha1 s S)
noncomputable def mm_haT (s : Nat) (sender : Int32) (S : zz_T) : zz_T := mm_beg 1 (nI s) (S 43 1) (zz_s (mm_ha2 s sender S) 16 s (mm_ha2 s sender S 16 s + 1))
noncomputable def mm_hearAsk (s : Nat) (sender : Int32) (S : zz_T) : zz_T :=
  @ite _ (mm_seenP s (S 43 1) (S 43 5) S) (Classical.propDecidable _) (S) (@ite _ (S 43 2 = nI s) (Classical.propDecidable _) (mm_pass s (zz_s (mm_haT s sender S) 42 3 (mm_haT s sender S 16 s))) (mm_tell s (zz_s (mm_cpy (mm_ha2 s sender S)) 42 4 (mm_cpy (mm_ha2 s sender S) 42 4 + 1))))
theorem zz_5ha2 {s : Nat} {b : Int32} {S : zz_T} (h : zz_5 S) : zz_5 (mm_ha2 s b S) := zz_5learn (zz_5see h)
theorem zz_5haT {s : Nat} {b : Int32} {S : zz_T} (h : zz_5 S) : zz_5 (mm_haT s b S) := zz_5beg (zz_5s (by decide) (zz_5ha2 h))
theorem zz_5hearAsk {s : Nat} {b : Int32} {S : zz_T} (h : zz_5 S) : zz_5 (mm_hearAsk s b S) := by
  unfold mm_hearAsk
  split
  · exact h
  · split
    · exact zz_5pass (zz_5s (by decide) (zz_5haT h))
    · exact zz_5tell (zz_5s (by decide) (zz_5cpy (zz_5ha2 h)))
theorem zz_ha43 {s : Nat} {b : Int32} {S : zz_T} : mm_ha2 s b S 43 = S 43 := by
  unfold mm_ha2 mm_ha1
  rw [zz_lno (by decide) (by decide) (by decide), zz_seeo (by decide) (by decide) (by decide)]
theorem wk_hearAsk {post : St1 → Prop} {S : zz_T} {s : Nat} {sender : Int32} (hs : s < 8) (h5 : zz_5 S) (h24 : zz_24 S) (h43 : zz_43 S) (H : post (zz_u (mm_hearAsk s sender S))) : wpX_hearAsk post (zz_u S) (nI s) sender := by
  have h8 : vp_in (nI s) 8 := vp_in_nI hs (by decide)
  obtain ⟨⟨f, hf, ef⟩, ⟨g, hg, eg⟩⟩ := h43
  unfold mm_hearAsk at H
  refine nm_e ?_
  refine wk_seen hs (fun c => br_t rfl ?_) (fun c => br_f (by decide) ?_)
  · rw [if_neg c] at H
    obtain ⟨k, hk, ek⟩ := h24 s hs
    refine wk_see hs ek hk ?_
    have e1 : mm_ha1 s S 43 = S 43 := by
      unfold mm_ha1
      exact zz_seeo (by decide) (by decide) (by decide)
    have e2 : mm_ha2 s sender S = mm_learn s f sender (mm_ha1 s S 43 4 + 1) (mm_ha1 s S 43 3) (mm_ha1 s S) := by
      unfold mm_ha2
      rw [zz_cl (by omega) ef, e1]
    show wpX_learn _ (zz_u (mm_ha1 s S)) (nI s) (S 43 1) sender (mm_ha1 s S 43 4 + 1) (mm_ha1 s S 43 3)
    rw [ef]
    refine wk_learn hs hf ?_
    show (_ → _) ∧ (_ → _)
    rw [← e2]
    refine ⟨fun c2 => ?_, fun c2 => ?_⟩
    · rw [if_pos (show S 43 2 = nI s from (congrFun zz_ha43 2).symm.trans c2)] at H
      rw [nI_clamp (show s < 2 ^ 31 by omega)]
      refine ⟨h8, h8, nm_e ?_⟩
      unfold mm_haT at H
      rw [ef] at H
      refine wk_begin (S := zz_s (mm_ha2 s sender S) 16 s (mm_ha2 s sender S 16 s + 1)) ?_
      refine ⟨h8, nm_e ?_⟩
      refine wk_pass (g := f) (S := zz_s (mm_beg 1 (nI s) (nI f) (zz_s (mm_ha2 s sender S) 16 s (mm_ha2 s sender S 16 s + 1))) 42 3 (mm_beg 1 (nI s) (nI f) (zz_s (mm_ha2 s sender S) 16 s (mm_ha2 s sender S 16 s + 1)) 16 s)) hs hf ?_
        (zz_5s (by decide) (zz_5beg (zz_5s (by decide) (zz_5ha2 h5)))) H
      rw [zz_se, pk_un (by decide), zz_beg2]
    · rw [if_neg (show ¬ S 43 2 = nI s from fun z => c2 ((congrFun zz_ha43 2).trans z))] at H
      refine wk_copy (S := mm_ha2 s sender S) ?_
      exact nm_e (wk_tell (S := zz_s (mm_cpy (mm_ha2 s sender S)) 42 4 (mm_cpy (mm_ha2 s sender S) 42 4 + 1)) hs (zz_5s (by decide) (zz_5cpy (zz_5ha2 h5))) H)
  · rw [if_pos c] at H
    exact H
