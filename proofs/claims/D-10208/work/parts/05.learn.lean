/-! ## learn, wasSeen, see -/
def mm_lnP (s g : Nat) (links number : Int32) (S : zz_T) : Prop :=
  ¬ number ≤ S 20 (s * 8 + g) ∨ (number = S 20 (s * 8 + g) ∧ (S 18 (s * 8 + g) = -1 ∨ ¬ S 19 (s * 8 + g) ≤ links))
def mm_lnS (s g : Nat) (next links number : Int32) (S : zz_T) : zz_T :=
  zz_s (zz_s (zz_s S 18 (s * 8 + g) next.toInt8.toInt32) 19 (s * 8 + g) links.toInt8.toInt32) 20 (s * 8 + g) number
noncomputable def mm_learn (s g : Nat) (next links number : Int32) (S : zz_T) : zz_T :=
  @ite _ (s ≠ g ∧ mm_lnP s g links number S) (Classical.propDecidable _) (mm_lnS s g next links number S) (S)
theorem zz_5learn {s g : Nat} {a b c : Int32} {S : zz_T} (h : zz_5 S) : zz_5 (mm_learn s g a b c S) := by
  unfold mm_learn
  split
  · exact zz_5s (by decide) (zz_5s (by decide) (zz_5s (by decide) h))
  · exact h
theorem wk_learn {post : St1 → Prop} {S : zz_T} {s g : Nat} {next links number : Int32} (hs : s < 8) (hg : g < 8) (H : post (zz_u (mm_learn s g next links number S))) :
    wpX_learn post (zz_u S) (nI s) (nI g) next links number := by
  have hi : s * 8 + g < 64 := by omega
  have hc : (nI (s * 8 + g)).toNatClampNeg = s * 8 + g := nI_clamp (by omega)
  have hv : vp_in (nI (s * 8 + g)) 64 := vp_in_nI hi (by decide)
  have hy : s ≠ g → mm_lnP s g links number S → wX_learn_85 post next links number (nI (s * 8 + g)) (S 0 0) (S 1 0) (S 2 0) (S 3 0) (S 4 0) (S 5 0) (S 6) (S 7) (S 8) (S 9) (S 10) (S 11) (S 12) (S 13) (S 14) (S 15) (S 16) (S 17) (S 18) (S 19) (S 20) (S 21) (S 22) (S 23) (S 24) (S 25) (S 26) (S 27) (S 28) (S 29) (S 30) (S 31) (S 32) (S 33) (S 34) (S 35) (S 36) (S 37) (S 38) (S 39) (S 40) (S 41) (S 42) (S 43) := by
    intro a b
    unfold mm_learn at H
    rw [if_pos ⟨a, b⟩] at H
    exact zz_st hi rfl (zz_st hi rfl (zz_st hi rfl H))
  have hn : ¬ (s ≠ g ∧ mm_lnP s g links number S) → post (zz_u S) := by
    intro a
    unfold mm_learn at H
    rw [if_neg a] at H
    exact H
  refine And.intro (fun e => hn (fun z => z.1 ((nI_eq (by omega) (by omega)).1 e))) (fun e => ?_)
  have he : s ≠ g := fun z => e (by rw [z])
  refine nm_r zz_w ?_
  have h31 : ∀ z0 : Int32, (z0 = 0 ∧ number ≤ S 20 (s * 8 + g)) ∨ (z0 = 1 ∧ ¬ number ≤ S 20 (s * 8 + g)) → wX_learn_31 post next links number (nI (s * 8 + g)) z0 (S 0 0) (S 1 0) (S 2 0) (S 3 0) (S 4 0) (S 5 0) (S 6) (S 7) (S 8) (S 9) (S 10) (S 11) (S 12) (S 13) (S 14) (S 15) (S 16) (S 17) (S 18) (S 19) (S 20) (S 21) (S 22) (S 23) (S 24) (S 25) (S 26) (S 27) (S 28) (S 29) (S 30) (S 31) (S 32) (S 33) (S 34) (S 35) (S 36) (S 37) (S 38) (S 39) (S 40) (S 41) (S 42) (S 43) := by
    intro z0 hz
    have h73 : ∀ z1 : Int32, (z1 = 1 ∧ (number = S 20 (s * 8 + g) ∧ (S 18 (s * 8 + g) = -1 ∨ ¬ S 19 (s * 8 + g) ≤ links))) ∨ (z1 = 0 ∧ ¬ (number = S 20 (s * 8 + g) ∧ (S 18 (s * 8 + g) = -1 ∨ ¬ S 19 (s * 8 + g) ≤ links))) →
        wX_learn_73 post next links number (nI (s * 8 + g)) z0 z1 (S 0 0) (S 1 0) (S 2 0) (S 3 0) (S 4 0) (S 5 0) (S 6) (S 7) (S 8) (S 9) (S 10) (S 11) (S 12) (S 13) (S 14) (S 15) (S 16) (S 17) (S 18) (S 19) (S 20) (S 21) (S 22) (S 23) (S 24) (S 25) (S 26) (S 27) (S 28) (S 29) (S 30) (S 31) (S 32) (S 33) (S 34) (S 35) (S 36) (S 37) (S 38) (S 39) (S 40) (S 41) (S 42) (S 43) := by
      intro z1 h1
      refine And.intro (fun a => And.intro (fun b => ?_) (fun b => ?_)) (fun a => ?_)
      · rcases h1 with ⟨h1, _⟩ | ⟨_, h1⟩
        · exact absurd (h1.symm.trans b) (by decide)
        · rcases hz with ⟨_, hz⟩ | ⟨hz, _⟩
          · exact hn (fun z => z.2.elim (fun y => y hz) h1)
          · exact absurd (hz.symm.trans a) (by decide)
      · rcases h1 with ⟨_, h1⟩ | ⟨h1, _⟩
        · exact hy he (Or.inr h1)
        · exact absurd h1 b
      · rcases hz with ⟨hz, _⟩ | ⟨_, hz⟩
        · exact absurd hz a
        · exact hy he (Or.inl hz)
    refine And.intro hv ?_
    rw [hc]
    refine ⟨fun a => ⟨hv, fun b => ?_, fun b => ⟨hv, fun d => ?_, fun d => ?_⟩⟩, fun a => ?_⟩
    · exact h73 1 (Or.inl ⟨rfl, a, Or.inl b⟩)
    · exact h73 0 (Or.inr ⟨rfl, fun z => z.2.elim b (fun y => y d)⟩)
    · exact h73 1 (Or.inl ⟨rfl, a, Or.inr d⟩)
    · exact h73 0 (Or.inr ⟨rfl, fun z => a z.1⟩)
  refine And.intro hv ?_
  rw [hc]
  exact ⟨fun a => h31 0 (Or.inl ⟨rfl, a⟩), fun a => h31 1 (Or.inr ⟨rfl, a⟩)⟩
/-- the question is kept among the 64 of station s -/
def mm_seenP (s : Nat) (fr q : Int32) (S : zz_T) : Prop := ∃ i, i < 64 ∧ S 22 (s * 64 + i) = fr ∧ S 23 (s * 64 + i) = q
theorem wk_seen {post : Int32 → Prop} {S : zz_T} {s : Nat} {fr q : Int32} (hs : s < 8) (H0 : ¬ mm_seenP s fr q S → post 0) (H1 : mm_seenP s fr q S → post 1) : wpX_wasSeen post (zz_u S) (nI s) fr q := by
  have h : ∀ d i, i + d = 64 → (∀ j, j < i → ¬ (S 22 (s * 64 + j) = fr ∧ S 23 (s * 64 + j) = q)) → wX_wasSeen_6 post (nI s) fr q (S 0 0) (S 1 0) (S 2 0) (S 3 0) (S 4 0) (S 5 0) (S 6) (S 7) (S 8) (S 9) (S 10) (S 11) (S 12) (S 13) (S 14) (S 15) (S 16) (S 17) (S 18) (S 19) (S 20) (S 21) (S 22) (S 23) (S 24) (S 25) (S 26) (S 27) (S 28) (S 29) (S 30) (S 31) (S 32) (S 33) (S 34) (S 35) (S 36) (S 37) (S 38) (S 39) (S 40) (S 41) (S 42) (S 43) (d + 1) (nI (s * 64 + i)) := by
    intro d
    induction d with
    | zero =>
      intro i hi hn
      have e : i = 64 := by omega
      subst e
      exact pk_le (s * 64 + 64) (s * 64 + 64) (fun _ => H0 (fun ⟨j, hj, z⟩ => hn j hj z)) (fun z => absurd z (by omega)) zz_64
    | succ d ih =>
      intro i hi hn
      refine pk_le (s * 64 + 64) (s * 64 + i) (fun z => absurd z (by omega)) (fun _ => ?_) zz_64
      refine ⟨vp_in_nI (by omega) (by decide), ?_⟩
      rw [nI_clamp (show s * 64 + i < 2 ^ 31 by omega)]
      have go : ¬ (S 22 (s * 64 + i) = fr ∧ S 23 (s * 64 + i) = q) → wX_wasSeen_6 post (nI s) fr q (S 0 0) (S 1 0) (S 2 0) (S 3 0) (S 4 0) (S 5 0) (S 6) (S 7) (S 8) (S 9) (S 10) (S 11) (S 12) (S 13) (S 14) (S 15) (S 16) (S 17) (S 18) (S 19) (S 20) (S 21) (S 22) (S 23) (S 24) (S 25) (S 26) (S 27) (S 28) (S 29) (S 30) (S 31) (S 32) (S 33) (S 34) (S 35) (S 36) (S 37) (S 38) (S 39) (S 40) (S 41) (S 42) (S 43) (d + 1) (nI (s * 64 + i + 1)) := fun z =>
        ih (i + 1) (by omega) (fun j hj => by
          by_cases e : j = i
          · rw [e]; exact z
          · exact hn j (by omega))
      exact ⟨fun a => ⟨vp_in_nI (by omega) (by decide), fun b => H1 ⟨i, by omega, a, b⟩, fun b => nm_r (nI_1 _) (go (fun z => b z.2))⟩, fun a => nm_r (nI_1 _) (go (fun z => a z.1))⟩
  refine nm_r (e' := nI (s * 64)) (by rw [show (64 : Int32) = nI 64 from rfl, pk_mul]) ?_
  exact ⟨65, h 64 0 (by omega) (fun j hj => absurd hj (by omega))⟩
def mm_see (s : Nat) (fr q : Int32) (S : zz_T) : zz_T :=
  zz_s (zz_s (zz_s S 22 (s * 64 + (S 24 s).toNatClampNeg) fr.toInt8.toInt32) 23 (s * 64 + (S 24 s).toNatClampNeg) q) 24 s (nI (((S 24 s).toNatClampNeg + 1) % 64))
theorem zz_5see {s : Nat} {a b : Int32} {S : zz_T} (h : zz_5 S) : zz_5 (mm_see s a b S) := zz_5s (by decide) (zz_5s (by decide) (zz_5s (by decide) h))
theorem zz_8 : ∀ k, k < 128 → (nI k).toInt8.toInt32 = nI k := by decide +kernel
theorem wk_see {post : St1 → Prop} {S : zz_T} {s k : Nat} {fr q : Int32} (hs : s < 8) (ek : S 24 s = nI k) (hk : k < 64) (H : post (zz_u (mm_see s fr q S))) : wpX_see post (zz_u S) (nI s) fr q := by
  have hc : (S 24 s).toNatClampNeg = k := zz_cl (by omega) ek
  unfold mm_see at H
  rw [hc] at H
  refine And.intro (vp_in_nI hs (by decide)) ?_
  rw [nI_clamp (show s < 2 ^ 31 by omega)]
  refine nm_r (e' := nI (s * 64 + k)) ?_ ?_
  · show nI s * 64 + S 24 s = _
    rw [ek]
    exact zz_64
  refine zz_st (k := s * 64 + k) (by omega) rfl (zz_st (k := s * 64 + k) (by omega) rfl ⟨vp_in_nI hs (by decide), by decide, vp_in_nI hs (by decide), ?_⟩)
  refine nm_r (e' := upd (S 24) s (nI ((k + 1) % 64))) ?_ H
  show upd (S 24) s (S 24 s + 1 - (S 24 s + 1) / 64 * 64).toInt8.toInt32 = _
  rw [ek, nI_1, show (64 : Int32) = nI 64 from rfl, pk_rem (by omega) (by omega) (by omega), zz_8 _ (by omega)]
