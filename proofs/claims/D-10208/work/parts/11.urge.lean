/-! ## urge -/
noncomputable def mm_u187 (a p : Nat) (T : zz_T) : zz_T := mm_pass a (zz_s (zz_s T 28 p 1) 26 p (T 4 0))
theorem wk_u187 {post : St1 → Prop} {T : zz_T} {a b p : Nat} (ha : a < 8) (hb : b < 8) (hp : p < 64) (h5 : zz_5 T) (e2 : T 42 2 = nI b) (H : post (zz_u (mm_u187 a p T))) : wX_urge_187 post (nI a) (nI p) (T 0 0) (T 1 0) (T 2 0) (T 3 0) (T 4 0) (T 5 0) (T 6) (T 7) (T 8) (T 9) (T 10) (T 11) (T 12) (T 13) (T 14) (T 15) (T 16) (T 17) (T 18) (T 19) (T 20) (T 21) (T 22) (T 23) (T 24) (T 25) (T 26) (T 27) (T 28) (T 29) (T 30) (T 31) (T 32) (T 33) (T 34) (T 35) (T 36) (T 37) (T 38) (T 39) (T 40) (T 41) (T 42) (T 43) := by
  unfold wX_urge_187
  refine zz_st hp rfl (zz_st hp rfl ?_)
  exact wk_pass (g := b) (S := zz_s (zz_s T 28 p 1) 26 p (T 4 0)) ha hb e2 (zz_5s (by decide) (zz_5s (by decide) h5)) H
def mm_uW (a b : Nat) (m : Option Nat) (T : zz_T) : zz_T :=
  match m with
  | none => mm_wq a b T
  | some k => mm_wp a b k T
theorem zz_uWo {a b f : Nat} {m : Option Nat} {S : zz_T} (h : f ≠ 42) : mm_uW a b m S f = S f := by
  cases m with
  | none => exact zz_wqo h
  | some k => exact zz_wpo h
noncomputable def mm_u142 (a b : Nat) (m : Option Nat) (T : zz_T) : zz_T :=
  @ite _ (mm_hwP a b T) (Classical.propDecidable _) (mm_u187 a (a + 8 * b) (mm_uW a b m (mm_hw a b T))) (mm_ask a b (zz_s (mm_hw a b T) 28 (a + 8 * b) 0))
theorem zz_5u142 {a b : Nat} {m : Option Nat} {T : zz_T} (h : zz_5 T) : zz_5 (mm_u142 a b m T) := by
  unfold mm_u142
  split
  · exact zz_5pass (zz_5s (by decide) (zz_5s (by decide) (zz_5of (zz_uWo (by decide)) (zz_5hw h))))
  · exact zz_5ask (zz_5s (by decide) (zz_5hw h))
/-- what urge needs of the state: places; one piece a message; the messages' lengths -/
def zz_U (p : Nat) (m : Option Nat) (T : zz_T) : Prop := zz_5 T ∧ zz_24 T ∧ T 25 p = nI 0 ∧ ∀ k, m = some k → k < 16 ∧ ∃ l, l ≤ 3 ∧ T 11 k = nI l
theorem zz_Uof {p : Nat} {m : Option Nat} {S T : zz_T} (h5 : zz_5 T) (e1 : T 24 = S 24) (e2 : T 25 = S 25) (e3 : T 11 = S 11) (h : zz_U p m S) : zz_U p m T := by
  refine ⟨h5, ?_, ?_, ?_⟩
  · unfold zz_24
    rw [e1]
    exact h.2.1
  · rw [e2]
    exact h.2.2.1
  · rw [e3]
    exact h.2.2.2
theorem wk_u142 {post : St1 → Prop} {T : zz_T} {a b : Nat} {m : Option Nat} (ha : a < 8) (hb : b < 8) (hU : zz_U (a + 8 * b) m T) (H : post (zz_u (mm_u142 a b m T))) : wX_urge_142 post (nI a) (nI b) (nI (a + 8 * b)) (mm_oI m) (T 0 0) (T 1 0) (T 2 0) (T 3 0) (T 4 0) (T 5 0) (T 6) (T 7) (T 8) (T 9) (T 10) (T 11) (T 12) (T 13) (T 14) (T 15) (T 16) (T 17) (T 18) (T 19) (T 20) (T 21) (T 22) (T 23) (T 24) (T 25) (T 26) (T 27) (T 28) (T 29) (T 30) (T 31) (T 32) (T 33) (T 34) (T 35) (T 36) (T 37) (T 38) (T 39) (T 40) (T 41) (T 42) (T 43) := by
  have hp : a + 8 * b < 64 := by omega
  obtain ⟨h5, h24, e25, hm⟩ := hU
  have h5' : zz_5 (mm_hw a b T) := zz_5hw h5
  unfold mm_u142 at H
  unfold wX_urge_142
  refine wk_hw (S := T) ha hb h5 (fun c => br_t rfl ?_) (fun c => br_f (by decide) ?_)
  · rw [if_neg c] at H
    refine zz_st hp rfl ?_
    refine wk_ask (S := zz_s (mm_hw a b T) 28 (a + 8 * b) 0) ha hb (zz_5s (by decide) h5') ?_ H
    unfold zz_24
    rw [zz_sn (by decide), zz_hwo (by decide) (by decide) (by decide)]
    exact h24
  · rw [if_pos c] at H
    cases m with
    | none =>
      refine ⟨fun _ => ?_, fun z => absurd (show (-1 : Int32) < 0 by decide) z⟩
      refine wk_wq (S := mm_hw a b T) ha hb ?_
      exact wk_u187 (T := mm_wq a b (mm_hw a b T)) ha hb hp (zz_5of (zz_wqo (by decide)) h5') zz_wq2 H
    | some k =>
      obtain ⟨hk, l, hl, el⟩ := hm k rfl
      refine ⟨fun z => absurd z (nI_pos (by omega)), fun _ => ?_⟩
      refine wk_wp (S := mm_hw a b T) (l := l) ha hb hk ?_ hl ?_ ?_
      · rw [zz_hwo (by decide) (by decide) (by decide)]
        exact el
      · rw [zz_hwo (by decide) (by decide) (by decide)]
        exact e25
      · exact wk_u187 (T := mm_wp a b k (mm_hw a b T)) ha hb hp (zz_5of (zz_wpo (by decide)) h5') zz_wp2 H
def mm_uA (p : Nat) (z0 : Int32) (S : zz_T) : zz_T := zz_s S 27 p z0.toInt8.toInt32
noncomputable def mm_u108 (a b : Nat) (m : Option Nat) (z0 : Int32) (S : zz_T) : zz_T :=
  @ite _ (z0.toInt8.toInt32 < 2) (Classical.propDecidable _) (mm_u142 a b m (mm_uA (a + 8 * b) z0 S)) (@ite _ (mm_hwP a b (mm_uA (a + 8 * b) z0 S)) (Classical.propDecidable _) (mm_u142 a b m (zz_s (mm_give a b (mm_hw a b (mm_uA (a + 8 * b) z0 S))) 27 (a + 8 * b) 0)) (mm_u142 a b m (mm_hw a b (mm_uA (a + 8 * b) z0 S))))
theorem wk_u108 {post : St1 → Prop} {S : zz_T} {a b : Nat} {m : Option Nat} {z0 : Int32} (ha : a < 8) (hb : b < 8) (hU : zz_U (a + 8 * b) m S) (H : post (zz_u (mm_u108 a b m z0 S))) :
    wX_urge_108 post (nI a) (nI b) (nI (a + 8 * b)) (mm_oI m) z0 (nI (a + 8 * b)) (S 0 0) (S 1 0) (S 2 0) (S 3 0) (S 4 0) (S 5 0) (S 6) (S 7) (S 8) (S 9) (S 10) (S 11) (S 12) (S 13) (S 14) (S 15) (S 16) (S 17) (S 18) (S 19) (S 20) (S 21) (S 22) (S 23) (S 24) (S 25) (S 26) (S 27) (S 28) (S 29) (S 30) (S 31) (S 32) (S 33) (S 34) (S 35) (S 36) (S 37) (S 38) (S 39) (S 40) (S 41) (S 42) (S 43) := by
  have hp : a + 8 * b < 64 := by omega
  have hUA : zz_U (a + 8 * b) m (mm_uA (a + 8 * b) z0 S) := zz_Uof (S := S) (zz_5s (by decide) hU.1) rfl rfl rfl hU
  have hUh : zz_U (a + 8 * b) m (mm_hw a b (mm_uA (a + 8 * b) z0 S)) := zz_Uof (zz_5hw hUA.1) (zz_hwo (by decide) (by decide) (by decide)) (zz_hwo (by decide) (by decide) (by decide)) (zz_hwo (by decide) (by decide) (by decide)) hUA
  unfold mm_u108 at H
  unfold wX_urge_108
  refine zz_st hp rfl ⟨vp_in_nI hp (by decide), ?_⟩
  rw [nI_clamp (show a + 8 * b < 2 ^ 31 by omega), pk_us]
  refine ⟨fun c => ?_, fun c => ?_⟩
  · rw [if_pos c] at H
    exact wk_u142 (T := mm_uA (a + 8 * b) z0 S) ha hb hUA H
  · rw [if_neg c] at H
    refine wk_hw (S := mm_uA (a + 8 * b) z0 S) ha hb hUA.1 (fun d => br_t rfl ?_) (fun d => br_f (by decide) ?_)
    · rw [if_neg d] at H
      exact wk_u142 (T := mm_hw a b (mm_uA (a + 8 * b) z0 S)) ha hb hUh H
    · rw [if_pos d] at H
      refine wk_give (S := mm_hw a b (mm_uA (a + 8 * b) z0 S)) ha hb hUh.1 ?_
      refine And.intro (vp_in_nI hp (by decide)) (nm_e ?_)
      refine wk_u142 (T := zz_s (mm_give a b (mm_hw a b (mm_uA (a + 8 * b) z0 S))) 27 (a + 8 * b) 0) ha hb ?_ H
      refine zz_Uof (S := mm_hw a b (mm_uA (a + 8 * b) z0 S)) (zz_5s (by decide) (zz_5give hUh.1)) ?_ ?_ ?_ hUh
      · rw [zz_sn (by decide), zz_giveo (by decide) (by decide) (by decide)]
      · rw [zz_sn (by decide), zz_giveo (by decide) (by decide) (by decide)]
      · rw [zz_sn (by decide), zz_giveo (by decide) (by decide) (by decide)]
noncomputable def mm_u82 (a b : Nat) (m : Option Nat) (S : zz_T) : zz_T := @ite _ (S 28 (a + 8 * b) = 0) (Classical.propDecidable _) (mm_u108 a b m 0 S) (mm_u108 a b m (S 27 (a + 8 * b) + 1) S)
noncomputable def mm_u46 (a b : Nat) (m : Option Nat) (S : zz_T) : zz_T :=
  @ite _ (¬ S 6 a = 0 ∧ (S 28 (a + 8 * b) = 0 ∨ 26 ≤ S 4 0 - S 26 (a + 8 * b))) (Classical.propDecidable _) (mm_u82 a b m S) (S)
noncomputable def mm_urge (a b : Nat) (S : zz_T) : zz_T :=
  @ite _ ((∃ k, mm_snd a b S = some k) ∨ ¬ S 15 (a + 8 * b) ≤ S 14 (a + 8 * b)) (Classical.propDecidable _) (mm_u46 a b (mm_snd a b S) S) (S)
theorem wk_u82 {post : St1 → Prop} {S : zz_T} {a b : Nat} {m : Option Nat} (ha : a < 8) (hb : b < 8) (hU : zz_U (a + 8 * b) m S) (H : post (zz_u (mm_u82 a b m S))) :
    wX_urge_82 post (nI a) (nI b) (nI (a + 8 * b)) (mm_oI m) (S 0 0) (S 1 0) (S 2 0) (S 3 0) (S 4 0) (S 5 0) (S 6) (S 7) (S 8) (S 9) (S 10) (S 11) (S 12) (S 13) (S 14) (S 15) (S 16) (S 17) (S 18) (S 19) (S 20) (S 21) (S 22) (S 23) (S 24) (S 25) (S 26) (S 27) (S 28) (S 29) (S 30) (S 31) (S 32) (S 33) (S 34) (S 35) (S 36) (S 37) (S 38) (S 39) (S 40) (S 41) (S 42) (S 43) := by
  have hv : vp_in (nI (a + 8 * b)) 64 := vp_in_nI (by omega) (by decide)
  unfold mm_u82 at H
  refine And.intro hv ?_
  rw [nI_clamp (show a + 8 * b < 2 ^ 31 by omega)]
  refine ⟨fun c => ?_, fun c => ⟨hv, ?_⟩⟩
  · rw [if_pos c] at H
    exact wk_u108 ha hb hU H
  · rw [if_neg c] at H
    exact wk_u108 ha hb hU H
theorem wk_u46 {post : St1 → Prop} {S : zz_T} {a b : Nat} {m : Option Nat} (ha : a < 8) (hb : b < 8) (hU : zz_U (a + 8 * b) m S) (H : post (zz_u (mm_u46 a b m S))) :
    wX_urge_46 post (nI a) (nI b) (nI (a + 8 * b)) (mm_oI m) (S 0 0) (S 1 0) (S 2 0) (S 3 0) (S 4 0) (S 5 0) (S 6) (S 7) (S 8) (S 9) (S 10) (S 11) (S 12) (S 13) (S 14) (S 15) (S 16) (S 17) (S 18) (S 19) (S 20) (S 21) (S 22) (S 23) (S 24) (S 25) (S 26) (S 27) (S 28) (S 29) (S 30) (S 31) (S 32) (S 33) (S 34) (S 35) (S 36) (S 37) (S 38) (S 39) (S 40) (S 41) (S 42) (S 43) := by
  have hv : vp_in (nI (a + 8 * b)) 64 := vp_in_nI (by omega) (by decide)
  unfold mm_u46 at H
  refine And.intro (vp_in_nI ha (by decide)) ?_
  rw [nI_clamp (show a + 8 * b < 2 ^ 31 by omega), nI_clamp (show a < 2 ^ 31 by omega)]
  refine ⟨fun c => ?_, fun c => ⟨hv, fun d => ?_, fun d => ⟨hv, fun e => ?_, fun e => ?_⟩⟩⟩
  · rw [if_neg (fun z => z.1 c)] at H
    exact H
  · rw [if_pos ⟨c, Or.inl d⟩] at H
    exact wk_u82 ha hb hU H
  · rw [if_pos ⟨c, Or.inr e⟩] at H
    exact wk_u82 ha hb hU H
  · rw [if_neg (fun z => z.2.elim d e)] at H
    exact H
theorem wk_urge {post : St1 → Prop} {S : zz_T} {a b : Nat} (ha : a < 8) (hb : b < 8) (hU : zz_U (a + 8 * b) (mm_snd a b S) S) (H : post (zz_u (mm_urge a b S))) : wpX_urge post (zz_u S) (nI a) (nI b) := by
  have hv : vp_in (nI (a + 8 * b)) 64 := vp_in_nI (by omega) (by decide)
  unfold mm_urge at H
  have h26 : ∀ z0 : Int32, (z0 = 0 ∧ S 15 (a + 8 * b) ≤ S 14 (a + 8 * b)) ∨ (z0 = 1 ∧ ¬ S 15 (a + 8 * b) ≤ S 14 (a + 8 * b)) → wX_urge_26 post (nI a) (nI b) (nI (a + 8 * b)) z0 (S 0 0) (S 1 0) (S 2 0) (S 3 0) (S 4 0) (S 5 0) (S 6) (S 7) (S 8) (S 9) (S 10) (S 11) (S 12) (S 13) (S 14) (S 15) (S 16) (S 17) (S 18) (S 19) (S 20) (S 21) (S 22) (S 23) (S 24) (S 25) (S 26) (S 27) (S 28) (S 29) (S 30) (S 31) (S 32) (S 33) (S 34) (S 35) (S 36) (S 37) (S 38) (S 39) (S 40) (S 41) (S 42) (S 43) := by
    intro z0 hz
    unfold wX_urge_26
    refine wk_snd (S := S) ha hb ?_
    cases hm : mm_snd a b S with
    | some k =>
      rw [hm] at H hU
      rw [if_pos (Or.inl ⟨k, rfl⟩)] at H
      exact ⟨fun _ => wk_u46 (m := some k) ha hb hU H, fun z => absurd (nI_pos' (show k < 2 ^ 31 by have := (hU.2.2.2 k rfl).1; omega)) z⟩
    | none =>
      rw [hm] at H hU
      refine ⟨fun z => absurd z (by decide), fun _ => ⟨fun y => ?_, fun y => ?_⟩⟩
      · rcases hz with ⟨_, hz⟩ | ⟨hz, _⟩
        · rw [if_neg (fun z => z.elim (fun ⟨k, e⟩ => by cases e) (fun w => w hz))] at H
          exact H
        · exact absurd (hz.symm.trans y) (by decide)
      · rcases hz with ⟨hz, _⟩ | ⟨_, hz⟩
        · exact absurd hz y
        · rw [if_pos (Or.inr hz)] at H
          exact wk_u46 (m := none) ha hb hU H
  unfold wpX_urge zz_u wpX_pair
  dsimp only
  rw [zz_p, nI_clamp (show a + 8 * b < 2 ^ 31 by omega)]
  exact ⟨hv, hv, fun c => h26 0 (Or.inl ⟨rfl, c⟩), fun c => h26 1 (Or.inr ⟨rfl, c⟩)⟩
