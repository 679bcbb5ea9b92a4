/-! ## keepPiece, accept -/
def mm_kp (p k : Nat) (T : zz_T) : zz_T := zz_s (zz_s T 31 (p * 8 + k) (T 43 (8 + k)).toInt8.toInt32) 30 p (nI (k + 1))
def mm_keep (p : Nat) (S : zz_T) : zz_T := zz_it (mm_kp p) (S 43 6).toNatClampNeg S
theorem zz_8a {i : Nat} : 8 + nI i = nI (8 + i) := by
  rw [show (8 : Int32) = nI 8 from rfl, nI_add]
theorem zz_keepo {p f : Nat} {S : zz_T} (h1 : f ≠ 30) (h2 : f ≠ 31) : mm_keep p S f = S f :=
  zz_itn (fun k T => by
    unfold mm_kp
    rw [zz_sn h1, zz_sn h2]) _ S
theorem zz_5keep {p : Nat} {S : zz_T} (h : zz_5 S) : zz_5 (mm_keep p S) := zz_itI (fun _ T => zz_5 T) h (fun _ _ _ hT => zz_5s (by decide) (zz_5s (by decide) hT))
theorem zz_keep30 {p l : Nat} {S : zz_T} (e6 : S 43 6 = nI l) (hl : l ≤ 3) (e0 : S 30 p = nI 0) : mm_keep p S 30 p = nI l := by
  unfold mm_keep
  rw [zz_cl (by omega) e6]
  exact zz_itI (fun k (T : zz_T) => T 30 p = nI k) e0 (fun k T _ _ => by
    unfold mm_kp
    rw [zz_se, pk_us])
theorem wk_keep {post : St1 → Prop} {S : zz_T} {p l : Nat} (hp : p < 64) (e6 : S 43 6 = nI l) (hl : l ≤ 3) (e0 : S 30 p = nI 0) (H : post (zz_u (mm_keep p S))) : wpX_keepPiece post (zz_u S) (nI p) := by
  unfold mm_keep at H
  rw [zz_cl (by omega) e6] at H
  have hv : vp_in (nI p) 64 := vp_in_nI hp (by decide)
  refine zz_lp (fun n i T => wX_keepPiece_2 post (nI p) (T 0 0) (T 1 0) (T 2 0) (T 3 0) (T 4 0) (T 5 0) n (nI i) (T 6) (T 7) (T 8) (T 9) (T 10) (T 11) (T 12) (T 13) (T 14) (T 15) (T 16) (T 17) (T 18) (T 19) (T 20) (T 21) (T 22) (T 23) (T 24) (T 25) (T 26) (T 27) (T 28) (T 29) (T 30) (T 31) (T 32) (T 33) (T 34) (T 35) (T 36) (T 37) (T 38) (T 39) (T 40) (T 41) (T 42) (T 43)) (mm_kp p) (fun k T => T 30 p = nI k ∧ T 43 6 = nI l) l S ⟨e0, e6⟩ (fun k T _ h => ⟨by
    unfold mm_kp
    rw [zz_se, pk_us], by
    unfold mm_kp
    rw [zz_sn (by decide), zz_sn (by decide)]
    exact h.2⟩) ?_ ?_
  · intro n h
    exact pk_le l l (fun _ => H) (fun z => absurd z (by omega)) h.2
  · intro n i T hi h hw
    refine pk_le l i (fun z => absurd z (by omega)) (fun _ => ?_) h.2
    refine ⟨hv, ?_⟩
    rw [nI_clamp (show p < 2 ^ 31 by omega), h.1]
    refine pk_le 8 i (fun z => absurd z (by omega)) (fun _ => ?_)
    refine ⟨hv, pk_in (8 + i) 12 (by omega) zz_8a, ?_⟩
    rw [zz_cl (show 8 + i < 2 ^ 31 by omega) zz_8a]
    refine zz_st (k := p * 8 + i) (by omega) zz_w ⟨hv, hv, ?_⟩
    refine nm_r (e' := upd (T 30) p (nI (i + 1))) (by rw [nI_1, zz_8 _ (by omega)]) ?_
    exact nm_r (nI_1 i) hw
def mm_ac90 (p : Nat) (T : zz_T) : zz_T := zz_s (zz_s (zz_s T 15 p (T 15 p + 1)) 29 p 0) 30 p 0
def mm_acL (p m : Nat) (S : zz_T) : zz_T :=
  zz_it (fun k T => zz_s T 13 (m * 8 + k) (vp_nar .byte (T 31 (p * 8 + k)))) (S 30 p).toNatClampNeg (zz_s S 11 m (vp_nar .byte (S 30 p)))
def mm_acM (p m : Nat) (S : zz_T) : zz_T := mm_ac90 p (zz_s (mm_acL p m S) 2 0 (mm_acL p m S 2 0 ||| ((1 : Int32) <<< (nI m &&& 31))))
noncomputable def mm_acc (a b : Nat) (S : zz_T) : zz_T :=
  match mm_fw S (nI a) (nI b) with
  | none => mm_ac90 (a + 8 * b) S
  | some m => mm_acM (a + 8 * b) m S
theorem zz_5ac90 {p : Nat} {T : zz_T} (h : zz_5 T) : zz_5 (mm_ac90 p T) := zz_5s (by decide) (zz_5s (by decide) (zz_5s (by decide) h))
theorem zz_5acL {p m : Nat} {T : zz_T} (h : zz_5 T) : zz_5 (mm_acL p m T) := zz_itI (fun _ T => zz_5 T) (zz_5s (by decide) h) (fun _ _ _ hT => zz_5s (by decide) hT)
theorem zz_5acc {a b : Nat} {S : zz_T} (h : zz_5 S) : zz_5 (mm_acc a b S) := by
  unfold mm_acc
  split
  · exact zz_5ac90 h
  · exact zz_5ac90 (zz_5s (by decide) (zz_5acL h))
theorem wk_ac90 {post : St1 → Prop} {S : zz_T} {p : Nat} (hp : p < 64) (H : post (zz_u (mm_ac90 p S))) : wX_accept_90 post (nI p) (S 0 0) (S 1 0) (S 2 0) (S 3 0) (S 4 0) (S 5 0) (S 6) (S 7) (S 8) (S 9) (S 10) (S 11) (S 12) (S 13) (S 14) (S 15) (S 16) (S 17) (S 18) (S 19) (S 20) (S 21) (S 22) (S 23) (S 24) (S 25) (S 26) (S 27) (S 28) (S 29) (S 30) (S 31) (S 32) (S 33) (S 34) (S 35) (S 36) (S 37) (S 38) (S 39) (S 40) (S 41) (S 42) (S 43) := by
  have hv : vp_in (nI p) 64 := vp_in_nI hp (by decide)
  refine And.intro hv ?_
  rw [nI_clamp (show p < 2 ^ 31 by omega)]
  exact ⟨hv, nm_e ⟨hv, nm_e ⟨hv, nm_e H⟩⟩⟩
theorem wk_acc {post : St1 → Prop} {S : zz_T} {a b q : Nat} (ha : a < 8) (hb : b < 8) (eq : S 30 (a + 8 * b) = nI q) (hq : q ≤ 8) (H : post (zz_u (mm_acc a b S))) : wpX_accept post (zz_u S) (nI a) (nI b) := by
  have hp : a + 8 * b < 64 := by omega
  have hv : vp_in (nI (a + 8 * b)) 64 := vp_in_nI hp (by decide)
  unfold wpX_accept zz_u wpX_pair
  dsimp only
  rw [zz_p]
  refine wk_fw (S := S) ?_
  unfold mm_acc at H
  cases hm : mm_fw S (nI a) (nI b) with
  | none =>
    rw [hm] at H
    exact ⟨fun _ => wk_ac90 (S := S) hp H, fun z => absurd (show (-1 : Int32) < 0 by decide) z⟩
  | some m =>
    rw [hm] at H
    have hm16 : m < 16 := mm_fwlt m hm
    refine ⟨fun z => absurd z (nI_pos (by omega)), fun _ => ⟨hv, ?_⟩⟩
    rw [nI_clamp (show a + 8 * b < 2 ^ 31 by omega)]
    refine zz_st (k := m) hm16 rfl ?_
    have H2 : post (zz_u (mm_acM (a + 8 * b) m S)) := H
    unfold mm_acM mm_acL at H2
    rw [zz_cl (by omega) eq] at H2
    refine zz_lp (fun n i T => wX_accept_35 post (nI (a + 8 * b)) (nI m) (T 0 0) (T 1 0) (T 2 0) (T 3 0) (T 4 0) (T 5 0) n (nI i) (T 6) (T 7) (T 8) (T 9) (T 10) (T 11) (T 12) (T 13) (T 14) (T 15) (T 16) (T 17) (T 18) (T 19) (T 20) (T 21) (T 22) (T 23) (T 24) (T 25) (T 26) (T 27) (T 28) (T 29) (T 30) (T 31) (T 32) (T 33) (T 34) (T 35) (T 36) (T 37) (T 38) (T 39) (T 40) (T 41) (T 42) (T 43)) (fun k T => zz_s T 13 (m * 8 + k) (vp_nar .byte (T 31 ((a + 8 * b) * 8 + k)))) (fun _ T => T 30 (a + 8 * b) = nI q) q
      (zz_s S 11 m (vp_nar .byte (S 30 (a + 8 * b)))) eq (fun _ _ _ h => h) ?_ ?_
    · intro n h
      refine And.intro hv ?_
      rw [nI_clamp (show a + 8 * b < 2 ^ 31 by omega)]
      exact pk_le q q (fun _ => nm_e (wk_ac90 (S := zz_s _ 2 0 _) hp H2)) (fun z => absurd z (by omega)) h
    · intro n i T hi h hw
      refine And.intro hv ?_
      rw [nI_clamp (show a + 8 * b < 2 ^ 31 by omega)]
      refine pk_le q i (fun z => absurd z (by omega)) (fun _ => ?_) h
      refine ⟨pk_in ((a + 8 * b) * 8 + i) 512 (by omega) zz_w, ?_⟩
      rw [zz_cl (show (a + 8 * b) * 8 + i < 2 ^ 31 by omega) zz_w]
      exact zz_st (k := m * 8 + i) (by omega) zz_w (nm_r (nI_1 i) hw)
