/-! ## what sending leaves as it is -/
theorem zz_flyo {s to due : Int32} {S : zz_T} {f : Nat} (h : (f ≠ 5 ∧ f < 32) ∨ 38 < f) : mm_fly s to due S f = S f := by
  unfold mm_fly
  rw [zz_itn (g := f) (fun k T => zz_sn (by omega)), zz_sn (by omega), zz_sn (by omega), zz_sn (by omega), zz_sn (by omega), zz_sn (by omega)]
theorem zz_ordo {s n : Int32} {i f : Nat} {x : Int32 × Int32 × zz_T} (h : f ≠ 38) : (mm_ord s n i x).2.2 f = x.2.2 f := by
  by_cases c : mm_oc s n i x.2.2
  · rw [mm_ordP c]
    exact zz_sn h
  · rw [mm_ordN c]
theorem zz_sendo {s : Nat} {to : Int32} {S : zz_T} {f : Nat} (h : (f ≠ 5 ∧ f < 32) ∨ 38 < f) : mm_send s to S f = S f := by
  unfold mm_send
  rw [zz_itn (g := f) (fun k T => zz_flyo h)]
  unfold mm_ords
  exact zz_itI (fun _ (x : Int32 × Int32 × zz_T) => x.2.2 f = S f) (zz_sn (by omega)) (fun _ _ _ hx => (zz_ordo (by omega)).trans hx)
theorem zz_tello {s : Nat} {S : zz_T} {f : Nat} (h : (f ≠ 5 ∧ f < 32) ∨ 38 < f) : mm_tell s S f = S f :=
  zz_itn (fun k T => by
    unfold mm_tl
    split
    · exact zz_sendo h
    · rfl) 8 S
theorem zz_lossWo {s g : Nat} {S : zz_T} {f : Nat} (h1 : f ≠ 18) (h2 : f ≠ 42) : mm_lossW s g S f = S f := by
  unfold mm_lossW
  rw [zz_sn h2, zz_bego h2, zz_sn h1]
theorem zz_giveo {s g : Nat} {S : zz_T} {f : Nat} (h : (f ≠ 5 ∧ f < 32) ∨ 38 < f) (h1 : f ≠ 18) (h2 : f ≠ 42) : mm_give s g S f = S f := by
  unfold mm_give
  rw [zz_tello h, zz_lossWo h1 h2]
theorem zz_hwo {s g : Nat} {S : zz_T} {f : Nat} (h : (f ≠ 5 ∧ f < 32) ∨ 38 < f) (h1 : f ≠ 18) (h2 : f ≠ 42) : mm_hw s g S f = S f := by
  unfold mm_hw
  split
  · rfl
  · split
    · rfl
    · exact zz_giveo h h1 h2
/-! ## sending, writePiece, writeProbe -/
noncomputable def mm_snd (a b : Nat) (S : zz_T) : Option Nat := @ite _ (S 15 (a + 8 * b) ≤ S 14 (a + 8 * b)) (Classical.propDecidable _) (mm_fw S (nI a) (nI b)) (none)
theorem wk_snd {post : Int32 → Prop} {S : zz_T} {a b : Nat} (ha : a < 8) (hb : b < 8) (H : post (mm_oI (mm_snd a b S))) : wpX_sending post (zz_u S) (nI a) (nI b) := by
  have hv : vp_in (nI (a + 8 * b)) 64 := vp_in_nI (by omega) (by decide)
  unfold mm_snd at H
  unfold wpX_sending zz_u wpX_pair
  dsimp only
  rw [zz_p, nI_clamp (show a + 8 * b < 2 ^ 31 by omega)]
  refine ⟨hv, hv, fun c => ?_, fun c => ?_⟩
  · rw [if_pos c] at H
    exact wk_fw (S := S) H
  · rw [if_neg c] at H
    exact H
def mm_wpW (a b m : Nat) (S : zz_T) : zz_T :=
  zz_s (zz_s (zz_s (zz_s (zz_s (mm_beg 3 (nI a) (nI b) S) 42 3 (mm_beg 3 (nI a) (nI b) S 14 (a + 8 * b))) 42 4 0) 42 5 8) 42 6 (S 11 m)) 42 7 1
def mm_wp (a b m : Nat) (S : zz_T) : zz_T := zz_it (fun k T => zz_s T 42 (8 + k) (T 12 (m * 8 + k) &&& 255)) (S 11 m).toNatClampNeg (mm_wpW a b m S)
theorem zz_wpo {a b m f : Nat} {S : zz_T} (h : f ≠ 42) : mm_wp a b m S f = S f := by
  unfold mm_wp
  rw [zz_itn (g := f) (fun k T => zz_sn h)]
  unfold mm_wpW
  rw [zz_sn h, zz_sn h, zz_sn h, zz_sn h, zz_sn h, zz_bego h]
theorem zz_wp2 {a b m : Nat} {S : zz_T} : mm_wp a b m S 42 2 = nI b := by
  unfold mm_wp
  refine zz_itI (fun _ (T : zz_T) => T 42 2 = nI b) ?_ (fun k T _ h => ?_)
  · unfold mm_wpW
    rw [zz_se, pk_un (by decide), zz_se, pk_un (by decide), zz_se, pk_un (by decide), zz_se, pk_un (by decide), zz_se, pk_un (by decide), zz_beg2]
  · rw [zz_se, pk_un (by omega)]
    exact h
theorem zz_5of {S T : zz_T} (e : T 5 = S 5) (h : zz_5 S) : zz_5 T := by
  unfold zz_5
  rw [e]
  exact h
theorem zz_31 : ∀ l, l ≤ 3 → (0 ≤ nI l) ∧ ¬ (3 < nI l) ∧ (3 ≤ nI l → (3 : Int32) = nI l) := by decide +kernel
theorem wk_wp {post : St1 → Prop} {S : zz_T} {a b m l : Nat} (ha : a < 8) (hb : b < 8) (hm : m < 16) (el : S 11 m = nI l) (hl : l ≤ 3) (e0 : S 25 (a + 8 * b) = nI 0) (H : post (zz_u (mm_wp a b m S))) : wpX_writePiece post (zz_u S) (nI a) (nI b) (nI m) := by
  have hv : vp_in (nI (a + 8 * b)) 64 := vp_in_nI (by omega) (by decide)
  have h50 : wX_writePiece_50 post (nI a) (nI b) (nI m) (nI (a + 8 * b)) (nI 0) (nI l) (nI l) (S 0 0) (S 1 0) (S 2 0) (S 3 0) (S 4 0) (S 5 0) (S 6) (S 7) (S 8) (S 9) (S 10) (S 11) (S 12) (S 13) (S 14) (S 15) (S 16) (S 17) (S 18) (S 19) (S 20) (S 21) (S 22) (S 23) (S 24) (S 25) (S 26) (S 27) (S 28) (S 29) (S 30) (S 31) (S 32) (S 33) (S 34) (S 35) (S 36) (S 37) (S 38) (S 39) (S 40) (S 41) (S 42) (S 43) := by
    unfold wX_writePiece_50
    refine wk_begin (S := S) ?_
    refine And.intro hv ?_
    rw [nI_clamp (show a + 8 * b < 2 ^ 31 by omega)]
    refine nm_e (nm_e (nm_e (nm_e ⟨fun z => absurd z (zz_31 l hl).2.1, fun _ => nm_e ?_⟩)))
    unfold mm_wp mm_wpW at H
    rw [zz_cl (by omega) el, el] at H
    refine zz_lp (fun n i T => wX_writePiece_118 post (nI m) (nI 0) (nI l) (T 0 0) (T 1 0) (T 2 0) (T 3 0) (T 4 0) (T 5 0) n (nI i) (T 6) (T 7) (T 8) (T 9) (T 10) (T 11) (T 12) (T 13) (T 14) (T 15) (T 16) (T 17) (T 18) (T 19) (T 20) (T 21) (T 22) (T 23) (T 24) (T 25) (T 26) (T 27) (T 28) (T 29) (T 30) (T 31) (T 32) (T 33) (T 34) (T 35) (T 36) (T 37) (T 38) (T 39) (T 40) (T 41) (T 42) (T 43)) (fun k T => zz_s T 42 (8 + k) (T 12 (m * 8 + k) &&& 255)) (fun _ _ => True) l
      (zz_s (zz_s (zz_s (zz_s (zz_s (mm_beg 3 (nI a) (nI b) S) 42 3 (mm_beg 3 (nI a) (nI b) S 14 (a + 8 * b))) 42 4 0) 42 5 8) 42 6 (nI l)) 42 7 1) trivial (fun _ _ _ _ => trivial) ?_ ?_
    · intro n _
      exact pk_le l l (fun _ => H) (fun z => absurd z (by omega))
    · intro n i T hi _ hw
      have ei : nI m * 8 + nI 0 * 3 + nI i = nI (m * 8 + i) := by
        rw [show (3 : Int32) = nI 3 from rfl, pk_mul, zz_w, nI_add]
        exact congrArg nI (by omega)
      refine pk_le l i (fun z => absurd z (by omega)) (fun _ => ?_)
      refine ⟨pk_in (m * 8 + i) 128 (by omega) ei, ?_⟩
      rw [zz_cl (show m * 8 + i < 2 ^ 31 by omega) ei]
      exact zz_st (k := 8 + i) (by omega) zz_8a (nm_r (nI_1 i) hw)
  unfold wpX_writePiece zz_u wpX_pair
  dsimp only
  rw [zz_p, nI_clamp (show a + 8 * b < 2 ^ 31 by omega), nI_clamp (show m < 2 ^ 31 by omega)]
  refine ⟨hv, nm_r e0 ⟨vp_in_nI hm (by decide), nm_r (e' := nI l) ?_ ⟨fun _ => ⟨fun z => ?_, fun _ => h50⟩, fun z => absurd (zz_31 l hl).1 z⟩⟩⟩
  · rw [el, show (3 : Int32) = nI 3 from rfl, pk_mul, pk_sub (by omega)]
    rfl
  · rw [(zz_31 l hl).2.2 z]
    exact h50
def mm_wq (a b : Nat) (S : zz_T) : zz_T := zz_s (zz_s (mm_beg 3 (nI a) (nI b) S) 42 3 (mm_beg 3 (nI a) (nI b) S 14 (a + 8 * b))) 42 5 8
theorem zz_wqo {a b f : Nat} {S : zz_T} (h : f ≠ 42) : mm_wq a b S f = S f := by
  unfold mm_wq
  rw [zz_sn h, zz_sn h, zz_bego h]
theorem zz_wq2 {a b : Nat} {S : zz_T} : mm_wq a b S 42 2 = nI b := by
  unfold mm_wq
  rw [zz_se, pk_un (by decide), zz_se, pk_un (by decide), zz_beg2]
theorem wk_wq {post : St1 → Prop} {S : zz_T} {a b : Nat} (ha : a < 8) (hb : b < 8) (H : post (zz_u (mm_wq a b S))) : wpX_writeProbe post (zz_u S) (nI a) (nI b) := by
  have hv : vp_in (nI (a + 8 * b)) 64 := vp_in_nI (by omega) (by decide)
  unfold wpX_writeProbe zz_u wpX_pair
  dsimp only
  rw [zz_p]
  refine wk_begin (S := S) ?_
  refine And.intro hv ?_
  rw [nI_clamp (show a + 8 * b < 2 ^ 31 by omega)]
  exact nm_e (nm_e H)
