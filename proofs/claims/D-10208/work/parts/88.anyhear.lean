/-! ## hearing in general: pieces that are taken over, answers with news -/
theorem rf_acco {f s F : Nat} {T : zz_T} (h : F ≠ 2 ∧ F ≠ 11 ∧ F ≠ 13 ∧ F ≠ 15 ∧ F ≠ 29 ∧ F ≠ 30 ∧ F ≠ 31) : mm_acc f s T F = T F := by
  obtain ⟨h2, h11, h13, h15, h29, h30, h31⟩ := h
  have h90 : ∀ (q : Nat) (T : zz_T), mm_ac90 q T F = T F := fun q T => by
    unfold mm_ac90
    rw [zz_sn h30, zz_sn h29, zz_sn h15]
  have hL : ∀ q m (T : zz_T), mm_acL q m T F = T F := fun q m T => by
    unfold mm_acL
    rw [zz_itn (fun k T => zz_sn h13), zz_sn h11]
  unfold mm_acc
  cases mm_fw T (nI f) (nI s) with
  | none => exact h90 _ _
  | some m =>
    show mm_acM (f + 8 * s) m T F = T F
    unfold mm_acM
    rw [h90, zz_sn h2, hL]
theorem rf_hpTo {s f p F : Nat} {S : zz_T} (h : F ≠ 2 ∧ F ≠ 11 ∧ F ≠ 13 ∧ F ≠ 15 ∧ F ≠ 29 ∧ F ≠ 30 ∧ F ≠ 31) : mm_hpT s f p S F = S F := by
  have hK : mm_hpK p S F = S F := by
    unfold mm_hpK
    rw [zz_sn h.2.2.2.2.1, zz_keepo h.2.2.2.2.2.1 h.2.2.2.2.2.2]
  unfold mm_hpT
  by_cases c : S 43 3 = S 15 p ∧ S 43 4 = S 29 p
  · rw [if_pos c]
    by_cases e : S 43 7 = 1
    · rw [if_pos e, rf_acco h, hK]
    · rw [if_neg e, hK]
  · rw [if_neg c]
theorem rf_hp92 {s f c : Nat} {T : zz_T} (hs : s < 8) (hf : f < 8) (h5 : zz_5 T) (hk : rf_k T) (hc : T 15 (f + 8 * s) = nI c) (hc30 : c < 2 ^ 30) (h29 : T 29 (f + 8 * s) = nI 0) :
    rf_pg T (mm_hp92 s f (f + 8 * s) T) (ab_ps (rf_u T) s (ab_fr 4 s f c 0 8) (rf_a T)).2 ∧ rf_a (mm_hp92 s f (f + 8 * s) T) = (ab_ps (rf_u T) s (ab_fr 4 s f c 0 8) (rf_a T)).1 := by
  obtain ⟨know, k16, k17, k18, k20, k21, kt, k24, _⟩ := hk
  unfold mm_hp92
  have hT : rf_a (mm_anW s f (f + 8 * s) T) = rf_a T := rf_same (fun F hF => rf_anWo (by unfold rf_F at hF; omega))
  have h42 : mm_anW s f (f + 8 * s) T 42 2 = nI f := by
    unfold mm_anW
    rw [zz_se, pk_un (by decide), zz_se, pk_un (by decide), zz_se, pk_un (by decide), zz_beg2]
  obtain ⟨b0, b1, b2, b3⟩ := zz_begw (k := 4) (f := nI s) (g := nI f) (S := T)
  have w0 : mm_anW s f (f + 8 * s) T 42 0 = nI 4 := by
    unfold mm_anW
    rw [zz_se, pk_un (by decide), zz_se, pk_un (by decide), zz_se, pk_un (by decide), b0]
    rfl
  have w1 : mm_anW s f (f + 8 * s) T 42 1 = nI s := by
    unfold mm_anW
    rw [zz_se, pk_un (by decide), zz_se, pk_un (by decide), zz_se, pk_un (by decide), b1]
  have w3 : mm_anW s f (f + 8 * s) T 42 3 = nI c := by
    unfold mm_anW
    rw [zz_se, pk_un (by decide), zz_se, pk_un (by decide), zz_se, pk_us, zz_bego (by decide), hc]
  have w4 : mm_anW s f (f + 8 * s) T 42 4 = nI 0 := by
    unfold mm_anW
    rw [zz_se, pk_un (by decide), zz_se, pk_us, zz_bego (by decide), h29]
  have w5 : mm_anW s f (f + 8 * s) T 42 5 = nI 8 := by
    unfold mm_anW
    rw [zz_se, pk_us]
    rfl
  have w2 := h42
  have ew : rf_wr (mm_anW s f (f + 8 * s) T) = ab_fr 4 s f c 0 8 := by
    unfold rf_wr
    rw [w0, w1, w2, w3, w4, w5, rf_cn (by omega), rf_cn (by omega), rf_cn (by omega), rf_cn (by omega), rf_cn (by omega), rf_cn (by omega)]
  obtain ⟨m20, hm20, e20⟩ := k20 (s * 8 + f) (by omega)
  have gg := rf_pgpass (w := ab_fr 4 s f c 0 8) hs hf (zz_5of (rf_anWo (by decide)) h5) (rf_nwc (rf_anWo (by decide)) know) (zz_18of (rf_anWo (by decide)) k18) (by rw [rf_anWo (by decide)]; exact rf_nx e20 hm20) (rf_wn6 (rf_nx w0 (by omega)) (rf_nx w1 (by omega)) (rf_nx w2 (by omega)) (rf_nx w3 (by omega)) (rf_nx w4 (by omega)) (rf_nx w5 (by omega))) h42 ew
  rw [hT, rf_uc (rf_anWo (by decide))] at gg
  refine ⟨rf_pgl (fun f hf => rf_anWo (by omega)) gg, ?_⟩
  rw [rf_pass (w := ab_fr 4 s f c 0 8) hs hf (zz_18of (rf_anWo (by decide)) k18) h42 rfl, hT, rf_uc (rf_anWo (by decide))]
/-- a piece, taken over or not -/
theorem rf_gPiece {s f g n l q c : Nat} {S : zz_T} {ac : Nat → Nat → Nat} (hs : s < 8) (h5 : zz_5 S) (hk : rf_k S) (hr : rf_r S 3 f g n l q) (hc : g = s → mm_hpT s f (f + 8 * s) S 15 (f + 8 * s) = nI c) (hc30 : c < 2 ^ 30) (h29 : g = s → mm_hpT s f (f + 8 * s) S 29 (f + 8 * s) = nI 0) (hac : ac f s = c) :
    rf_pg S (mm_hearPiece s S) (ab_hP (rf_u S) ac s (ab_fr 3 f g n l q) (rf_a S)).2 ∧ rf_a (mm_hearPiece s S) = (ab_hP (rf_u S) ac s (ab_fr 3 f g n l q) (rf_a S)).1 := by
  have hcy := rf_pgcarry hs h5 hk hr
  have hcy2 := rf_carry hs hk hr
  obtain ⟨_, hf, hg, hn, hl, hq, e0, e1, e2, e3, e4, e5⟩ := hr
  unfold mm_hearPiece ab_hP
  show rf_pg S _ (ab_if (g = s) (ab_ps (rf_u S) s (ab_fr 4 s f (ac f s) 0 8) (rf_a S)) (ab_cy (rf_u S) s (ab_fr 3 f g n l q) (rf_a S))).2 ∧ _ = (ab_if (g = s) (ab_ps (rf_u S) s (ab_fr 4 s f (ac f s) 0 8) (rf_a S)) (ab_cy (rf_u S) s (ab_fr 3 f g n l q) (rf_a S))).1
  by_cases d : S 43 2 = nI s
  · have egs : g = s := by rw [e2] at d; exact (nI_eq (by omega) (by omega)).1 d
    rw [if_pos d, e1, nI_clamp (show f < 2 ^ 31 by omega), ab_ip egs, hac]
    have hT : rf_a (mm_hpT s f (f + 8 * s) S) = rf_a S := rf_same (fun F hF => rf_hpTo (by unfold rf_F at hF; omega))
    have kT : rf_k (mm_hpT s f (f + 8 * s) S) := rf_kc (fun F hF => rf_hpTo (by unfold rf_F at hF; omega)) hk
    obtain ⟨r1, r2⟩ := rf_hp92 hs hf (zz_5hpT h5) kT (hc egs) hc30 (h29 egs)
    rw [hT, rf_uc (rf_hpTo (by decide))] at r1 r2
    exact ⟨rf_pgl (fun F hF => rf_hpTo (by omega)) r1, r2⟩
  · have egs : ¬ g = s := fun z => d (by rw [e2, z])
    rw [if_neg d, ab_in egs]
    exact ⟨hcy, hcy2⟩
/-- an answer, with news or not -/
theorem rf_gAnswer {s k f g n l q : Nat} {S : zz_T} (hs : s < 8) (h5 : zz_5 S) (hk : rf_k S) (hr : rf_r S k f g n l q) :
    rf_pg S (mm_hearAnswer s S) (ab_hW (rf_u S) s (ab_fr k f g n l q) (rf_a S)).2 ∧ (rf_a (mm_hearAnswer s S) = (ab_hW (rf_u S) s (ab_fr k f g n l q) (rf_a S)).1 ∨ (g = s ∧ mm_anP (s + 8 * f) S ∧ rf_a (mm_hearAnswer s S) = ab_w (ab_w (rf_a S) 7 s f 0) 9 s f 0)) := by
  have hcy := rf_pgcarry hs h5 hk hr
  have hcy2 := rf_carry hs hk hr
  obtain ⟨_, hf, hg, hn, hl, hq, e0, e1, e2, e3, e4, e5⟩ := hr
  unfold mm_hearAnswer ab_hW
  show rf_pg S _ (ab_if (g = s) (ab_nil (rf_a S)) (ab_cy (rf_u S) s (ab_fr k f g n l q) (rf_a S))).2 ∧ (_ = (ab_if (g = s) (ab_nil (rf_a S)) (ab_cy (rf_u S) s (ab_fr k f g n l q) (rf_a S))).1 ∨ _)
  by_cases d : S 43 2 = nI s
  · have egs : g = s := by rw [e2] at d; exact (nI_eq (by omega) (by omega)).1 d
    rw [if_pos d, ab_ip egs, e1, nI_clamp (show f < 2 ^ 31 by omega)]
    by_cases c : mm_anP (s + 8 * f) S
    · rw [if_pos c]
      refine ⟨rf_pg0 h5 (fun F hF => ?_), Or.inr ⟨egs, c, ?_⟩⟩
      · unfold mm_anS
        rw [zz_sn (by omega), zz_sn (by omega), zz_sn (by omega), zz_sn (by omega)]
      · unfold mm_anS
        rw [show (0 : Int32) = nI 0 from rfl, rf_27 hs hf, rf_28 hs hf, rf_n (by decide), rf_n (by decide), rf_cn (by omega)]
    · rw [if_neg c]
      exact ⟨rf_pg0 h5 (fun f _ => rfl), Or.inl rfl⟩
  · have egs : ¬ g = s := fun z => d (by rw [e2, z])
    rw [if_neg d, ab_in egs]
    exact ⟨hcy, Or.inl hcy2⟩
