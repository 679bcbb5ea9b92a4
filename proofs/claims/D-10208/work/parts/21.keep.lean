/-! ## listen -/
theorem zz_B32 {S : zz_T} {i : Nat} (h : zz_B S) : zz_B (zz_s S 32 i 0) := by
  refine ⟨zz_5s (by decide) h.1, zz_24of (zz_sn (by decide)) h.2.1, zz_18of (zz_sn (by decide)) h.2.2.1, fun j hj hu => ?_⟩
  rw [zz_se] at hu
  have e : j ≠ i := fun e => hu (by rw [e, pk_us])
  rw [pk_un e] at hu
  obtain ⟨s, r, hs, hr, e1, e2, e3⟩ := h.2.2.2 j hj hu
  refine ⟨s, r, hs, hr, ?_, ?_, ?_⟩
  · rw [zz_sn (by decide)]
    exact e1
  · rw [zz_sn (by decide)]
    exact e2
  · rw [zz_sn (f := 32) (g := 36) (by decide)]
    exact zz_okc (fun f hf => zz_sn (by unfold zz_qf at hf; omega)) e3
theorem zz_J32 {N : Nat} {Z S : zz_T} {i : Nat} (h : zz_J N Z S) : zz_J N Z (zz_s S 32 i 0) :=
  zz_Jq (fun f hf => zz_sn (by unfold zz_qf at hf; omega)) (zz_B32 h.1) h
/-- one place written, of a field that the invariant does not speak of -/
theorem zz_Js {N : Nat} {Z S : zz_T} {f i : Nat} {v : Int32} (hf : ¬ zz_qf f ∧ f ≠ 5 ∧ f ≠ 18 ∧ f ≠ 24 ∧ f ≠ 32 ∧ f ≠ 33 ∧ f ≠ 34 ∧ f ≠ 36) (h : zz_J N Z S) : zz_J N Z (zz_s S f i v) :=
  zz_Jq (fun g hg => zz_sn (fun e => hf.1 (e ▸ hg))) (zz_Bs hf h.1) h
theorem zz_JL {N : Nat} {Z T : zz_T} {i : Nat} (hi : i < 1024) (h : zz_J N Z T) (hu : ¬ T 32 i = 0) : zz_L i T := by
  obtain ⟨s, r, hs, hr, e1, e2, f, g, hf, hg, e3, e4, h3, _⟩ := h.1.2.2.2 i hi hu
  by_cases c : T 36 (i * 12) = 3
  · obtain ⟨_, _, _, l, _, _, q3, q4, _⟩ := h3 c
    exact ⟨s, r, f, g, l, hs, hr, hf, hg, by omega, e1, e2, e3, e4, fun _ => q3, h.1.1, h.1.2.1, fun p hp => (h.2.1.1 p hp).2.2⟩
  · exact ⟨s, r, f, g, 0, hs, hr, hf, hg, by omega, e1, e2, e3, e4, fun z => absurd z c, h.1.1, h.1.2.1, fun p hp => (h.2.1.1 p hp).2.2⟩
theorem zz_Jlst {N : Nat} {Z T : zz_T} {i : Nat} (hN : N < 2 ^ 30) (hi : i < 1024) (h : zz_J N Z T) : zz_J N Z (mm_lst i T) := by
  unfold mm_lst
  split
  · exact h
  · next hu =>
    split
    · exact h
    · split
      · obtain ⟨s, r, hs, hr, e1, e2, e3⟩ := h.1.2.2.2 i hi hu
        rw [e1, e2, nI_clamp (show s < 2 ^ 31 by omega), nI_clamp (show r < 2 ^ 31 by omega)]
        unfold mm_lst1
        have hk := zz_rdk (i := i) (S := zz_s T 32 i 0)
        have hq : ∀ f, f ≠ 43 → f ≠ 32 → zz_it (mm_rd1 i) 12 (zz_s T 32 i 0) f = T f := fun f z1 z2 => (hk.1 f z1).trans (zz_sn z2)
        have hJ : zz_J N Z (zz_it (mm_rd1 i) 12 (zz_s T 32 i 0)) :=
          zz_Jq (S := zz_s T 32 i 0) (fun f hf => hk.1 f (by unfold zz_qf at hf; omega)) (zz_Bof (S := zz_s T 32 i 0) (fun f hf => hk.1 f (by unfold zz_qf at hf; omega)) (hk.1 5 (by decide)) (zz_18of (hk.1 18 (by decide))) (zz_24of (hk.1 24 (by decide))) (hk.1 32 (by decide)) (hk.1 33 (by decide)) (hk.1 34 (by decide)) (hk.1 36 (by decide)) (zz_B32 h.1)) (zz_J32 h)
        refine zz_Jhear hN hr hs ?_ hJ
        refine zz_okc (S := T) (fun f hf => hq f (by unfold zz_qf at hf; omega) (by unfold zz_qf at hf; omega)) (zz_okw (fun k hk' => ?_) e3)
        rw [hk.2 k hk', zz_sn (by decide)]
      · exact zz_J32 h
/-! ## urge -/
theorem zz_Jgive {N : Nat} {Z S : zz_T} {s g : Nat} (hs : s < 8) (hg : g < 8) (h : zz_J N Z S) : zz_J N Z (mm_give s g S) :=
  zz_Jq (fun f hf => zz_giveq (Or.inl hf)) (zz_Bgive hs hg h.1) h
theorem zz_Jhw {N : Nat} {Z S : zz_T} {s g : Nat} (hs : s < 8) (hg : g < 8) (h : zz_J N Z S) : zz_J N Z (mm_hw s g S) :=
  zz_Jq (fun f hf => zz_hwq (Or.inl hf)) (zz_Bhw hs hg h.1) h
theorem zz_Jask {N : Nat} {Z S : zz_T} {s g : Nat} (hs : s < 8) (hg : g < 8) (h : zz_J N Z S) : zz_J N Z (mm_ask s g S) :=
  zz_Jq (fun f hf => zz_askq hf) (zz_Bask hs hg h.1) h
/-- what a source may send: the message that waits first and is not known to be there, or a probe -/
def zz_W (a b : Nat) (m : Option Nat) (T : zz_T) : Prop :=
  (∀ k, m = some k → mm_fw T (nI a) (nI b) = some k ∧ T 15 (a + 8 * b) ≤ T 14 (a + 8 * b)) ∧ (m = none → ¬ T 15 (a + 8 * b) ≤ T 14 (a + 8 * b))
theorem zz_Wc {a b : Nat} {m : Option Nat} {S T : zz_T} (h : ∀ f, zz_qf f → T f = S f) (k : zz_W a b m S) : zz_W a b m T := by
  unfold zz_W
  rw [zz_fwc (h 1 (by decide)) (h 2 (by decide)) (h 8 (by decide)) (h 9 (by decide)) (h 10 (by decide)), h 14 (by decide), h 15 (by decide)]
  exact k
theorem zz_wpw {a b m l : Nat} {S : zz_T} (el : S 11 m = nI l) (hl : l ≤ 1) : mm_wp a b m S 42 0 = 3 ∧ mm_wp a b m S 42 1 = nI a ∧ mm_wp a b m S 42 2 = nI b ∧ mm_wp a b m S 42 3 = S 14 (a + 8 * b) ∧ mm_wp a b m S 42 4 = 0 ∧ mm_wp a b m S 42 6 = nI l ∧ mm_wp a b m S 42 7 = 1 ∧ ∀ k, k < l → mm_wp a b m S 42 (8 + k) = S 12 (m * 8 + k) &&& 255 := by
  have hc : (S 11 m).toNatClampNeg = l := zz_cl (by omega) el
  have w0 : mm_wpW a b m S 42 0 = 3 := by
    unfold mm_wpW
    rw [zz_se, pk_un (by decide), zz_se, pk_un (by decide), zz_se, pk_un (by decide), zz_se, pk_un (by decide), zz_se, pk_un (by decide)]
    exact zz_begw.1
  have w1 : mm_wpW a b m S 42 1 = nI a := by
    unfold mm_wpW
    rw [zz_se, pk_un (by decide), zz_se, pk_un (by decide), zz_se, pk_un (by decide), zz_se, pk_un (by decide), zz_se, pk_un (by decide)]
    exact zz_begw.2.1
  have w2 : mm_wpW a b m S 42 2 = nI b := by
    unfold mm_wpW
    rw [zz_se, pk_un (by decide), zz_se, pk_un (by decide), zz_se, pk_un (by decide), zz_se, pk_un (by decide), zz_se, pk_un (by decide)]
    exact zz_begw.2.2.1
  have w3 : mm_wpW a b m S 42 3 = S 14 (a + 8 * b) := by
    unfold mm_wpW
    rw [zz_se, pk_un (by decide), zz_se, pk_un (by decide), zz_se, pk_un (by decide), zz_se, pk_un (by decide), zz_se, pk_us, zz_bego (by decide)]
  have w4 : mm_wpW a b m S 42 4 = 0 := by
    unfold mm_wpW
    rw [zz_se, pk_un (by decide), zz_se, pk_un (by decide), zz_se, pk_un (by decide), zz_se, pk_us]
  have w6 : mm_wpW a b m S 42 6 = nI l := by
    unfold mm_wpW
    rw [zz_se, pk_un (by decide), zz_se, pk_us]
    exact el
  have w7 : mm_wpW a b m S 42 7 = 1 := by
    unfold mm_wpW
    rw [zz_se, pk_us]
  have w12 : mm_wpW a b m S 12 = S 12 := by
    unfold mm_wpW
    rw [zz_sn (by decide), zz_sn (by decide), zz_sn (by decide), zz_sn (by decide), zz_sn (by decide), zz_bego (by decide)]
  unfold mm_wp
  rw [hc]
  generalize mm_wpW a b m S = X at w0 w1 w2 w3 w4 w6 w7 w12
  have : l = 0 ∨ l = 1 := by omega
  rcases this with rfl | rfl
  · exact ⟨w0, w1, w2, w3, w4, w6, w7, fun k hk => absurd hk (by omega)⟩
  · have e : ∀ j, j ≠ 8 → zz_it (fun k T => zz_s T 42 (8 + k) (T 12 (m * 8 + k) &&& 255)) 1 X 42 j = X 42 j := by
      intro j hj
      show zz_s X 42 (8 + 0) _ 42 j = _
      rw [zz_se, pk_un (by omega)]
    refine ⟨(e 0 (by decide)).trans w0, (e 1 (by decide)).trans w1, (e 2 (by decide)).trans w2, (e 3 (by decide)).trans w3, (e 4 (by decide)).trans w4, (e 6 (by decide)).trans w6, (e 7 (by decide)).trans w7, fun k hk => ?_⟩
    obtain rfl : k = 0 := by omega
    show zz_s X 42 (8 + 0) (X 12 (m * 8 + 0) &&& 255) 42 (8 + 0) = _
    rw [zz_se, pk_us, w12]
theorem zz_wqw {a b : Nat} {S : zz_T} : mm_wq a b S 42 0 = 3 ∧ mm_wq a b S 42 1 = nI a ∧ mm_wq a b S 42 2 = nI b ∧ mm_wq a b S 42 3 = S 14 (a + 8 * b) ∧ mm_wq a b S 42 4 = 0 ∧ mm_wq a b S 42 6 = 0 := by
  unfold mm_wq
  refine ⟨?_, ?_, ?_, ?_, ?_, ?_⟩
  · rw [zz_se, pk_un (by decide), zz_se, pk_un (by decide)]
    exact zz_begw.1
  · rw [zz_se, pk_un (by decide), zz_se, pk_un (by decide)]
    exact zz_begw.2.1
  · rw [zz_se, pk_un (by decide), zz_se, pk_un (by decide)]
    exact zz_begw.2.2.1
  · rw [zz_se, pk_un (by decide), zz_se, pk_us, zz_bego (by decide)]
  · rw [zz_se, pk_un (by decide), zz_se, pk_un (by decide)]
    exact zz_begw.2.2.2 4 (by decide) (by decide)
  · rw [zz_se, pk_un (by decide), zz_se, pk_un (by decide)]
    exact zz_begw.2.2.2 6 (by decide) (by decide)
theorem zz_uWok {N : Nat} {Z S : zz_T} {a b : Nat} {m : Option Nat} (hN : N < 2 ^ 30) (ha : a < 8) (hb : b < 8) (hw : zz_W a b m S) (h : zz_J N Z S) : zz_ok (mm_uW a b m S) a (mm_uW a b m S 42) := by
  obtain ⟨c, d, y1, y2, y3, y4, y5⟩ := h.2.1.2.1 a b ha hb
  refine zz_okc (S := S) (fun f hf => zz_uWo (by unfold zz_qf at hf; omega)) ?_
  cases m with
  | none =>
    have hlt : c < d := by
      have := hw.2 rfl
      rw [y1, y2] at this
      exact Nat.lt_of_not_le (fun z => this (nI_le z (by omega)))
    obtain ⟨b0, b1, b2, b3, b4, b6⟩ := zz_wqw (a := a) (b := b) (S := S)
    refine ⟨a, b, ha, hb, b1, b2, fun _ => ⟨zz_con0 ha, c, d, 0, b3.trans y1, b4, b6, by omega, by omega, y2, y3, fun e => absurd e (by omega)⟩, fun _ _ _ z => absurd b0 z⟩
  | some k =>
    obtain ⟨hk1, hk2⟩ := hw.1 k rfl
    obtain ⟨hk16, _⟩ := zz_fws k hk1
    obtain ⟨l, hl, el⟩ := h.2.1.2.2.2.2.1 k hk16
    have hle : c = d := by
      rw [y1, y2] at hk2
      have := (nI_leI (show d < 2 ^ 31 by omega) (show c < 2 ^ 31 by omega)).1 hk2
      omega
    obtain ⟨b0, b1, b2, b3, b4, b6, b7, b8⟩ := zz_wpw (a := a) (b := b) el hl
    refine ⟨a, b, ha, hb, b1, b2, fun _ => ⟨zz_con0 ha, c, d, l, b3.trans y1, b4, b6, hl, by omega, y2, y3, fun _ => ⟨?_, b7, k, hk1, el, b8⟩⟩, fun _ _ _ z => absurd b0 z⟩
    rw [y1, hle]
theorem zz_Bq42 {S T : zz_T} (h : ∀ f, f ≠ 42 → T f = S f) (k : zz_B S) : zz_B T :=
  zz_Bof (fun f hf => h f (by unfold zz_qf at hf; omega)) (h 5 (by decide)) (zz_18of (h 18 (by decide))) (zz_24of (h 24 (by decide))) (h 32 (by decide)) (h 33 (by decide)) (h 34 (by decide)) (h 36 (by decide)) k
theorem zz_Ju187 {N : Nat} {Z S : zz_T} {a p : Nat} (ha : a < 8) (k : zz_ok S a (S 42)) (h : zz_J N Z S) : zz_J N Z (mm_u187 a p S) := by
  unfold mm_u187
  have h1 : zz_J N Z (zz_s (zz_s S 28 p 1) 26 p (S 4 0)) := zz_Js (by decide) (zz_Js (by decide) h)
  refine zz_Jq (fun f hf => zz_passq (Or.inl hf)) (zz_Bpass ha h1.1 ?_) h1
  rw [zz_sn (f := 26) (g := 42) (by decide), zz_sn (f := 28) (g := 42) (by decide)]
  exact zz_okc (fun f hf => (zz_sn (by unfold zz_qf at hf; omega)).trans (zz_sn (by unfold zz_qf at hf; omega))) k
theorem zz_Ju142 {N : Nat} {Z S : zz_T} {a b : Nat} {m : Option Nat} (hN : N < 2 ^ 30) (ha : a < 8) (hb : b < 8) (hw : zz_W a b m S) (h : zz_J N Z S) : zz_J N Z (mm_u142 a b m S) := by
  have h1 := zz_Jhw ha hb h
  have hw1 : zz_W a b m (mm_hw a b S) := zz_Wc (fun f hf => zz_hwq (Or.inl hf)) hw
  unfold mm_u142
  split
  · have h2 : zz_J N Z (mm_uW a b m (mm_hw a b S)) := zz_Jq (fun f hf => zz_uWo (by unfold zz_qf at hf; omega)) (zz_Bq42 (fun f hf => zz_uWo hf) h1.1) h1
    exact zz_Ju187 ha (zz_uWok hN ha hb hw1 h1) h2
  · exact zz_Jask ha hb (zz_Js (by decide) h1)
theorem zz_Ju108 {N : Nat} {Z S : zz_T} {a b : Nat} {m : Option Nat} {z0 : Int32} (hN : N < 2 ^ 30) (ha : a < 8) (hb : b < 8) (hw : zz_W a b m S) (h : zz_J N Z S) : zz_J N Z (mm_u108 a b m z0 S) := by
  have q1 : ∀ f, zz_qf f → mm_uA (a + 8 * b) z0 S f = S f := fun f hf => zz_sn (by unfold zz_qf at hf; omega)
  have h1 : zz_J N Z (mm_uA (a + 8 * b) z0 S) := zz_Js (by decide) h
  have w1 : zz_W a b m (mm_uA (a + 8 * b) z0 S) := zz_Wc q1 hw
  have h2 := zz_Jhw ha hb h1
  have w2 : zz_W a b m (mm_hw a b (mm_uA (a + 8 * b) z0 S)) := zz_Wc (fun f hf => zz_hwq (Or.inl hf)) w1
  unfold mm_u108
  split
  · exact zz_Ju142 hN ha hb w1 h1
  · split
    · refine zz_Ju142 hN ha hb ?_ (zz_Js (by decide) (zz_Jgive ha hb h2))
      exact zz_Wc (fun f hf => (zz_sn (by unfold zz_qf at hf; omega)).trans (zz_giveq (Or.inl hf))) w2
    · exact zz_Ju142 hN ha hb w2 h2
theorem zz_Jurge {N : Nat} {Z S : zz_T} {a b : Nat} (hN : N < 2 ^ 30) (ha : a < 8) (hb : b < 8) (h : zz_J N Z S) : zz_J N Z (mm_urge a b S) := by
  unfold mm_urge
  split
  · next c =>
    have hw : zz_W a b (mm_snd a b S) S := by
      refine ⟨fun k e => ?_, fun e => ?_⟩
      · unfold mm_snd at e
        by_cases c1 : S 15 (a + 8 * b) ≤ S 14 (a + 8 * b)
        · rw [if_pos c1] at e
          exact ⟨e, c1⟩
        · rw [if_neg c1] at e
          cases e
      · rcases c with ⟨k, hk⟩ | c
        · rw [hk] at e
          cases e
        · exact c
    generalize mm_snd a b S = m at hw
    unfold mm_u46
    split
    · unfold mm_u82
      split
      · exact zz_Ju108 hN ha hb hw h
      · exact zz_Ju108 hN ha hb hw h
    · exact h
  · exact h
theorem zz_JU {N : Nat} {Z S : zz_T} {a b : Nat} (ha : a < 8) (hb : b < 8) (h : zz_J N Z S) : zz_U (a + 8 * b) (mm_snd a b S) S := by
  refine ⟨h.1.1, h.1.2.1, (h.2.1.1 (a + 8 * b) (by omega)).1, fun k hk => ?_⟩
  unfold mm_snd at hk
  by_cases c1 : S 15 (a + 8 * b) ≤ S 14 (a + 8 * b)
  · rw [if_pos c1] at hk
    obtain ⟨h16, _⟩ := zz_fws k hk
    obtain ⟨l, hl, el⟩ := h.2.1.2.2.2.2.1 k h16
    exact ⟨h16, l, by omega, el⟩
  · rw [if_neg c1] at hk
    cases hk
/-! ## a moment -/
theorem zz_Jub {N : Nat} {Z S : zz_T} {a b : Nat} (hN : N < 2 ^ 30) (ha : a < 8) (hb : b < 8) (h : zz_J N Z S) : zz_J N Z (mm_ub a b S) := by
  unfold mm_ub
  split
  · exact h
  · exact zz_Jurge hN ha hb h
theorem zz_Jlisten {N : Nat} {Z S : zz_T} (hN : N < 2 ^ 30) (h : zz_J N Z S) : ∀ i, i ≤ 1024 → zz_J N Z (zz_it mm_lst i (mm_tick S)) := by
  intro i hi
  exact zz_itI (fun (_ : Nat) (T : zz_T) => zz_J N Z T) (zz_Js (by decide) h) (fun k T hk hT => zz_Jlst hN (by omega) hT)
theorem zz_Jua {N : Nat} {Z S : zz_T} {a : Nat} (hN : N < 2 ^ 30) (ha : a < 8) (h : zz_J N Z S) : ∀ b, b ≤ 8 → zz_J N Z (zz_it (mm_ub a) b S) := by
  intro b hb
  exact zz_itI (fun (_ : Nat) (T : zz_T) => zz_J N Z T) h (fun k T hk hT => zz_Jub hN ha (by omega) hT)
theorem zz_Jus {N : Nat} {Z S : zz_T} (hN : N < 2 ^ 30) (h : zz_J N Z S) : ∀ a, a ≤ 8 → zz_J N Z (zz_it mm_ua a (mm_listen (mm_tick S))) := by
  intro a ha
  exact zz_itI (fun (_ : Nat) (T : zz_T) => zz_J N Z T) (zz_Jlisten hN h 1024 (Nat.le_refl _)) (fun k T hk hT => zz_Jua hN (by omega) hT 8 (Nat.le_refl _))
theorem zz_Jmom {N : Nat} {Z S : zz_T} (hN : N < 2 ^ 30) (h : zz_J N Z S) : zz_J N Z (mm_mom S) := zz_Jus hN h 8 (Nat.le_refl _)
theorem zz_JM {N : Nat} {Z S : zz_T} (hN : N < 2 ^ 30) (h : zz_J N Z S) : zz_M S := by
  refine ⟨fun i hi T hT hu _ => ?_, fun a b ha hb _ U hU => ?_⟩
  · rw [hT] at hu ⊢
    exact zz_JL hi (zz_Jlisten hN h i (by omega)) hu
  · rw [hU]
    exact zz_JU ha hb (zz_Jua hN ha (zz_Jus hN h a (by omega)) b (by omega))
