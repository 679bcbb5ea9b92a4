/-! ## runs -/
/-- links, live pairs, confirmed, accepted, states, kinds of step, station, other station, frame -/
abbrev ab_Z : Type := (Nat → Nat → Prop) × (Nat → Nat → Prop) × (Nat → Nat → Nat) × (Nat → Nat → Nat) × (Nat → ab_D) × (Nat → Nat) × (Nat → Nat) × (Nat → Nat) × (Nat → ab_F)
abbrev ab_zu (Z : ab_Z) : Nat → Nat → Prop := Z.1
abbrev ab_zl (Z : ab_Z) : Nat → Nat → Prop := Z.2.1
abbrev ab_zc (Z : ab_Z) : Nat → Nat → Nat := Z.2.2.1
abbrev ab_za (Z : ab_Z) : Nat → Nat → Nat := Z.2.2.2.1
abbrev ab_zD (Z : ab_Z) : Nat → ab_D := Z.2.2.2.2.1
abbrev ab_zK (Z : ab_Z) : Nat → Nat := Z.2.2.2.2.2.1
abbrev ab_zs (Z : ab_Z) : Nat → Nat := Z.2.2.2.2.2.2.1
abbrev ab_zp (Z : ab_Z) : Nat → Nat := Z.2.2.2.2.2.2.2.1
abbrev ab_zX (Z : ab_Z) : Nat → ab_F := Z.2.2.2.2.2.2.2.2
abbrev ab_zn (Z : ab_Z) (i : Nat) : Nat := ab_zD Z i 0 0 0
noncomputable def ab_zY (Z : ab_Z) (i : Nat) : ab_S := ab_do (ab_zu Z) (ab_zl Z) (ab_zc Z) (ab_za Z) (ab_zK Z i) (ab_zs Z i) (ab_zp Z i) (ab_zX Z i) (ab_zD Z i)
def ab_zO (Z : ab_Z) (i : Nat) (w : ab_F) : Prop := (ab_zY Z i).2 w
/-- a frame from before the stretch -/
def ab_old (Z : ab_Z) (x : ab_F) : Prop := (x 3 ≤ 1 → x 6 ≤ ab_zD Z 0 4 (x 4) 0) ∧ (x 3 = 2 → x 6 ≤ ab_zD Z 0 4 (x 5) 0) ∧ (x 3 = 0 → x 8 ≤ ab_zD Z 0 5 (x 4) 0)
/-- a run of N steps: every step is a step of the machine; what is heard was sent a moment before (or is old); the start knows no number that its owner has not given out -/
def ab_RL (lm : Nat) (Z : ab_Z) (d : Nat → Nat → Nat) (N : Nat) : Prop :=
  (∀ i, i < N → ab_zD Z (i + 1) = (ab_zY Z i).1) ∧
  (∀ p q, ab_zu Z p q → ab_zu Z q p ∧ p < 8 ∧ q < 8 ∧ p ≠ q) ∧
  (∀ c, d c c = 0) ∧ (∀ c p q, ab_zu Z p q → d c q ≤ d c p + 1) ∧
  (∀ v c, ab_zD Z 0 3 v c ≤ ab_zD Z 0 4 c 0) ∧
  (∀ i, i < N → ab_zK Z i = 1 → ab_zu Z (ab_zp Z i) (ab_zs Z i) ∧ ab_zX Z i 1 = ab_zp Z i ∧ ab_zX Z i 2 = ab_zs Z i ∧
    (((∃ j, j < i ∧ ab_zO Z j (ab_zX Z i)) ∧ ab_zX Z i 0 + 1 = ab_zn Z i) ∨ (ab_old Z (ab_zX Z i) ∧ ab_zn Z i ≤ ab_zn Z 0 + 1))) ∧
  (∀ i, i ≤ N → ab_zn Z i ≤ ab_zn Z 0 + lm) ∧
  (∀ i j, i < j → j < N → ab_zK Z j = 1 → ab_zX Z j 3 = 0 → ab_zK Z i = 1 → ab_zs Z i = ab_zs Z j → ab_zX Z i 3 = 0 → ab_zX Z i 4 = ab_zX Z j 4 → ab_zX Z i 8 = ab_zX Z j 8 → ab_zn Z j ≤ ab_zn Z i + 20 →
    ab_sn (ab_zs Z j) (ab_zX Z j 4) (ab_zX Z j 8) (ab_zD Z j)) ∧
  (∀ s f q, ab_sn s f q (ab_zD Z 0) → q ≤ ab_zD Z 0 5 f 0)
abbrev ab_R (Z : ab_Z) (d : Nat → Nat → Nat) (N : Nat) : Prop := ab_RL 126 Z d N
theorem ab_Ry {Z : ab_Z} {d : Nat → Nat → Nat} {N i : Nat} {lm : Nat} (h : ab_RL lm Z d N) (hi : i < N) (v c : Nat) :
    ab_wy (ab_zu Z) (ab_zl Z) (ab_zK Z i) (ab_zs Z i) (ab_zp Z i) (ab_zX Z i) (ab_zD Z i) (ab_zY Z i) v c := by
  refine ab_dw (fun hk => ?_)
  have hu := (h.2.2.2.2.2.1 i hi hk).1
  have := h.2.1 _ _ hu
  exact ⟨this.1, by omega⟩
theorem ab_now1 {Z : ab_Z} {d : Nat → Nat → Nat} {N i : Nat} {lm : Nat} (h : ab_RL lm Z d N) (hi : i < N) : ab_zn Z (i + 1) = if ab_zK Z i = 0 then ab_zn Z i + 1 else ab_zn Z i := by
  show ab_zD Z (i + 1) 0 0 0 = _
  rw [h.1 i hi]
  exact ab_d0
theorem ab_nowm {Z : ab_Z} {d : Nat → Nat → Nat} {N i j : Nat} {lm : Nat} (h : ab_RL lm Z d N) (hij : i ≤ j) (hj : j ≤ N) : ab_zn Z i ≤ ab_zn Z j := by
  induction j with
  | zero => rw [show i = 0 by omega]; exact Nat.le_refl _
  | succ j ih =>
    by_cases e : i = j + 1
    · rw [e]; exact Nat.le_refl _
    · refine Nat.le_trans (ih (by omega) (by omega)) ?_
      rw [ab_now1 h (by omega)]
      split <;> omega
/-- own numbers never fall -/
theorem ab_own1 {Z : ab_Z} {d : Nat → Nat → Nat} {N i c : Nat} {lm : Nat} (h : ab_RL lm Z d N) (hi : i < N) : ab_zD Z i 4 c 0 ≤ ab_zD Z (i + 1) 4 c 0 := by
  rw [h.1 i hi]
  rcases ab_d4 (u := ab_zu Z) (lv := ab_zl Z) (cf := ab_zc Z) (ac := ab_za Z) (k := ab_zK Z i) (a := ab_zs Z i) (b := ab_zp Z i) (c := c) (x := ab_zX Z i) (D := ab_zD Z i) with z | z
  · exact Nat.le_of_eq z.symm
  · exact Nat.le_trans (Nat.le_succ _) (Nat.le_of_eq z.1.symm)
theorem ab_ownm {Z : ab_Z} {d : Nat → Nat → Nat} {N i j c : Nat} {lm : Nat} (h : ab_RL lm Z d N) (hij : i ≤ j) (hj : j ≤ N) : ab_zD Z i 4 c 0 ≤ ab_zD Z j 4 c 0 := by
  induction j with
  | zero => rw [show i = 0 by omega]; exact Nat.le_refl _
  | succ j ih =>
    by_cases e : i = j + 1
    · rw [e]; exact Nat.le_refl _
    · exact Nat.le_trans (ih (by omega) (by omega)) (ab_own1 h (by omega))
/-- numbers of ways never fall -/
theorem ab_nr1 {Z : ab_Z} {d : Nat → Nat → Nat} {N i v c : Nat} {lm : Nat} (h : ab_RL lm Z d N) (hi : i < N) : ab_zD Z i 3 v c ≤ ab_zD Z (i + 1) 3 v c := by
  rw [h.1 i hi]
  rcases ab_Ry h hi v c with z | ⟨_, _, _, _, z⟩ | ⟨_, z, _⟩
  · exact Nat.le_of_eq z.2.2.symm
  · rw [z.2.2.2]
    rcases z.1.2 with y | y <;> omega
  · exact Nat.le_of_eq z.2.2.2.1.symm
theorem ab_nrm {Z : ab_Z} {d : Nat → Nat → Nat} {N i j v c : Nat} {lm : Nat} (h : ab_RL lm Z d N) (hij : i ≤ j) (hj : j ≤ N) : ab_zD Z i 3 v c ≤ ab_zD Z j 3 v c := by
  induction j with
  | zero => rw [show i = 0 by omega]; exact Nat.le_refl _
  | succ j ih =>
    by_cases e : i = j + 1
    · rw [e]; exact Nat.le_refl _
    · exact Nat.le_trans (ih (by omega) (by omega)) (ab_nr1 h (by omega))
/-- number n of c was given out at moment t -/
def ab_bn (Z : ab_Z) (N c n t : Nat) : Prop := ∃ j, j < N ∧ ab_zn Z j = t ∧ ab_zD Z j 4 c 0 < n ∧ n ≤ ab_zD Z (j + 1) 4 c 0
/-- moments and numbers go up together -/
theorem ab_bnl {Z : ab_Z} {d : Nat → Nat → Nat} {N c n m t r : Nat} {lm : Nat} (h : ab_RL lm Z d N) (h1 : ab_bn Z N c n t) (h2 : ab_bn Z N c m r) (hnm : n ≤ m) : t ≤ r := by
  obtain ⟨i, hi, ei, a1, a2⟩ := h1
  obtain ⟨j, hj, ej, b1, b2⟩ := h2
  by_cases e : i ≤ j
  · rw [← ei, ← ej]; exact ab_nowm h e (by omega)
  · have := ab_ownm (c := c) h (show j + 1 ≤ i by omega) (by omega)
    omega
theorem ab_bnu {Z : ab_Z} {d : Nat → Nat → Nat} {N c n t r : Nat} {lm : Nat} (h : ab_RL lm Z d N) (h1 : ab_bn Z N c n t) (h2 : ab_bn Z N c n r) : t = r :=
  Nat.le_antisymm (ab_bnl h h1 h2 (Nat.le_refl _)) (ab_bnl h h2 h1 (Nat.le_refl _))
theorem ab_bnt {Z : ab_Z} {d : Nat → Nat → Nat} {N c n t : Nat} (h : ab_R Z d N) (h1 : ab_bn Z N c n t) : ab_zn Z 0 ≤ t ∧ t ≤ ab_zn Z 0 + 126 := by
  obtain ⟨i, hi, ei, _⟩ := h1
  rw [← ei]
  exact ⟨ab_nowm h (Nat.zero_le _) (by omega), h.2.2.2.2.2.2.1 i (by omega)⟩
/-- the frame that is heard, if it carries a recent number -/
theorem ab_hrd {Z : ab_Z} {d : Nat → Nat → Nat} {N i : Nat} {lm : Nat} (h : ab_RL lm Z d N) (hi : i < N) (hk : ab_zK Z i = 1) (h3 : ab_zX Z i 3 ≤ 1) (hn : ab_zD Z 0 4 (ab_zX Z i 4) 0 < ab_zX Z i 6) :
    ∃ j, j < i ∧ ab_zO Z j (ab_zX Z i) ∧ ab_zX Z i 0 + 1 = ab_zn Z i ∧ ab_zX Z i 1 = ab_zp Z i ∧ ab_zX Z i 2 = ab_zs Z i ∧ ab_zu Z (ab_zp Z i) (ab_zs Z i) := by
  obtain ⟨hu, e1, e2, ⟨⟨j, hj, ho⟩, e0⟩ | ho⟩ := h.2.2.2.2.2.1 i hi hk
  · exact ⟨j, hj, ho, e0, e1, e2, hu⟩
  · have := ho.1.1 h3
    omega
/-- THE LIGHT CONE, frames: a question or TELL with a recent number has made as many links as moments have gone by -/
def ab_fc (Z : ab_Z) (d : Nat → Nat → Nat) (N i : Nat) (w : ab_F) : Prop :=
  ab_bn Z N (w 4) (w 6) (w 0 - w 7) ∧ w 7 ≤ w 0 ∧ ab_zn Z 0 + w 7 ≤ w 0 ∧ d (w 4) (w 1) ≤ w 7 ∧ w 0 = ab_zn Z i ∧ w 6 ≤ ab_zD Z (i + 1) 4 (w 4) 0
theorem ab_fcI {Z : ab_Z} {d : Nat → Nat → Nat} {N : Nat} {lm : Nat} (h : ab_RL lm Z d N) : ∀ i, i < N → ∀ w, ab_zO Z i w → w 3 ≤ 1 → ab_zD Z 0 4 (w 4) 0 < w 6 → ab_fc Z d N i w := by
  intro i
  induction i using Nat.strongRecOn with
  | ind i ih =>
    intro hi w ho h3 hn
    obtain ⟨e0, e1, hu, y⟩ := ab_d1 ho h3
    rcases y with ⟨hk, e3, e4, e5, e6, e7, _⟩ | ⟨e4, e7, e6, es, _⟩
    · rw [e4, e6] at hn
      rw [← e3] at h3
      obtain ⟨j, hj, hoj, t0, t1, t2, tu⟩ := ab_hrd h hi hk h3 hn
      obtain ⟨b1, b2, b3, b4, b5, b6⟩ := ih j hj (by omega) _ hoj h3 hn
      have hd := h.2.2.2.1 (ab_zX Z i 4) _ _ tu
      have e0' : w 0 = ab_zn Z i := e0
      unfold ab_fc
      refine ⟨?_, by omega, by omega, ?_, e0', ?_⟩
      · rw [e4, e6, show w 0 - w 7 = ab_zX Z i 0 - ab_zX Z i 7 by omega]
        exact b1
      · rw [e4, e1]
        rw [t1] at b4
        omega
      · rw [e4, e6]
        exact Nat.le_trans b6 (ab_ownm h (by omega) (by omega))
    · have e0' : w 0 = ab_zn Z i := e0
      have em := ab_nowm h (Nat.zero_le i) (by omega)
      have hY : (ab_zY Z i).1 = ab_zD Z (i + 1) := (h.1 i hi).symm
      have es' : (ab_zY Z i).1 4 (ab_zs Z i) 0 = ab_zD Z i 4 (ab_zs Z i) 0 + 1 := es
      have e6' : w 6 = (ab_zY Z i).1 4 (ab_zs Z i) 0 := e6
      rw [hY] at es' e6'
      unfold ab_fc
      refine ⟨⟨i, hi, by omega, ?_, ?_⟩, by omega, by omega, ?_, e0', ?_⟩
      · rw [e4]; omega
      · rw [e4]; omega
      · rw [e4, e1, h.2.2.1]; omega
      · rw [e4]; omega
/-! ## learning happens; the light cone of ways -/
theorem ab_hnr {u : Nat → Nat → Prop} {ac : Nat → Nat → Nat} {s p : Nat} {x : ab_F} {D : ab_D} (h : (x 3 = 0 ∧ ¬ ab_sn s (x 4) (x 8) D) ∨ x 3 = 1) (hn : s ≠ x 4) : x 6 ≤ (ab_h u ac s p x D).1 3 s (x 4) := by
  unfold ab_h
  rcases h with ⟨h, hs⟩ | h
  · rw [ab_ip h]
    unfold ab_hA
    rw [ab_in hs]
    have : x 6 ≤ ab_hA1 s p x D 3 s (x 4) := by
      unfold ab_hA1
      exact (ab_lnr hn).2.1
    by_cases g : x 5 = s
    · rw [ab_ip g, ab_psf (by decide), ab_wf (by decide)]
      exact this
    · rw [ab_in g]
      exact this
  · rw [ab_in (by omega), ab_ip h]
    unfold ab_hT
    by_cases g : x 5 = s
    · rw [ab_ip g]
      exact (ab_lnr hn).2.1
    · rw [ab_in g, ab_psf (by decide)]
      exact (ab_lnr hn).2.1
/-- who sends on a recent number knows it -/
theorem ab_fnr {Z : ab_Z} {d : Nat → Nat → Nat} {N i : Nat} {w : ab_F} {lm : Nat} (h : ab_RL lm Z d N) (hi : i < N) (ho : ab_zO Z i w) (h3 : w 3 ≤ 1) : w 1 = w 4 ∨ w 6 ≤ ab_zD Z (i + 1) 3 (w 1) (w 4) := by
  obtain ⟨_, e1, _, y⟩ := ab_d1 ho h3
  rcases y with ⟨hk, e3, e4, e5, e6, e7, ng, y0, y1⟩ | ⟨e4, _⟩
  · by_cases e : ab_zs Z i = ab_zX Z i 4
    · exact Or.inl (by rw [e1, e4, e])
    · refine Or.inr ?_
      rw [h.1 i hi, e1, e4, e6]
      have hc : (ab_zX Z i 3 = 0 ∧ ¬ ab_sn (ab_zs Z i) (ab_zX Z i 4) (ab_zX Z i 8) (ab_zD Z i)) ∨ ab_zX Z i 3 = 1 := by
        by_cases z : ab_zX Z i 3 = 0
        · exact Or.inl ⟨z, (y0 z).2⟩
        · exact Or.inr (by omega)
      have := ab_hnr (u := ab_zu Z) (ac := ab_za Z) (s := ab_zs Z i) (p := ab_zp Z i) (x := ab_zX Z i) (D := ab_zD Z i) hc e
      unfold ab_zY
      rw [hk, ab_do1]
      exact this
  · exact Or.inl (by rw [e1, e4])
theorem ab_c8e {l : Nat} (h : l ≤ 127) : ab_c8 l = l := by
  unfold ab_c8
  rw [Nat.mod_eq_of_lt (by omega), if_pos (by omega)]
/-- a recent way -/
def ab_wc (Z : ab_Z) (d : Nat → Nat → Nat) (N i v c : Nat) : Prop :=
  ∃ t, ab_bn Z N c (ab_zD Z i 3 v c) t ∧ d c v ≤ ab_zD Z i 2 v c ∧ t + ab_zD Z i 2 v c ≤ ab_zn Z i ∧ 1 ≤ ab_zD Z i 2 v c ∧ v ≠ c ∧ ab_zD Z i 3 v c ≤ ab_zD Z i 4 c 0 ∧
    (ab_zD Z i 1 v c ≠ 8 → ab_zu Z v (ab_zD Z i 1 v c) ∧ d c (ab_zD Z i 1 v c) + 1 ≤ ab_zD Z i 2 v c ∧ (ab_zD Z i 1 v c = c ∨ ab_zD Z i 3 v c ≤ ab_zD Z i 3 (ab_zD Z i 1 v c) c))
theorem ab_wcI {Z : ab_Z} {d : Nat → Nat → Nat} {N : Nat} (h : ab_R Z d N) : ∀ i, i ≤ N → ∀ v c, ab_zD Z 0 4 c 0 < ab_zD Z i 3 v c → ab_wc Z d N i v c := by
  intro i
  induction i with
  | zero =>
    intro _ v c hn
    have := h.2.2.2.2.1 v c
    omega
  | succ i ih =>
    intro hi v c hn
    have hi' : i < N := by omega
    have hD := h.1 i hi'
    have hnm : ab_zn Z i ≤ ab_zn Z (i + 1) := ab_nowm h (Nat.le_succ i) hi
    have hom := ab_own1 (c := c) h hi'
    have keep : ∀ q, ab_zD Z i 3 q c ≤ ab_zD Z (i + 1) 3 q c := fun q => ab_nr1 h hi'
    rcases ab_Ry h hi' v c with ⟨s1, s2, s3⟩ | ⟨hk, ev, ec, hs, hl, l1, l2, l3⟩ | ⟨_, ⟨y0, y1, y2, y3, _⟩, _⟩
    · rw [← hD] at s1 s2 s3
      rw [s3] at hn
      obtain ⟨t, b1, b2, b3, b4, b5, b6, b7⟩ := ih (by omega) v c hn
      unfold ab_wc
      rw [s1, s2, s3]
      refine ⟨t, b1, b2, by omega, b4, b5, by omega, fun h8 => ?_⟩
      obtain ⟨c1, c2, c3⟩ := b7 h8
      refine ⟨c1, c2, ?_⟩
      rcases c3 with c3 | c3
      · exact Or.inl c3
      · exact Or.inr (Nat.le_trans c3 (keep _))
    · rw [← hD] at l1 l2 l3
      have h3 : ab_zX Z i 3 ≤ 1 := by
        rcases hs with ⟨z, _⟩ | z <;> omega
      rw [l3] at hn
      have hn' := hn
      rw [ec] at hn'
      obtain ⟨j, hj, hoj, t0, t1, t2, tu⟩ := ab_hrd h hi' hk h3 hn'
      obtain ⟨b1, b2, b3, b4, b5, b6⟩ := ab_fcI h j (by omega) _ hoj h3 hn'
      have hd := h.2.2.2.1 (ab_zX Z i 4) _ _ tu
      have hlim := h.2.2.2.2.2.2.1 i (by omega)
      have hlk : ab_c8 (ab_zX Z i 7 + 1) = ab_zX Z i 7 + 1 := ab_c8e (by omega)
      rw [hlk] at l2
      have eK : ab_zn Z (i + 1) = ab_zn Z i := by
        rw [ab_now1 h hi', if_neg (by omega)]
      unfold ab_wc
      rw [l1, l2, l3]
      refine ⟨ab_zX Z i 0 - ab_zX Z i 7, ?_, ?_, by omega, by omega, hl.1, ?_, fun h8 => ⟨?_, ?_, ?_⟩⟩
      · rw [ec]; exact b1
      · rw [ec, ev]; rw [t1] at b4; omega
      · rw [ec]
        exact Nat.le_trans b6 (ab_ownm h (by omega) (by omega))
      · rw [ev]; exact (h.2.1 _ _ tu).1
      · rw [ec]; rw [t1] at b4; omega
      · rcases ab_fnr h (show j < N by omega) hoj h3 with z | z
        · refine Or.inl ?_
          rw [ec, ← z, t1]
        · refine Or.inr ?_
          rw [ec, ← t1]
          exact Nat.le_trans z (ab_nrm h (by omega) (by omega))
    · rw [← hD] at y1 y2 y3
      rw [y3] at hn
      obtain ⟨t, b1, b2, b3, b4, b5, b6, b7⟩ := ih (by omega) v c hn
      unfold ab_wc
      rw [y1, y2, y3]
      exact ⟨t, b1, b2, by omega, b4, b5, by omega, fun h8 => absurd rfl h8⟩
/-! ## what was seen -/
theorem ab_sese {s f q t g r : Nat} {D : ab_D} (h : ab_sn s f q (ab_se t g r D)) : ab_sn s f q D ∨ (s = t ∧ f = g ∧ q = r) := by
  obtain ⟨i, hi, h1, h2⟩ := h
  unfold ab_se at h1 h2
  rw [ab_wf (by decide), ab_wf (by decide)] at h1
  rw [ab_wf (by decide)] at h2
  by_cases e : s = t ∧ i = D 15 t 0
  · obtain ⟨rfl, rfl⟩ := e
    rw [ab_we] at h1
    rw [ab_we] at h2
    exact Or.inr ⟨rfl, h1.symm, h2.symm⟩
  · rw [ab_wne (by omega)] at h1
    rw [ab_wne (by omega), ab_wf (by decide)] at h2
    exact Or.inl ⟨i, hi, h1, h2⟩
theorem ab_snq {s f q : Nat} {D E : ab_D} (h : ∀ s i, E 13 s i = D 13 s i ∧ E 14 s i = D 14 s i) (g : ab_sn s f q E) : ab_sn s f q D := by
  obtain ⟨i, hi, h1, h2⟩ := g
  rw [(h s i).1] at h1
  rw [(h s i).2] at h2
  exact ⟨i, hi, h1, h2⟩
theorem ab_hsn {u : Nat → Nat → Prop} {ac : Nat → Nat → Nat} {a b s f q : Nat} {x : ab_F} {D : ab_D} (h : ab_sn s f q (ab_h u ac a b x D).1) :
    ab_sn s f q D ∨ (s = a ∧ x 3 = 0 ∧ f = x 4 ∧ q = x 8 ∧ ¬ ab_sn a (x 4) (x 8) D) := by
  unfold ab_h at h
  by_cases h0 : x 3 = 0
  · rw [ab_ip h0] at h
    unfold ab_hA at h
    by_cases hs' : ab_sn a (x 4) (x 8) D
    · rw [ab_ip hs'] at h
      exact Or.inl h
    · rw [ab_in hs'] at h
      have K : ab_sn s f q (ab_hA1 a b x D) → ab_sn s f q D ∨ (s = a ∧ x 3 = 0 ∧ f = x 4 ∧ q = x 8 ∧ ¬ ab_sn a (x 4) (x 8) D) := by
        intro z
        unfold ab_hA1 at z
        rcases ab_sese (ab_snq (fun s i => ⟨ab_lno (Or.inl (by decide)), ab_lno (Or.inl (by decide))⟩) z) with y | ⟨y1, y2, y3⟩
        · exact Or.inl y
        · exact Or.inr ⟨y1, h0, y2, y3, hs'⟩
      by_cases g : x 5 = a
      · rw [ab_ip g] at h
        refine K (ab_snq (fun s i => ⟨?_, ?_⟩) h)
        · rw [ab_psf (by decide), ab_wf (by decide)]
        · rw [ab_psf (by decide), ab_wf (by decide)]
      · rw [ab_in g] at h
        exact K h
  · rw [ab_in h0] at h
    refine Or.inl ?_
    by_cases h1 : x 3 = 1
    · rw [ab_ip h1] at h
      unfold ab_hT at h
      by_cases g : x 5 = a
      · rw [ab_ip g] at h
        exact ab_snq (fun s i => ⟨ab_lno (Or.inl (by decide)), ab_lno (Or.inl (by decide))⟩) h
      · rw [ab_in g] at h
        refine ab_snq (fun s i => ⟨?_, ?_⟩) h
        · rw [ab_psf (by decide), ab_lno (Or.inl (by decide))]
        · rw [ab_psf (by decide), ab_lno (Or.inl (by decide))]
    · rw [ab_in h1] at h
      by_cases h2 : x 3 = 2
      · rw [ab_ip h2] at h
        unfold ab_hL at h
        by_cases g : a ≠ x 5 ∧ D 1 a (x 5) = b ∧ D 3 a (x 5) ≤ x 6
        · rw [ab_ip g] at h
          exact ab_snq (fun s i => ⟨by rw [ab_gv1, ab_wf (by decide)], by rw [ab_gv1, ab_wf (by decide)]⟩) h
        · rw [ab_in g] at h
          exact h
      · rw [ab_in h2] at h
        by_cases h3 : x 3 = 3
        · rw [ab_ip h3] at h
          unfold ab_hP at h
          by_cases g : x 5 = a
          · rw [ab_ip g] at h
            exact ab_snq (fun s i => ⟨ab_psf (by decide), ab_psf (by decide)⟩) h
          · rw [ab_in g] at h
            exact ab_snq (fun s i => ⟨ab_cyf (by decide), ab_cyf (by decide)⟩) h
        · rw [ab_in h3] at h
          unfold ab_hW at h
          by_cases g : x 5 = a
          · rw [ab_ip g] at h
            exact h
          · rw [ab_in g] at h
            exact ab_snq (fun s i => ⟨ab_cyf (by decide), ab_cyf (by decide)⟩) h
theorem ab_dsn {u lv : Nat → Nat → Prop} {cf ac : Nat → Nat → Nat} {k a b s f q : Nat} {x : ab_F} {D : ab_D} (h : ab_sn s f q (ab_do u lv cf ac k a b x D).1) :
    ab_sn s f q D ∨ (k = 1 ∧ s = a ∧ x 3 = 0 ∧ f = x 4 ∧ q = x 8 ∧ ¬ ab_sn a (x 4) (x 8) D) ∨ (s = f ∧ q = (ab_do u lv cf ac k a b x D).1 5 f 0) := by
  by_cases h0 : k = 0
  · subst h0
    rw [ab_do0] at h
    refine Or.inl (ab_snq (E := ab_w D 0 0 0 (D 0 0 0 + 1)) (fun s i => ⟨ab_wf (by decide), ab_wf (by decide)⟩) h)
  · by_cases h1 : k = 1
    · subst h1
      rw [ab_do1] at h
      rcases ab_hsn h with z | z
      · exact Or.inl z
      · exact Or.inr (Or.inl ⟨rfl, z⟩)
    · by_cases h2 : k = 2
      · subst h2
        rw [ab_do2] at h
        rcases ab_uc (u := u) (lv := lv) (cf := cf) (a := a) (b := b) (D := D) with ⟨z, _⟩ | ⟨hl, _, ⟨z, _, _, _, y⟩ | ⟨_, y⟩⟩
        · rw [z] at h; exact Or.inl h
        · rw [y.2] at h
          refine Or.inl (ab_snq (E := ab_w (ab_w (ab_w D 9 a b z) 7 a b 1) 8 a b (D 0 0 0)) (fun s i => ⟨?_, ?_⟩) h)
          · rw [ab_wf (by decide), ab_wf (by decide), ab_wf (by decide)]
          · rw [ab_wf (by decide), ab_wf (by decide), ab_wf (by decide)]
        · obtain ⟨_, _, y | y⟩ := ab_nwc y
          · exact Or.inl (ab_snq (fun s i => ⟨(y.2.2.2.2.1 s 0 i).1, (y.2.2.2.2.1 s 0 i).2.1⟩) h)
          · obtain ⟨E, hE, hE2⟩ := y.2.2.2.2.2.2.1
            rcases ab_sese (ab_snq (fun s i => ⟨(hE2 s i).1, (hE2 s i).2.1⟩) h) with z | ⟨z1, z2, z3⟩
            · exact Or.inl (ab_snq (fun s i => ⟨(hE s i).1, (hE s i).2.1⟩) z)
            · refine Or.inr (Or.inr ⟨by rw [z1, z2], ?_⟩)
              rw [ab_do2, z2, z3, y.2.2.1 a, if_pos rfl]
      · rw [ab_do3 (by omega)] at h
        exact Or.inl h
/-- the hearing at which a station saw a fresh question first -/
def ab_fst (Z : ab_Z) (j v c q : Nat) : Prop := ab_zK Z j = 1 ∧ ab_zs Z j = v ∧ ab_zX Z j 3 = 0 ∧ ab_zX Z j 4 = c ∧ ab_zX Z j 8 = q ∧ ¬ ab_sn v c q (ab_zD Z j)
theorem ab_snI {Z : ab_Z} {d : Nat → Nat → Nat} {N : Nat} {lm : Nat} (h : ab_RL lm Z d N) : ∀ i, i ≤ N → ∀ v c q, ab_zD Z 0 5 c 0 < q → v ≠ c → ab_sn v c q (ab_zD Z i) → ∃ j, j < i ∧ ab_fst Z j v c q := by
  intro i
  induction i with
  | zero =>
    intro _ v c q hq hv hs
    have := h.2.2.2.2.2.2.2.2 v c q hs
    omega
  | succ i ih =>
    intro hi v c q hq hv hs
    rw [h.1 i (by omega)] at hs
    rcases ab_dsn hs with z | ⟨e1, e2, e3, e4, e5, e6⟩ | z
    · obtain ⟨j, hj, y⟩ := ih (by omega) v c q hq hv z
      exact ⟨j, by omega, y⟩
    · refine ⟨i, by omega, e1, e2.symm, e3, e4.symm, e5.symm, ?_⟩
      rw [e2, e4, e5]
      exact e6
    · exact absurd z.1 hv
/-- an ASK that is heard was sent on by ever new stations, back to the asking -/
theorem ab_chain {Z : ab_Z} {d : Nat → Nat → Nat} {N i : Nat} {lm : Nat} (h : ab_RL lm Z d N) (hi : i < N) (hk : ab_zK Z i = 1) (h3 : ab_zX Z i 3 = 0) : ∀ k, ab_zn Z 0 + k + 1 ≤ ab_zn Z i →
    (∃ j, j < i ∧ ab_zs Z j = ab_zX Z i 4 ∧ ab_asks (ab_zK Z j) (ab_zs Z j) (ab_zp Z j) (ab_zD Z j) (ab_zD Z (j + 1)) ∧ ab_zD Z (j + 1) 5 (ab_zX Z i 4) 0 = ab_zX Z i 8 ∧ ab_zn Z i ≤ ab_zn Z j + k) ∨
    (∃ g : Nat → Nat, ∀ t, t < k → g t < i ∧ ab_fst Z (g t) (ab_zs Z (g t)) (ab_zX Z i 4) (ab_zX Z i 8) ∧ ab_zn Z (g t) + t + 1 = ab_zn Z i ∧ ab_zs Z (g t) < 8) := by
  have step : ∀ m, m < N → ab_zK Z m = 1 → ab_zX Z m 3 = 0 → ab_zn Z 0 + 2 ≤ ab_zn Z m → (∃ j, j < m ∧ ab_zs Z j = ab_zX Z m 4 ∧ ab_asks (ab_zK Z j) (ab_zs Z j) (ab_zp Z j) (ab_zD Z j) (ab_zD Z (j + 1)) ∧ ab_zD Z (j + 1) 5 (ab_zX Z m 4) 0 = ab_zX Z m 8 ∧ ab_zn Z m = ab_zn Z j + 1) ∨
      (∃ j, j < m ∧ ab_fst Z j (ab_zs Z j) (ab_zX Z m 4) (ab_zX Z m 8) ∧ ab_zn Z j + 1 = ab_zn Z m ∧ ab_zs Z j < 8) := by
    intro m hm k1 x3 ht
    obtain ⟨hu, e1, e2, ⟨⟨j, hj, ho⟩, e0⟩ | ho⟩ := h.2.2.2.2.2.1 m hm k1
    · obtain ⟨f0, f1, fu, y⟩ := ab_d1 ho (by omega)
      have f0' : ab_zX Z m 0 = ab_zn Z j := f0
      have hD := h.1 j (by omega)
      rcases y with ⟨hk', e3, e4, e5, e6, e7, eg, y0, y1⟩ | ⟨e4, e7, e6, es, y⟩
      · have x3' : ab_zX Z j 3 = 0 := by omega
        refine Or.inr ⟨j, hj, ⟨hk', rfl, x3', e4.symm, (y0 x3').1.symm, ?_⟩, by omega, (h.2.1 _ _ fu).2.1⟩
        rw [e4, (y0 x3').1]
        exact (y0 x3').2
      · rcases y with ⟨_, _, _, w3, _⟩ | ⟨_, as, _, w5, w8⟩
        · omega
        · refine Or.inl ⟨j, hj, e4.symm, ?_, ?_, by omega⟩
          · rw [hD]; exact as
          · rw [e4, hD]; exact w8.symm
    · omega
  intro k
  induction k with
  | zero => intro _; exact Or.inr ⟨fun _ => 0, fun t ht => absurd ht (by omega)⟩
  | succ k ih =>
    intro ht
    rcases ih (by omega) with ⟨j, a1, a2, a3, a4, a5⟩ | ⟨g, hg⟩
    · exact Or.inl ⟨j, a1, a2, a3, a4, by omega⟩
    · by_cases e : k = 0
      · subst e
        rcases step i hi hk h3 (by omega) with ⟨j, a1, a2, a3, a4, a5⟩ | ⟨j, a1, a2, a3, a4⟩
        · exact Or.inl ⟨j, a1, a2, a3, a4, by omega⟩
        · refine Or.inr ⟨fun _ => j, fun t ht => ⟨a1, a2, ?_, a4⟩⟩
          have : t = 0 := by omega
          show ab_zn Z j + t + 1 = ab_zn Z i
          omega
      · obtain ⟨b1, ⟨c1, c2, c3, c4, c5, c6⟩, b3, b4⟩ := hg (k - 1) (by omega)
        rcases step (g (k - 1)) (by omega) c1 c3 (by omega) with ⟨j, a1, a2, a3, a4, a5⟩ | ⟨j, a1, a2, a3, a4⟩
        · rw [c4] at a2 a4
          rw [c5] at a4
          exact Or.inl ⟨j, by omega, a2, a3, a4, by omega⟩
        · rw [c4, c5] at a2
          refine Or.inr ⟨fun t => if t = k then j else g t, fun t ht => ?_⟩
          show (if t = k then j else g t) < i ∧ ab_fst Z (if t = k then j else g t) (ab_zs Z (if t = k then j else g t)) (ab_zX Z i 4) (ab_zX Z i 8) ∧ ab_zn Z (if t = k then j else g t) + t + 1 = ab_zn Z i ∧ ab_zs Z (if t = k then j else g t) < 8
          by_cases et : t = k
          · rw [if_pos et]
            exact ⟨by omega, a2, by omega, a4⟩
          · rw [if_neg et]
            exact hg t (by omega)
theorem ab_inj : ∀ n m (f : Nat → Nat), (∀ i, i < m → f i < n) → (∀ i j, i < m → j < m → f i = f j → i = j) → m ≤ n := by
  intro n
  induction n with
  | zero =>
    intro m f h1 _
    by_cases h : 0 < m
    · have := h1 0 h
      omega
    · omega
  | succ n ih =>
    intro m f h1 h2
    by_cases h : ∃ i, i < m ∧ f i = n
    · obtain ⟨i, hi, e⟩ := h
      have := ih (m - 1) (fun j => if j = i then f (m - 1) else f j) ?_ ?_
      · omega
      · intro j hj
        show (if j = i then f (m - 1) else f j) < n
        split
        · rename_i ej
          have := h1 (m - 1) (by omega)
          have : f (m - 1) ≠ n := fun z => by
            have := h2 (m - 1) i (by omega) hi (by rw [z, e])
            omega
          omega
        · rename_i ej
          have := h1 j (by omega)
          have : f j ≠ n := fun z => ej (h2 j i (by omega) hi (by rw [z, e]))
          omega
      · intro j k hj hk
        show (if j = i then f (m - 1) else f j) = (if k = i then f (m - 1) else f k) → j = k
        intro z
        by_cases ej : j = i
        · by_cases ek : k = i
          · rw [ej, ek]
          · rw [if_pos ej, if_neg ek] at z
            have := h2 _ _ (by omega) (by omega) z
            omega
        · by_cases ek : k = i
          · rw [if_neg ej, if_pos ek] at z
            have := h2 _ _ (by omega) (by omega) z
            omega
          · rw [if_neg ej, if_neg ek] at z
            exact h2 _ _ (by omega) (by omega) z
    · refine Nat.le_trans (ih m f (fun i hi => ?_) h2) (Nat.le_succ n)
      have := h1 i hi
      have : f i ≠ n := fun z => h ⟨i, hi, z⟩
      omega
/-! ## births; who sends a question on -/
theorem ab_d5 {u lv : Nat → Nat → Prop} {cf ac : Nat → Nat → Nat} {k a b c : Nat} {x : ab_F} {D : ab_D} : D 5 c 0 ≤ (ab_do u lv cf ac k a b x D).1 5 c 0 := by
  by_cases h0 : k = 0
  · subst h0
    rw [ab_do0]
    show _ ≤ ab_w D 0 0 0 (D 0 0 0 + 1) 5 c 0
    rw [ab_wf (by decide)]
    exact Nat.le_refl _
  · by_cases h1 : k = 1
    · subst h1
      rw [ab_do1]
      rcases ab_hf (u := u) (ac := ac) (s := a) (p := b) (x := x) (D := D) (f := 5) (i := c) (j := 0) (by decide) with z | z
      · exact Nat.le_of_eq z.symm
      · exact absurd z.1 (by decide)
    · by_cases h2 : k = 2
      · subst h2
        rw [ab_do2]
        rcases ab_uc (u := u) (lv := lv) (cf := cf) (a := a) (b := b) (D := D) with ⟨z, _⟩ | ⟨hl, _, ⟨z, _, _, _, y⟩ | ⟨_, y⟩⟩
        · rw [z]; exact Nat.le_refl _
        · rw [y.2]
          show _ ≤ ab_w (ab_w (ab_w D 9 a b z) 7 a b 1) 8 a b (D 0 0 0) 5 c 0
          rw [ab_wf (by decide), ab_wf (by decide), ab_wf (by decide)]
          exact Nat.le_refl _
        · obtain ⟨_, _, y | y⟩ := ab_nwc y
          · exact Nat.le_of_eq (y.2.2.1 c).symm
          · rw [y.2.2.1 c]
            split
            · rename_i e; rw [e]; omega
            · exact Nat.le_refl _
      · rw [ab_do3 (by omega)]; exact Nat.le_refl _
theorem ab_qm {Z : ab_Z} {d : Nat → Nat → Nat} {N i j c : Nat} {lm : Nat} (h : ab_RL lm Z d N) (hij : i ≤ j) (hj : j ≤ N) : ab_zD Z i 5 c 0 ≤ ab_zD Z j 5 c 0 := by
  induction j with
  | zero => rw [show i = 0 by omega]; exact Nat.le_refl _
  | succ j ih =>
    by_cases e : i = j + 1
    · rw [e]; exact Nat.le_refl _
    · refine Nat.le_trans (ih (by omega) (by omega)) ?_
      rw [h.1 j (by omega)]
      exact ab_d5
def ab_bth (Z : ab_Z) (j : Nat) (w : ab_F) : Prop := ab_zs Z j = w 4 ∧ ab_zn Z j + w 7 = w 0 ∧ ab_zD Z j 4 (w 4) 0 + 1 = w 6 ∧ ab_zD Z (j + 1) 4 (w 4) 0 = w 6 ∧
   ((w 3 = 0 ∧ ab_zl Z (w 4) (w 5) ∧ ab_zp Z j = w 5 ∧ ab_asks (ab_zK Z j) (w 4) (w 5) (ab_zD Z j) (ab_zD Z (j + 1)) ∧ ab_zD Z (j + 1) 5 (w 4) 0 = w 8) ∨
    (w 3 = 1 ∧ ab_zK Z j = 1 ∧ ab_zX Z j 3 = 0 ∧ ab_zX Z j 5 = w 4 ∧ ab_zX Z j 4 = w 5 ∧ ¬ ab_sn (w 4) (w 5) (ab_zX Z j 8) (ab_zD Z j)))
/-- a recent frame: its number, or its question, is from this run -/
def ab_rc (Z : ab_Z) (w : ab_F) : Prop := w 3 ≤ 1 ∧ (ab_zD Z 0 4 (w 4) 0 < w 6 ∨ (w 3 = 0 ∧ ab_zD Z 0 5 (w 4) 0 < w 8))
theorem ab_hrc {Z : ab_Z} {d : Nat → Nat → Nat} {N i : Nat} {lm : Nat} (h : ab_RL lm Z d N) (hi : i < N) (hk : ab_zK Z i = 1) (hr : ab_rc Z (ab_zX Z i)) :
    ∃ j, j < i ∧ ab_zO Z j (ab_zX Z i) ∧ ab_zX Z i 0 + 1 = ab_zn Z i ∧ ab_zX Z i 1 = ab_zp Z i ∧ ab_zX Z i 2 = ab_zs Z i ∧ ab_zu Z (ab_zp Z i) (ab_zs Z i) := by
  obtain ⟨hu, e1, e2, ⟨⟨j, hj, ho⟩, e0⟩ | ho⟩ := h.2.2.2.2.2.1 i hi hk
  · exact ⟨j, hj, ho, e0, e1, e2, hu⟩
  · have h1 := ho.1.1 hr.1
    have h2 := ho.1.2.2
    rcases hr.2 with z | ⟨z0, z⟩
    · omega
    · have := h2 z0
      omega
theorem ab_fbI {Z : ab_Z} {d : Nat → Nat → Nat} {N : Nat} {lm : Nat} (h : ab_RL lm Z d N) : ∀ i, i < N → ∀ w, ab_zO Z i w → ab_rc Z w → ∃ j, j ≤ i ∧ ab_bth Z j w := by
  intro i
  induction i using Nat.strongRecOn with
  | ind i ih =>
    intro hi w ho hr
    obtain ⟨e0, e1, hu, y⟩ := ab_d1 ho hr.1
    have e0' : w 0 = ab_zn Z i := e0
    rcases y with ⟨hk, e3, e4, e5, e6, e7, eg, y0, y1⟩ | ⟨e4, e7, e6, es, y⟩
    · have hx : ab_rc Z (ab_zX Z i) := by
        unfold ab_rc at hr ⊢
        rw [e3, ← e4, ← e6]
        refine ⟨hr.1, ?_⟩
        rcases hr.2 with z | ⟨z, z'⟩
        · exact Or.inl z
        · refine Or.inr ⟨z, ?_⟩
          rw [← (y0 (by rw [e3]; exact z)).1]
          exact z'
      obtain ⟨j, hj, hoj, t0, t1, t2, tu⟩ := ab_hrc h hi hk hx
      obtain ⟨m, hm, b1, b2, b3, b4, b5⟩ := ih j hj (by omega) _ hoj hx
      refine ⟨m, by omega, ?_⟩
      unfold ab_bth
      rw [← e3, e4, e5, e6]
      refine ⟨b1, by omega, b3, b4, ?_⟩
      rcases b5 with ⟨z0, z1, z2, z3, z4⟩ | z
      · rw [(y0 z0).1]
        exact Or.inl ⟨z0, z1, z2, z3, z4⟩
      · exact Or.inr z
    · have hY : (ab_zY Z i).1 = ab_zD Z (i + 1) := (h.1 i hi).symm
      have es' : (ab_zY Z i).1 4 (ab_zs Z i) 0 = ab_zD Z i 4 (ab_zs Z i) 0 + 1 := es
      have e6' : w 6 = (ab_zY Z i).1 4 (ab_zs Z i) 0 := e6
      rw [hY] at es' e6'
      refine ⟨i, Nat.le_refl _, e4.symm, by omega, ?_, ?_, ?_⟩
      · rw [e4]; omega
      · rw [e4]; omega
      · rcases y with ⟨k1, x3, x5, w3, w5, sn, _⟩ | ⟨lv, as, w3, w5, w8⟩
        · refine Or.inr ⟨w3, k1, x3, by rw [e4]; exact x5, by rw [w5], ?_⟩
          rw [e4, w5]
          exact sn
        · refine Or.inl ⟨w3, by rw [e4, w5]; exact lv, w5.symm, ?_, ?_⟩
          · rw [e4, w5, ← hY]; exact as
          · rw [e4, w8, ← hY]; rfl
/-- an ASK that is heard late was asked for at most 9 moments ago -/
theorem ab_life {Z : ab_Z} {d : Nat → Nat → Nat} {N i : Nat} {lm : Nat} (h : ab_RL lm Z d N) (hi : i < N) (hk : ab_zK Z i = 1) (h3 : ab_zX Z i 3 = 0) (ht : ab_zn Z 0 + 10 ≤ ab_zn Z i) :
    ∃ j, j < i ∧ ab_zs Z j = ab_zX Z i 4 ∧ ab_asks (ab_zK Z j) (ab_zs Z j) (ab_zp Z j) (ab_zD Z j) (ab_zD Z (j + 1)) ∧ ab_zD Z (j + 1) 5 (ab_zX Z i 4) 0 = ab_zX Z i 8 ∧ ab_zn Z i ≤ ab_zn Z j + 9 := by
  rcases ab_chain h hi hk h3 9 (by omega) with z | ⟨g, hg⟩
  · exact z
  · exfalso
    have := ab_inj 8 9 (fun t => ab_zs Z (g t)) (fun t ht => (hg t ht).2.2.2) ?_
    · omega
    · intro a b ha hb e
      have K : ∀ a b, a < b → b < 9 → ab_zs Z (g a) = ab_zs Z (g b) → False := by
        intro a b hab hb e
        obtain ⟨a1, ⟨c1, c2, c3, c4, c5, c6⟩, a3, a4⟩ := hg a (by omega)
        obtain ⟨b1, ⟨d1, d2, d3, d4, d5, d6⟩, b3, b4⟩ := hg b hb
        have hlt : g b < g a := by
          by_cases y : g b < g a
          · exact y
          · have := ab_nowm h (show g a ≤ g b by omega) (by omega)
            omega
        have := h.2.2.2.2.2.2.2.1 (g b) (g a) hlt (by omega) c1 c3 d1 e.symm d3 (by rw [d4, c4]) (by rw [d5, c5]) (by omega)
        rw [c4, c5] at this
        exact c6 this
      rcases Nat.lt_trichotomy a b with z | z | z
      · exact absurd (K a b z hb e) (fun z => z)
      · exact z
      · exact absurd (K b a z ha e.symm) (fun z => z)
/-- a fresh question is heard for the first time once only -/
theorem ab_fsu {Z : ab_Z} {d : Nat → Nat → Nat} {N i j v c q : Nat} {lm : Nat} (h : ab_RL lm Z d N) (hq : ab_zD Z 0 5 c 0 < q) (hi : i < N) (hj : j < N) (h1 : ab_fst Z i v c q) (h2 : ab_fst Z j v c q) : i = j := by
  have K : ∀ i j, i < j → j < N → ab_fst Z i v c q → ab_fst Z j v c q → False := by
    intro i j hij hj ⟨a1, a2, a3, a4, a5, _⟩ ⟨b1, b2, b3, b4, b5, b6⟩
    have hnm := ab_nowm h (Nat.zero_le i) (by omega)
    have hlt : ab_zn Z j ≤ ab_zn Z i + 20 := by
      by_cases e : ab_zn Z 0 + 10 ≤ ab_zn Z j
      · obtain ⟨r, r1, r2, r3, r4, r5⟩ := ab_life h hj b1 b3 e
        rw [b4] at r2 r4
        rw [b5] at r4
        have hr : ab_rc Z (ab_zX Z i) := ⟨by omega, Or.inr ⟨a3, by rw [a4, a5]; exact hq⟩⟩
        obtain ⟨m, hm, hom, t0, t1, t2, tu⟩ := ab_hrc h (by omega) a1 hr
        obtain ⟨b, hb, c1, c2, c3, c4, c5⟩ := ab_fbI h m (by omega) _ hom hr
        rcases c5 with ⟨_, _, z2, z3, z4⟩ | z
        · rw [a4] at c1 c3 c4 z3 z4
          rw [a5] at z4
          have e : b = r := by
            rw [r2] at r3
            rcases Nat.lt_trichotomy b r with z | z | z
            · have := ab_qm (c := c) h (show b + 1 ≤ r by omega) (by omega)
              have := r3.2.2.2.2.2.1
              omega
            · exact z
            · have := ab_qm (c := c) h (show r + 1 ≤ b by omega) (by omega)
              have := z3.2.2.2.2.2.1
              omega
          subst e
          have := ab_nowm h (show b ≤ i by omega) (by omega)
          omega
        · omega
      · omega
    have := h.2.2.2.2.2.2.2.1 i j hij hj b1 b3 a1 (by rw [a2, b2]) a3 (by rw [a4, b4]) (by rw [a5, b5]) hlt
    rw [b2, b4, b5] at this
    exact b6 this
  rcases Nat.lt_trichotomy i j with z | z | z
  · exact absurd (K i j z hj h1 h2) (fun z => z)
  · exact z
  · exact absurd (K j i z hi h2 h1) (fun z => z)
/-- births of one number are one -/
theorem ab_bone {Z : ab_Z} {d : Nat → Nat → Nat} {N i j c n : Nat} {lm : Nat} (h : ab_RL lm Z d N) (hi : i < N) (hj : j < N) (a1 : ab_zD Z i 4 c 0 + 1 = n) (a2 : ab_zD Z (i + 1) 4 c 0 = n)
    (b1 : ab_zD Z j 4 c 0 + 1 = n) (b2 : ab_zD Z (j + 1) 4 c 0 = n) : i = j := by
  rcases Nat.lt_trichotomy i j with z | z | z
  · have := ab_ownm (c := c) h (show i + 1 ≤ j by omega) (by omega)
    omega
  · exact z
  · have := ab_ownm (c := c) h (show j + 1 ≤ i by omega) (by omega)
    omega
/-- where a recent way comes from -/
def ab_src (Z : ab_Z) (i v c j : Nat) : Prop := ab_zK Z j = 1 ∧ ab_zs Z j = v ∧ (ab_zX Z j 3 = 0 ∧ ¬ ab_sn v c (ab_zX Z j 8) (ab_zD Z j) ∨ ab_zX Z j 3 = 1) ∧ ab_zX Z j 4 = c ∧ ab_zX Z j 6 = ab_zD Z i 3 v c ∧
  ab_zX Z j 7 + 1 = ab_zD Z i 2 v c ∧ (ab_zD Z i 1 v c = 8 ∨ ab_zD Z i 1 v c = ab_zp Z j) ∧ v ≠ c
theorem ab_srcI {Z : ab_Z} {d : Nat → Nat → Nat} {N : Nat} (h : ab_R Z d N) : ∀ i, i ≤ N → ∀ v c, ab_zD Z 0 4 c 0 < ab_zD Z i 3 v c → ∃ j, j < i ∧ ab_src Z i v c j := by
  intro i
  induction i with
  | zero =>
    intro _ v c hn
    have := h.2.2.2.2.1 v c
    omega
  | succ i ih =>
    intro hi v c hn
    have hi' : i < N := by omega
    have hD := h.1 i hi'
    rcases ab_Ry h hi' v c with ⟨s1, s2, s3⟩ | ⟨hk, ev, ec, hs, hl, l1, l2, l3⟩ | ⟨_, ⟨y0, y1, y2, y3, _⟩, _⟩
    · rw [← hD] at s1 s2 s3
      rw [s3] at hn
      obtain ⟨j, hj, b⟩ := ih (by omega) v c hn
      refine ⟨j, by omega, ?_⟩
      unfold ab_src at b ⊢
      rw [s1, s2, s3]
      exact b
    · rw [← hD] at l1 l2 l3
      have h3 : ab_zX Z i 3 ≤ 1 := by
        rcases hs with ⟨z, _⟩ | z <;> omega
      rw [l3] at hn
      have hn' := hn
      rw [ec] at hn'
      obtain ⟨j, hj, hoj, t0, t1, t2, tu⟩ := ab_hrd h hi' hk h3 hn'
      obtain ⟨b1, b2, b3, b4, b5, b6⟩ := ab_fcI h j (by omega) _ hoj h3 hn'
      have hlim := h.2.2.2.2.2.2.1 i (by omega)
      have hlk : ab_c8 (ab_zX Z i 7 + 1) = ab_zX Z i 7 + 1 := ab_c8e (by omega)
      rw [hlk] at l2
      refine ⟨i, by omega, hk, ev.symm, ?_, ec.symm, l3.symm, l2.symm, Or.inr l1, hl.1⟩
      rw [ev, ec]
      exact hs
    · rw [← hD] at y1 y2 y3
      rw [y3] at hn
      obtain ⟨j, hj, b⟩ := ih (by omega) v c hn
      refine ⟨j, by omega, ?_⟩
      unfold ab_src at b ⊢
      rw [y1, y2, y3]
      exact ⟨b.1, b.2.1, b.2.2.1, b.2.2.2.1, b.2.2.2.2.1, b.2.2.2.2.2.1, Or.inl rfl, b.2.2.2.2.2.2.2⟩
/-- a question is sent on to all neighbours -/
theorem ab_fwd {u : Nat → Nat → Prop} {ac : Nat → Nat → Nat} {a b r : Nat} {x : ab_F} {D : ab_D} (h3 : x 3 = 0) (hs : ¬ ab_sn a (x 4) (x 8) D) (h5 : x 5 ≠ a) (hr : r < 8) (hu : u a r) :
    (ab_h u ac a b x D).2 (ab_pt (D 0 0 0) a r (ab_fr 0 (x 4) (x 5) (x 6) (x 7 + 1) (x 8))) := by
  unfold ab_h
  rw [ab_ip h3]
  unfold ab_hA
  rw [ab_in hs, ab_in h5]
  refine ⟨r, hr, hu, ?_⟩
  rw [ab_hA1n (by decide)]
theorem ab_askout {u lv : Nat → Nat → Prop} {cf ac : Nat → Nat → Nat} {k a b r : Nat} {x : ab_F} {D : ab_D} (h : ab_asks k a b D (ab_do u lv cf ac k a b x D).1) (hr : r < 8) (hu : u a r) :
    (ab_do u lv cf ac k a b x D).2 (ab_pt (D 0 0 0) a r (ab_fr 0 a b ((ab_do u lv cf ac k a b x D).1 4 a 0) 0 ((ab_do u lv cf ac k a b x D).1 5 a 0))) := by
  obtain ⟨h2, _, _, _, _, e5, e4⟩ := h
  subst h2
  rw [e5, e4]
  rw [ab_do2] at e5 e4 ⊢
  rcases ab_uc (u := u) (lv := lv) (cf := cf) (a := a) (b := b) (D := D) with ⟨z, _⟩ | ⟨hl, _, ⟨z, _, _, _, y⟩ | ⟨_, y⟩⟩
  · rw [z] at e4
    have e4' : D 4 a 0 = D 4 a 0 + 1 := e4
    omega
  · rw [y.2] at e4
    have e4' : ab_w (ab_w (ab_w D 9 a b z) 7 a b 1) 8 a b (D 0 0 0) 4 a 0 = D 4 a 0 + 1 := e4
    rw [ab_wf (by decide), ab_wf (by decide), ab_wf (by decide)] at e4'
    omega
  · obtain ⟨_, _, y | y⟩ := ab_nwc y
    · have := y.2.1 a
      omega
    · exact y.2.2.2.2.2.1 r hr hu
/-! ## what makes a run live -/
/-- every frame is heard a moment later; in every moment every live pair is urged, behind the hearing -/
def ab_L (Z : ab_Z) (N : Nat) : Prop :=
  (∀ j w, j < N → ab_zO Z j w → w 0 + 2 ≤ ab_zn Z N → ∃ k, j < k ∧ k < N ∧ ab_zK Z k = 1 ∧ ab_zX Z k = w ∧ ab_zn Z k = w 0 + 1 ∧ ab_zs Z k = w 2 ∧ ab_zp Z k = w 1) ∧
  (∀ t a b, ab_zn Z 0 < t → t < ab_zn Z N → ab_zl Z a b → ∃ k, k < N ∧ ab_zn Z k = t ∧ ab_zK Z k = 2 ∧ ab_zs Z k = a ∧ ab_zp Z k = b ∧ ∀ j, j < N → ab_zn Z j = t → ab_zK Z j = 1 → j < k) ∧
  (∀ i j, i < N → j < N → ab_zK Z i = 2 → ab_zK Z j = 2 → ab_zn Z i = ab_zn Z j → ab_zs Z i = ab_zs Z j → ab_zp Z i = ab_zp Z j → i = j)
/-- a walk of k links from c to v that leaves h out but for its end -/
def ab_gd (u : Nat → Nat → Prop) (h c : Nat) : Nat → Nat → Prop
  | 0, v => v = c
  | k + 1, v => ∃ p, ab_gd u h c k p ∧ p ≠ h ∧ u p v
/-- THE FLOOD -/
theorem ab_flood {Z : ab_Z} {d : Nat → Nat → Nat} {N j c g : Nat} {lm : Nat} (h : ab_RL lm Z d N) (hL : ab_L Z N) (hj : j < N) (es : ab_zs Z j = c) (ep : ab_zp Z j = g) (ha : ab_asks (ab_zK Z j) c g (ab_zD Z j) (ab_zD Z (j + 1))) :
    ∀ k v, ab_gd (ab_zu Z) g c k v → v ≠ c → ab_zn Z j + k + 1 ≤ ab_zn Z N → ∃ i, j < i ∧ i < N ∧ ab_fst Z i v c (ab_zD Z (j + 1) 5 c 0) ∧ ab_zn Z i ≤ ab_zn Z j + k ∧ ab_zX Z i 5 = g ∧ ab_zX Z i 6 = ab_zD Z (j + 1) 4 c 0 := by
  have hq : ab_zD Z 0 5 c 0 < ab_zD Z (j + 1) 5 c 0 := by
    have := ab_qm (c := c) h (Nat.zero_le j) (by omega)
    have := ha.2.2.2.2.2.1
    omega
  have key : ∀ i, i < N → ∀ v, ab_fst Z i v c (ab_zD Z (j + 1) 5 c 0) → j < i ∧ ab_zX Z i 5 = g ∧ ab_zX Z i 6 = ab_zD Z (j + 1) 4 c 0 := by
    intro i hi v ⟨f1, f2, f3, f4, f5, f6⟩
    have hr : ab_rc Z (ab_zX Z i) := ⟨by omega, Or.inr ⟨f3, by rw [f4, f5]; exact hq⟩⟩
    obtain ⟨m, hm, hom, t0, t1, t2, tu⟩ := ab_hrc h hi f1 hr
    obtain ⟨b, hb, b1, b2, b3, b4, b5⟩ := ab_fbI h m (by omega) _ hom hr
    rcases b5 with ⟨_, _, z2, z3, z4⟩ | z
    · rw [f4] at b1 b3 b4 z3 z4
      rw [f5] at z4
      have e : b = j := by
        rcases Nat.lt_trichotomy b j with z | z | z
        · have := ab_qm (c := c) h (show b + 1 ≤ j by omega) (by omega)
          have := ha.2.2.2.2.2.1
          omega
        · exact z
        · have := ab_qm (c := c) h (show j + 1 ≤ b by omega) (by omega)
          have := z3.2.2.2.2.2.1
          omega
      subst e
      refine ⟨by omega, ?_, ?_⟩
      · rw [← z2, ep]
      · rw [← b4]
    · omega
  intro k
  induction k with
  | zero => intro v hv hn; exact absurd hv hn
  | succ k ih =>
    intro v hv hn ht
    obtain ⟨p, hp, hpg, hu⟩ := hv
    have hu8 := h.2.1 _ _ hu
    have step : ∀ i w, i < N → ab_zO Z i w → w 0 ≤ ab_zn Z j + k → w 2 = v → w 3 = 0 → w 4 = c → w 8 = ab_zD Z (j + 1) 5 c 0 →
        ∃ i, j < i ∧ i < N ∧ ab_fst Z i v c (ab_zD Z (j + 1) 5 c 0) ∧ ab_zn Z i ≤ ab_zn Z j + (k + 1) ∧ ab_zX Z i 5 = g ∧ ab_zX Z i 6 = ab_zD Z (j + 1) 4 c 0 := by
      intro i w hi hw w0 w2 w3 w4 w8
      obtain ⟨m, hm, hmN, k1, kx, kn, ks, kp⟩ := hL.1 i w hi hw (by omega)
      have : ∃ i, i < N ∧ ab_fst Z i v c (ab_zD Z (j + 1) 5 c 0) ∧ ab_zn Z i ≤ ab_zn Z j + (k + 1) := by
        by_cases sn : ab_sn v c (ab_zD Z (j + 1) 5 c 0) (ab_zD Z m)
        · obtain ⟨r, hr, hf⟩ := ab_snI h m (by omega) v c _ hq hn sn
          have := ab_nowm h (show r ≤ m by omega) (by omega)
          exact ⟨r, by omega, hf, by omega⟩
        · exact ⟨m, hmN, ⟨k1, by rw [ks, w2], by rw [kx, w3], by rw [kx, w4], by rw [kx, w8], sn⟩, by omega⟩
      obtain ⟨i, hi, hf, hn⟩ := this
      have := key i hi v hf
      exact ⟨i, this.1, hi, hf, hn, this.2⟩
    by_cases e : p = c
    · subst e
      have ho : ab_zO Z j (ab_pt (ab_zD Z j 0 0 0) p v (ab_fr 0 p g (ab_zD Z (j + 1) 4 p 0) 0 (ab_zD Z (j + 1) 5 p 0))) := by
        have hY : ab_zD Z (j + 1) = (ab_zY Z j).1 := h.1 j hj
        rw [hY] at ha ⊢
        unfold ab_zO
        unfold ab_zY at ha ⊢
        rw [es, ep] at ha ⊢
        exact ab_askout ha hu8.2.2.1 hu
      exact step j _ hj ho (by show ab_zn Z j ≤ _; omega) rfl rfl rfl rfl
    · obtain ⟨i, hji, hi, hf, hni, x5, x6⟩ := ih p hp e (by omega)
      obtain ⟨f1, f2, f3, f4, f5, f6⟩ := hf
      have ho : ab_zO Z i (ab_pt (ab_zD Z i 0 0 0) p v (ab_fr 0 (ab_zX Z i 4) (ab_zX Z i 5) (ab_zX Z i 6) (ab_zX Z i 7 + 1) (ab_zX Z i 8))) := by
        unfold ab_zO ab_zY
        rw [f1, ab_do1, f2]
        refine ab_fwd f3 ?_ ?_ hu8.2.2.1 hu
        · rw [f4, f5]; exact f6
        · rw [x5]; exact fun z => hpg z.symm
      exact step i _ hi ho (by show ab_zn Z i ≤ _; omega) rfl rfl f4 f5
