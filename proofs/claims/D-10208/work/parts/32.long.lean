/-! ## long runs: numbers known are numbers given out -/
theorem ab_oldm {Z : ab_Z} {d : Nat → Nat → Nat} {N i : Nat} {lm : Nat} {x : ab_F} (h : ab_RL lm Z d N) (hi : i ≤ N) (ho : ab_old Z x) : (x 3 ≤ 1 → x 6 ≤ ab_zD Z i 4 (x 4) 0) ∧ (x 3 = 2 → x 6 ≤ ab_zD Z i 4 (x 5) 0) ∧ (x 3 = 0 → x 8 ≤ ab_zD Z i 5 (x 4) 0) :=
  ⟨fun z => Nat.le_trans (ho.1 z) (ab_ownm h (Nat.zero_le _) hi), fun z => Nat.le_trans (ho.2.1 z) (ab_ownm h (Nat.zero_le _) hi), fun z => Nat.le_trans (ho.2.2 z) (ab_qm h (Nat.zero_le _) hi)⟩
theorem ab_san {Z : ab_Z} {d : Nat → Nat → Nat} {N : Nat} {lm : Nat} (h : ab_RL lm Z d N) : ∀ i, i ≤ N → (∀ v c, ab_zD Z i 3 v c ≤ ab_zD Z i 4 c 0) ∧ (∀ s f q, ab_sn s f q (ab_zD Z i) → q ≤ ab_zD Z i 5 f 0) ∧
    ∀ j, j < i → ∀ x, ab_zO Z j x → (x 3 ≤ 1 → x 6 ≤ ab_zD Z i 4 (x 4) 0) ∧ (x 3 = 2 → x 6 ≤ ab_zD Z i 4 (x 5) 0) ∧ (x 3 = 0 → x 8 ≤ ab_zD Z i 5 (x 4) 0) := by
  intro i
  induction i with
  | zero => intro _; exact ⟨h.2.2.2.2.1, h.2.2.2.2.2.2.2.2, fun j hj => absurd hj (by omega)⟩
  | succ i ih =>
    intro hi
    obtain ⟨i1, i2, i3⟩ := ih (by omega)
    have hi' : i < N := by omega
    have hD := h.1 i hi'
    have m4 : ∀ c, ab_zD Z i 4 c 0 ≤ ab_zD Z (i + 1) 4 c 0 := fun c => ab_ownm h (by omega) (by omega)
    have m5 : ∀ c, ab_zD Z i 5 c 0 ≤ ab_zD Z (i + 1) 5 c 0 := fun c => ab_qm h (by omega) (by omega)
    have hx : ab_zK Z i = 1 → (ab_zX Z i 3 ≤ 1 → ab_zX Z i 6 ≤ ab_zD Z i 4 (ab_zX Z i 4) 0) ∧ (ab_zX Z i 3 = 0 → ab_zX Z i 8 ≤ ab_zD Z i 5 (ab_zX Z i 4) 0) := by
      intro hk
      obtain ⟨_, _, _, ⟨⟨j, hj, ho⟩, _⟩ | ho⟩ := h.2.2.2.2.2.1 i hi' hk
      · exact ⟨(i3 j hj _ ho).1, (i3 j hj _ ho).2.2⟩
      · have := ab_oldm h (show i ≤ N by omega) ho.1
        exact ⟨this.1, this.2.2⟩
    have j1 : ∀ v c, ab_zD Z (i + 1) 3 v c ≤ ab_zD Z (i + 1) 4 c 0 := by
      intro v c
      rcases ab_Ry h hi' v c with ⟨_, _, s3⟩ | ⟨hk, ev, ec, hs, hl, l1, l2, l3⟩ | ⟨_, ⟨_, _, _, y3, _⟩, _⟩
      · rw [← hD] at s3
        rw [s3]
        exact Nat.le_trans (i1 v c) (m4 c)
      · rw [← hD] at l3
        rw [l3, ec]
        refine Nat.le_trans ((hx hk).1 ?_) (m4 _)
        rcases hs with ⟨z, _⟩ | z <;> omega
      · rw [← hD] at y3
        rw [y3]
        exact Nat.le_trans (i1 v c) (m4 c)
    refine ⟨j1, ?_, ?_⟩
    · intro s f q hs
      rw [hD] at hs
      rcases ab_dsn hs with z | ⟨e1, e2, e3, e4, e5, e6⟩ | ⟨_, z⟩
      · exact Nat.le_trans (i2 s f q z) (m5 f)
      · rw [e4, e5]
        exact Nat.le_trans ((hx e1).2 e3) (m5 _)
      · rw [hD]
        exact Nat.le_of_eq z
    · intro j hj x ho
      by_cases e : j = i
      · subst e
        refine ⟨fun h3 => ?_, fun h3 => ?_, fun h3 => ?_⟩
        · obtain ⟨_, _, _, y⟩ := ab_d1 ho h3
          rcases y with ⟨hk, e3, e4, e5, e6, _⟩ | ⟨e4, _, e6, _⟩
          · rw [e4, e6]
            exact Nat.le_trans ((hx hk).1 (by omega)) (m4 _)
          · rw [e4, e6, hD]
            exact Nat.le_refl _
        · obtain ⟨e1, _, _, e6⟩ := ab_d2 ho h3
          rw [e6]
          have := j1 (ab_zs Z j) (x 5)
          rw [hD] at this ⊢
          exact this
        · obtain ⟨_, _, _, y⟩ := ab_d1 ho (by omega)
          rcases y with ⟨hk, e3, e4, e5, e6, _, _, y0, _⟩ | ⟨e4, _, e6, _, y⟩
          · rw [e4, (y0 (by omega)).1]
            exact Nat.le_trans ((hx hk).2 (by omega)) (m5 _)
          · rcases y with ⟨_, _, _, w3, _⟩ | ⟨_, _, _, _, w8⟩
            · omega
            · rw [e4, w8, hD]
              exact Nat.le_refl _
      · have := i3 j (by omega) x ho
        exact ⟨fun z => Nat.le_trans (this.1 z) (m4 _), fun z => Nat.le_trans (this.2.1 z) (m4 _), fun z => Nat.le_trans (this.2.2 z) (m5 _)⟩
/-! ## windows -/
def ab_sh (Z : ab_Z) (k : Nat) : ab_Z := (ab_zu Z, ab_zl Z, ab_zc Z, ab_za Z, fun i => ab_zD Z (k + i), fun i => ab_zK Z (k + i), fun i => ab_zs Z (k + i), fun i => ab_zp Z (k + i), fun i => ab_zX Z (k + i))
theorem ab_wR {Z : ab_Z} {d : Nat → Nat → Nat} {N k n lm : Nat} (h : ab_RL lm Z d N) (hk : k + n ≤ N) (hn : ∀ i, i ≤ n → ab_zn Z (k + i) ≤ ab_zn Z k + 126) : ab_R (ab_sh Z k) d n := by
  obtain ⟨s1, s2, s3⟩ := ab_san h k (by omega)
  refine ⟨fun i hi => h.1 (k + i) (by omega), h.2.1, h.2.2.1, h.2.2.2.1, s1, ?_, hn, ?_, s2⟩
  · intro i hi k1
    obtain ⟨a1, a2, a3, a4⟩ := h.2.2.2.2.2.1 (k + i) (by omega) k1
    refine ⟨a1, a2, a3, ?_⟩
    rcases a4 with ⟨⟨j, hj, ho⟩, e0⟩ | ⟨ho, e0⟩
    · by_cases e : k ≤ j
      · refine Or.inl ⟨⟨j - k, by omega, ?_⟩, e0⟩
        have ej : k + (j - k) = j := by omega
        show ab_zO Z (k + (j - k)) (ab_zX Z (k + i))
        rw [ej]
        exact ho
      · refine Or.inr ⟨s3 j (by omega) _ ho, ?_⟩
        have hX : ab_zX Z (k + i) 0 = ab_zn Z j := by
          have := ho
          by_cases c1 : ab_zX Z (k + i) 3 ≤ 1
          · exact (ab_d1 ho c1).1
          · by_cases c2 : ab_zX Z (k + i) 3 = 2
            · exact (ab_d2 ho c2).2.1
            · -- a piece or an answer
              have K : ∀ w, ab_zO Z j w → 3 ≤ w 3 → w 0 = ab_zn Z j := by
                intro w hw w3
                unfold ab_zO ab_zY at hw
                by_cases h0 : ab_zK Z j = 0
                · rw [h0, ab_do0] at hw
                  exact absurd hw (fun z => z)
                · by_cases h1 : ab_zK Z j = 1
                  · rw [h1, ab_do1] at hw
                    obtain ⟨_, y⟩ := ab_hho hw
                    rcases y with ⟨_, _, _, e⟩ | ⟨_, _, _, e, _⟩ | ⟨_, _, e, _⟩ | ⟨_, _, _, e, _⟩ | ⟨_, _, e, _⟩ | ⟨c, r, e, _⟩ <;> (rw [e]; rfl)
                  · by_cases h2 : ab_zK Z j = 2
                    · rw [h2, ab_do2] at hw
                      rcases ab_uc (u := ab_zu Z) (lv := ab_zl Z) (cf := ab_zc Z) (a := ab_zs Z j) (b := ab_zp Z j) (D := ab_zD Z j) with ⟨z, _⟩ | ⟨hl, _, ⟨z, _, _, _, y⟩ | ⟨_, y⟩⟩
                      · rw [z] at hw
                        exact absurd hw (fun z => z)
                      · rw [y.2] at hw
                        have e : w = ab_pt (ab_w (ab_w (ab_w (ab_zD Z j) 9 (ab_zs Z j) (ab_zp Z j) z) 7 (ab_zs Z j) (ab_zp Z j) 1) 8 (ab_zs Z j) (ab_zp Z j) (ab_zD Z j 0 0 0) 0 0 0) (ab_zs Z j) (ab_zD Z j 1 (ab_zs Z j) (ab_zp Z j)) (ab_fr 3 (ab_zs Z j) (ab_zp Z j) (ab_zc Z (ab_zs Z j) (ab_zp Z j)) 0 8) := hw
                        rw [ab_wf (by decide), ab_wf (by decide), ab_wf (by decide)] at e
                        rw [e]; rfl
                      · obtain ⟨_, _, y | y⟩ := ab_nwc y
                        · obtain ⟨r, _, e⟩ := y.2.2.2.2.2 w hw
                          rw [e]; rfl
                        · rcases y.2.2.2.2.2.2.2 w hw with ⟨r, _, _, e⟩ | ⟨r, _, e⟩ <;> (rw [e]; rfl)
                    · have hlt : 3 ≤ ab_zK Z j := by omega
                      rw [ab_do3 hlt] at hw
                      exact absurd hw (fun z => z)
              exact K _ ho (by omega)
        have := ab_nowm h (show j ≤ k by omega) (by omega)
        show ab_zn Z (k + i) ≤ ab_zn Z k + 1
        omega
    · have q := ab_oldm h (show k ≤ N by omega) ho
      refine Or.inr ⟨q, ?_⟩
      have := ab_nowm h (Nat.zero_le k) (by omega)
      show ab_zn Z (k + i) ≤ ab_zn Z k + 1
      omega
  · intro i j hij hj
    exact h.2.2.2.2.2.2.2.1 (k + i) (k + j) (by omega) (by omega)
theorem ab_wL {Z : ab_Z} {d : Nat → Nat → Nat} {N k n lm : Nat} (h : ab_RL lm Z d N) (hL : ab_L Z N) (hk : k + n ≤ N) : ab_L (ab_sh Z k) n := by
  have lt : ∀ a b, a ≤ N → b ≤ N → ab_zn Z a < ab_zn Z b → a < b := by
    intro a b ha hb e
    by_cases c : a < b
    · exact c
    · have := ab_nowm h (show b ≤ a by omega) ha
      omega
  have n0 := ab_nowm h (Nat.zero_le k) (by omega)
  have nN := ab_nowm h hk (Nat.le_refl _)
  refine ⟨?_, ?_, ?_⟩
  · intro j w hj ho ht
    have ht' : w 0 + 2 ≤ ab_zn Z (k + n) := ht
    obtain ⟨m, m1, m2, m3, m4, m5, m6, m7⟩ := hL.1 (k + j) w (by omega) ho (by omega)
    have := lt m (k + n) (by omega) (by omega) (by omega)
    have em : k + (m - k) = m := by omega
    refine ⟨m - k, by omega, by omega, ?_, ?_, ?_, ?_, ?_⟩
    · show ab_zK Z (k + (m - k)) = 1; rw [em]; exact m3
    · show ab_zX Z (k + (m - k)) = w; rw [em]; exact m4
    · show ab_zn Z (k + (m - k)) = _; rw [em]; exact m5
    · show ab_zs Z (k + (m - k)) = _; rw [em]; exact m6
    · show ab_zp Z (k + (m - k)) = _; rw [em]; exact m7
  · intro t a b h1 h2 hl
    have h1' : ab_zn Z k < t := h1
    have h2' : t < ab_zn Z (k + n) := h2
    obtain ⟨m, m1, m2, m3, m4, m5, m6⟩ := hL.2.1 t a b (by omega) (by omega) hl
    have a1 := lt m (k + n) (by omega) (by omega) (by omega)
    have a2 := lt k m (by omega) (by omega) (by omega)
    have em : k + (m - k) = m := by omega
    refine ⟨m - k, by omega, ?_, ?_, ?_, ?_, fun j hj hn k1 => ?_⟩
    · show ab_zn Z (k + (m - k)) = _; rw [em]; exact m2
    · show ab_zK Z (k + (m - k)) = 2; rw [em]; exact m3
    · show ab_zs Z (k + (m - k)) = _; rw [em]; exact m4
    · show ab_zp Z (k + (m - k)) = _; rw [em]; exact m5
    · have := m6 (k + j) (by omega) hn k1
      omega
  · intro i j hi hj a1 a2 a3 a4 a5
    have := hL.2.2 (k + i) (k + j) (by omega) (by omega) a1 a2 a3 a4 a5
    omega
/-- a window that begins with a tick -/
theorem ab_wt0 {Z : ab_Z} {d : Nat → Nat → Nat} {N k n lm : Nat} (h : ab_RL lm Z d N) (hL : ab_L Z N) (h0 : ab_t0 Z N) (hk : k + n ≤ N) (hK : ab_zK Z k = 0) (hkN : k < N) : ab_t0 (ab_sh Z k) n := by
  refine ⟨fun a b => ⟨?_, ?_⟩, ?_⟩
  · show ab_zD Z k 6 a b ≤ ab_zn Z k + 24
    have n0 := ab_nowm h (Nat.zero_le k) (by omega)
    rcases ab_la (a := a) (b := b) h k (by omega) with z | ⟨j, hj, _, z⟩
    · have := (h0.1 a b).1
      omega
    · have := ab_nowm h (show j ≤ k by omega) (by omega)
      omega
  · exact ab_TI h hL h0 k (by omega)
  · intro i hi k2
    have k2' : ab_zK Z (k + i) = 2 := k2
    show ab_zn Z k < ab_zn Z (k + i)
    have e : i ≠ 0 := fun e => by
      rw [e] at k2'
      have : ab_zK Z k = 2 := k2'
      omega
    have h1 := ab_now1 h hkN
    rw [if_pos hK] at h1
    have := ab_nowm h (show k + 1 ≤ k + i by omega) (by omega)
    omega
/-- every moment ends with a tick -/
theorem ab_tick {Z : ab_Z} {d : Nat → Nat → Nat} {N t lm : Nat} (h : ab_RL lm Z d N) (h0 : ab_zn Z 0 ≤ t) : ∀ n, n ≤ N → t < ab_zn Z n → ∃ k, k < n ∧ ab_zK Z k = 0 ∧ ab_zn Z k = t := by
  intro n
  induction n with
  | zero => intro _ h1; omega
  | succ n ih =>
    intro hn ht
    by_cases e : t < ab_zn Z n
    · obtain ⟨k, k1, k2⟩ := ih (by omega) e
      exact ⟨k, by omega, k2⟩
    · have := ab_now1 h (show n < N by omega)
      by_cases c : ab_zK Z n = 0
      · rw [if_pos c] at this
        exact ⟨n, by omega, c, by omega⟩
      · rw [if_neg c] at this
        omega
/-! ## a live pair asks again and again -/
theorem ab_keep {Z : ab_Z} {d : Nat → Nat → Nat} {N x y lm : Nat} (h : ab_RL lm Z d N) (i : Nat) : ∀ j, i ≤ j → j ≤ N → (∀ m, i ≤ m → m < j → ¬ (ab_zK Z m = 2 ∧ ab_zs Z m = x ∧ ab_zp Z m = y)) → ab_tsm (ab_zD Z i) (ab_zD Z j) x y := by
  intro j
  induction j with
  | zero => intro h1 _ _; rw [show i = 0 by omega]; exact ⟨rfl, rfl, rfl, rfl⟩
  | succ j ih =>
    intro h1 h2 h3
    by_cases e : i = j + 1
    · rw [e]; exact ⟨rfl, rfl, rfl, rfl⟩
    · have z := ih (by omega) (by omega) (fun m a b => h3 m a (by omega))
      have hD := h.1 j (by omega)
      rcases ab_dt (u := ab_zu Z) (lv := ab_zl Z) (cf := ab_zc Z) (ac := ab_za Z) (k := ab_zK Z j) (a := ab_zs Z j) (b := ab_zp Z j) (i := x) (j := y) (x := ab_zX Z j) (D := ab_zD Z j) with w | ⟨k2, e1, e2, _⟩
      · rw [hD]
        exact ⟨w.1.trans z.1, w.2.1.trans z.2.1, w.2.2.1.trans z.2.2.1, w.2.2.2.trans z.2.2.2⟩
      · exact absurd ⟨k2, e1.symm, e2.symm⟩ (h3 j (by omega) (by omega))
/-- from the end of one moment to the end of the next -/
theorem ab_mst {Z : ab_Z} {d : Nat → Nat → Nat} {N x y i j t lm : Nat} (h : ab_RL lm Z d N) (hL : ab_L Z N) (h0 : ab_t0 Z N) (hl : ab_zl Z x y) (hi : i < N) (hj : j < N) (ki : ab_zK Z i = 0) (kj : ab_zK Z j = 0) (ni : ab_zn Z i = t) (nj : ab_zn Z j = t + 1) :
    (∃ a, a < N ∧ ab_ask Z a x y ∧ ab_zn Z a = t + 1) ∨ ab_zD Z j 6 x y = ab_zD Z i 6 x y ∧
      ((ab_zD Z i 7 x y = 0 ∧ ab_zD Z j 7 x y = 0 ∧ t + 1 < ab_zD Z i 6 x y) ∨ (ab_zD Z i 7 x y = 0 ∧ ab_zD Z j 7 x y ≠ 0 ∧ ab_zD Z j 9 x y = 0 ∧ ab_zD Z j 8 x y = t + 1) ∨
       (ab_zD Z i 7 x y ≠ 0 ∧ t + 1 < ab_zD Z i 8 x y + 26 ∧ ab_zD Z j 7 x y ≠ 0 ∧ ab_zD Z j 9 x y = ab_zD Z i 9 x y ∧ ab_zD Z j 8 x y = ab_zD Z i 8 x y) ∨
       (ab_zD Z i 7 x y ≠ 0 ∧ ab_zD Z i 8 x y + 26 ≤ t + 1 ∧ ab_zD Z i 9 x y = 0 ∧ ab_zD Z j 7 x y ≠ 0 ∧ ab_zD Z j 9 x y = 1 ∧ ab_zD Z j 8 x y = t + 1)) := by
  have hij : i < j := by
    by_cases e : i < j
    · exact e
    · have := ab_nowm h (show j ≤ i by omega) (by omega)
      omega
  have ni1 : ab_zn Z (i + 1) = t + 1 := by rw [ab_now1 h hi, if_pos ki, ni]
  have nj1 : ab_zn Z (j + 1) = t + 2 := by rw [ab_now1 h hj, if_pos kj, nj]
  have n0 := ab_nowm h (Nat.zero_le i) (by omega)
  have nN := ab_nowm h (show j + 1 ≤ N by omega) (Nat.le_refl _)
  obtain ⟨k, hk, kn, k2, ks, kp, _⟩ := hL.2.1 (t + 1) x y (by omega) (by omega) hl
  have hik : i < k := by
    by_cases e : i < k
    · exact e
    · have := ab_nowm h (show k ≤ i by omega) (by omega)
      omega
  have hkj : k < j := by
    by_cases e : k < j
    · exact e
    · by_cases e2 : k = j
      · rw [e2] at k2; omega
      · have := ab_nowm h (show j + 1 ≤ k by omega) (by omega)
        omega
  have uniq : ∀ m, i ≤ m → m < j → ab_zK Z m = 2 ∧ ab_zs Z m = x ∧ ab_zp Z m = y → m = k := by
    intro m m1 m2 ⟨a1, a2, a3⟩
    have e : i ≠ m := fun e => by rw [e] at ki; omega
    have b1 := ab_nowm h (show i + 1 ≤ m by omega) (by omega)
    have b2 := ab_nowm h (show m ≤ j by omega) (by omega)
    exact hL.2.2 m k (by omega) hk a1 k2 (by omega) (by rw [a2, ks]) (by rw [a3, kp])
  have K1 := ab_keep (x := x) (y := y) h i k (by omega) (by omega) (fun m m1 m2 z => by have := uniq m m1 (by omega) z; omega)
  have K2 := ab_keep (x := x) (y := y) h (k + 1) j (by omega) (by omega) (fun m m1 m2 z => by have := uniq m (by omega) m2 z; omega)
  have hD := h.1 k hk
  have TI := ab_TI (a := x) (b := y) h hL h0 k (by omega)
  have kn' : ab_zD Z k 0 0 0 = t + 1 := kn
  obtain ⟨q6, q7, q8, q9⟩ := K1
  obtain ⟨r6, r7, r8, r9⟩ := K2
  have hu := ab_uc (u := ab_zu Z) (lv := ab_zl Z) (cf := ab_zc Z) (a := x) (b := y) (D := ab_zD Z k)
  have hY : ab_zD Z (k + 1) = (ab_u (ab_zu Z) (ab_zl Z) (ab_zc Z) x y (ab_zD Z k)).1 := by
    rw [hD]
    unfold ab_zY
    rw [k2, ab_do2, ks, kp]
  rcases hu with ⟨z, zc⟩ | ⟨_, hc, ⟨z, z2, z0, z1, yp⟩ | ⟨_, yn⟩⟩
  · rw [z] at hY
    have hY' : ab_zD Z (k + 1) = ab_zD Z k := hY
    rw [hY'] at r6 r7 r8 r9
    by_cases e7 : ab_zD Z i 7 x y = 0
    · exact absurd ⟨hl, Or.inl (by rw [q7]; exact e7)⟩ zc
    · by_cases e8 : ab_zD Z i 8 x y + 26 ≤ t + 1
      · exact absurd ⟨hl, Or.inr (by rw [q8, kn']; exact e8)⟩ zc
      · refine Or.inr ⟨by omega, Or.inr (Or.inr (Or.inl ⟨e7, by omega, ?_, by omega, by omega⟩))⟩
        rw [r7, q7]
        exact e7
  · rw [yp.2] at hY
    have f : ∀ g, ab_zD Z (k + 1) g x y = ab_w (ab_w (ab_w (ab_zD Z k) 9 x y z) 7 x y 1) 8 x y (ab_zD Z k 0 0 0) g x y := fun g => by rw [hY]; rfl
    have f6 := f 6
    rw [ab_wf (by decide), ab_wf (by decide), ab_wf (by decide)] at f6
    have f7 := f 7
    rw [ab_wf (by decide), ab_we] at f7
    have f8 := f 8
    rw [ab_we, kn'] at f8
    have f9 := f 9
    rw [ab_wf (by decide), ab_wf (by decide), ab_we] at f9
    by_cases e7 : ab_zD Z k 7 x y = 0
    · have := z0 e7
      exact Or.inr ⟨by omega, Or.inr (Or.inl ⟨by omega, by omega, by omega, by omega⟩)⟩
    · have := z1 e7
      rcases hc with y | y
      · exact absurd y e7
      · refine Or.inr ⟨by omega, Or.inr (Or.inr (Or.inr ⟨by rw [← q7]; exact e7, by omega, by omega, by omega, by omega, by omega⟩))⟩
  · obtain ⟨n1, n7, n | n⟩ := ab_nwc yn
    · rw [← hY] at n1 n7
      have n6 : ab_zD Z (k + 1) 6 x y = ab_zD Z k 6 x y := by rw [hY]; exact n.2.2.2.1 x y
      have hn := n.1
      have e7 : ab_zD Z k 7 x y = 0 := by
        by_cases e : ab_zD Z k 7 x y = 0
        · exact e
        · exfalso
          have := TI e
          rcases hc with y | y
          · exact e y
          · omega
      exact Or.inr ⟨by omega, Or.inl ⟨by omega, by omega, by omega⟩⟩
    · refine Or.inl ⟨k, hk, ⟨ks, kp, hl, ?_⟩, kn⟩
      rw [hY]
      refine ⟨k2, n1, n7, n.1, n.2.2.2.1, ?_, ?_⟩
      · rw [n.2.2.1 x, if_pos rfl]
      · rw [n.2.1 x, if_pos rfl]
theorem ab_askx {Z : ab_Z} {d : Nat → Nat → Nat} {N x y t lm : Nat} (h : ab_RL lm Z d N) (hL : ab_L Z N) (h0 : ab_t0 Z N) (hl : ab_zl Z x y) (ht : ab_zn Z 0 ≤ t) (hN : t + 79 ≤ ab_zn Z N) : ∃ a, a < N ∧ ab_ask Z a x y ∧ t < ab_zn Z a ∧ ab_zn Z a ≤ t + 77 := by
  have main : ∀ n, n ≤ 77 → (∃ a, a < N ∧ ab_ask Z a x y ∧ t < ab_zn Z a ∧ ab_zn Z a ≤ t + 77) ∨ ∃ i, i < N ∧ ab_zK Z i = 0 ∧ ab_zn Z i = t + n ∧ ab_zD Z i 6 x y ≤ t + 24 ∧
      ((ab_zD Z i 7 x y = 0 ∧ (n = 0 ∨ t + n < ab_zD Z i 6 x y)) ∨ (ab_zD Z i 7 x y ≠ 0 ∧ ab_zD Z i 9 x y = 0 ∧ ab_zD Z i 8 x y ≤ t + 24 ∧ (n = 0 ∨ t + n < ab_zD Z i 8 x y + 26)) ∨
       (ab_zD Z i 7 x y ≠ 0 ∧ 1 ≤ ab_zD Z i 9 x y ∧ ab_zD Z i 8 x y ≤ t + 50 ∧ (n = 0 ∨ t + n < ab_zD Z i 8 x y + 26))) := by
    intro n
    induction n with
    | zero =>
      intro _
      obtain ⟨i, i1, i2, i3⟩ := ab_tick h ht N (Nat.le_refl _) (show t < ab_zn Z N by omega)
      have h6 : ab_zD Z i 6 x y ≤ t + 24 := by
        rcases ab_la (a := x) (b := y) h i (by omega) with z | ⟨j, hj, _, z⟩
        · have := (h0.1 x y).1
          omega
        · have := ab_nowm h (show j ≤ i by omega) (by omega)
          omega
      refine Or.inr ⟨i, i1, i2, by omega, h6, ?_⟩
      by_cases e7 : ab_zD Z i 7 x y = 0
      · exact Or.inl ⟨e7, Or.inl rfl⟩
      · have := ab_TI (a := x) (b := y) h hL h0 i (by omega) e7
        by_cases e9 : ab_zD Z i 9 x y = 0
        · exact Or.inr (Or.inl ⟨e7, e9, by omega, Or.inl rfl⟩)
        · exact Or.inr (Or.inr ⟨e7, by omega, by omega, Or.inl rfl⟩)
    | succ n ih =>
      intro hn
      rcases ih (by omega) with z | ⟨i, i1, i2, i3, i6, z⟩
      · exact Or.inl z
      · obtain ⟨j, j1, j2, j3⟩ := ab_tick h (show ab_zn Z 0 ≤ t + n + 1 by omega) N (Nat.le_refl _) (show t + n + 1 < ab_zn Z N by omega)
        rcases ab_mst (x := x) (y := y) h hL h0 hl i1 j1 i2 j2 i3 j3 with ⟨a, a1, a2, a3⟩ | ⟨e6, e⟩
        · exact Or.inl ⟨a, a1, a2, by omega, by omega⟩
        · have TIi := ab_TI (a := x) (b := y) h hL h0 i (by omega)
          refine Or.inr ⟨j, j1, j2, by omega, by omega, ?_⟩
          rcases e with ⟨e1, e2, e3⟩ | ⟨e1, e2, e3, e4⟩ | ⟨e1, e2, e3, e4, e5⟩ | ⟨e1, e2, e3, e4, e5, e7⟩
          · exact Or.inl ⟨e2, Or.inr (by omega)⟩
          · refine Or.inr (Or.inl ⟨e2, e3, ?_, Or.inr (by omega)⟩)
            rcases z with ⟨_, z⟩ | ⟨z, _⟩ | ⟨z, _⟩
            · omega
            · exact absurd e1 z
            · exact absurd e1 z
          · rcases z with ⟨z, _⟩ | ⟨_, z9, z8, _⟩ | ⟨_, z9, z8, _⟩
            · exact absurd z e1
            · exact Or.inr (Or.inl ⟨e3, by omega, by omega, Or.inr (by omega)⟩)
            · exact Or.inr (Or.inr ⟨e3, by omega, by omega, Or.inr (by omega)⟩)
          · rcases z with ⟨z, _⟩ | ⟨_, z9, z8, zz⟩ | ⟨_, z9, z8, _⟩
            · exact absurd z e1
            · exact Or.inr (Or.inr ⟨e4, by omega, by omega, Or.inr (by omega)⟩)
            · omega
  rcases main 77 (by omega) with z | ⟨i, _, _, _, z6, z⟩
  · exact z
  · omega
/-! ## the NB world makes progress -/
theorem ab_NBI {Z : ab_Z} {d : Nat → Nat → Nat} (hG : ab_G (ab_zu Z) d) (hl : ∀ a b, ab_zl Z a b → a ≠ b ∧ a < 8 ∧ b < 8) (hc : ∀ z g c, ab_zl Z z g → ab_zl Z z c → g ≠ c → 4 ≤ d z g ∨ d z c ≤ d z g + 1 ∨ 6 ≤ d z c) : ab_NB Z d := by
  intro z g c p l hg hcl hgc hpc hgeo h7 hw
  by_cases e : ab_gd (ab_zu Z) g z (d z p) p
  · exact e
  · exfalso
    have z8 := hl _ _ hg
    have c8 := hl _ _ hcl
    have p8 : p < 8 := by
      cases l with
      | zero => rw [show p = z from hw]; exact z8.2.1
      | succ l => obtain ⟨q, _, _, hu⟩ := hw; exact (hG.2.2.2.2.2.1 _ _ hu).2.2.1
    have hcnt := ab_cnt (r := c) (L := d z c) hG z8.2.2 (fun q _ => by
      rcases hG.2.2.2.2.2.2 z q with y | y
      · exact Or.inl y
      · refine Or.inr (fun k hk => ?_)
        have := ab_gd7 hG _ _ _ _ hk
        omega) p8 (by omega) c8.2.2 rfl h7 hw e z8.2.1
    have hp0 : 0 < d c p := by
      rcases Nat.eq_zero_or_pos (d c p) with y | y
      · exact absurd (hG.2.2.2.1 c p y).symm hpc
      · exact y
    rcases hc z g c hg hcl hgc with y | y | y <;> omega
/-! ## in a long run of the NB world TELLs die young -/
theorem ab_shD {Z : ab_Z} {k m : Nat} (h : k ≤ m) : ab_zD (ab_sh Z k) (m - k) = ab_zD Z m := by
  show ab_zD Z (k + (m - k)) = _
  rw [show k + (m - k) = m by omega]
theorem ab_shD1 {Z : ab_Z} {k m : Nat} (h : k ≤ m) : ab_zD (ab_sh Z k) (m - k + 1) = ab_zD Z (m + 1) := by
  show ab_zD Z (k + (m - k + 1)) = _
  rw [show k + (m - k + 1) = m + 1 by omega]
theorem ab_shK {Z : ab_Z} {k m : Nat} (h : k ≤ m) : ab_zK (ab_sh Z k) (m - k) = ab_zK Z m := by
  show ab_zK Z (k + (m - k)) = _
  rw [show k + (m - k) = m by omega]
theorem ab_shs {Z : ab_Z} {k m : Nat} (h : k ≤ m) : ab_zs (ab_sh Z k) (m - k) = ab_zs Z m := by
  show ab_zs Z (k + (m - k)) = _
  rw [show k + (m - k) = m by omega]
theorem ab_shp {Z : ab_Z} {k m : Nat} (h : k ≤ m) : ab_zp (ab_sh Z k) (m - k) = ab_zp Z m := by
  show ab_zp Z (k + (m - k)) = _
  rw [show k + (m - k) = m by omega]
theorem ab_shX {Z : ab_Z} {k m : Nat} (h : k ≤ m) : ab_zX (ab_sh Z k) (m - k) = ab_zX Z m := by
  show ab_zX Z (k + (m - k)) = _
  rw [show k + (m - k) = m by omega]
theorem ab_shO {Z : ab_Z} {k m : Nat} {w : ab_F} (h : k ≤ m) (ho : ab_zO Z m w) : ab_zO (ab_sh Z k) (m - k) w := by
  show ab_zO Z (k + (m - k)) w
  rw [show k + (m - k) = m by omega]
  exact ho
theorem ab_sha {Z : ab_Z} {k m x y : Nat} (h : k ≤ m) (ha : ab_ask Z m x y) : ab_ask (ab_sh Z k) (m - k) x y := by
  unfold ab_ask
  rw [ab_shs h, ab_shp h, ab_shK h, ab_shD h, ab_shD1 h]
  exact ha
/-- a window of a long run, up to index e -/
theorem ab_win {Z : ab_Z} {d : Nat → Nat → Nat} {N k e lm h1 k1 s g : Nat} (h : ab_RL lm Z d N) (hL : ab_L Z N) (hG : ab_G (ab_zu Z) d) (hk : ab_hk Z h1 k1 s g) (hNB : ab_NB Z d) (hke : k ≤ e) (he : e ≤ N) (ht : ab_zn Z e ≤ ab_zn Z k + 126) : ab_W (ab_sh Z k) d (e - k) := by
  have hR : ab_R (ab_sh Z k) d (e - k) := by
    refine ab_wR h (by omega) (fun i hi => ?_)
    have := ab_nowm h (show k + i ≤ e by omega) he
    omega
  have hL' : ab_L (ab_sh Z k) (e - k) := ab_wL h hL (by omega)
  have hq := ab_q20I hR
  exact ⟨hR, hL', hG, fun a b z => (hk.1 a b z).2, hq, fun c z j i tj => ab_nb (h := h1) (k := k1) (s := s) (g := g) hR hL' hG hk hq hNB tj⟩
theorem ab_y7 {Z : ab_Z} {d : Nat → Nat → Nat} {N lm h1 k1 s g : Nat} (h : ab_RL lm Z d N) (hL : ab_L Z N) (hG : ab_G (ab_zu Z) d) (hk : ab_hk Z h1 k1 s g) (hNB : ab_NB Z d) : ∀ i, i < N → ∀ w b, ab_zO Z i w → w 3 = 1 → b ≤ i → ab_bth Z b w → ab_zn Z 0 + 59 ≤ ab_zn Z b → w 7 ≤ 6 := by
  intro i
  induction i using Nat.strongRecOn with
  | ind i ih =>
    intro hi w b ho h3 hbi hb ht
    have hl : ∀ a b, ab_zl Z a b → a ≠ b := fun a b z => (hk.1 a b z).2.1
    have h0 := ab_ownm (c := w 4) h (Nat.zero_le b) (by omega)
    have hrc : ab_rc Z w := ⟨by omega, Or.inl (by have := hb.2.2.1; omega)⟩
    obtain ⟨e0, e1, hu, y⟩ := ab_d1 ho (by omega)
    have e0' : w 0 = ab_zn Z i := e0
    rcases y with ⟨hk', e3, e4, e5, e6, e7, eg, y0, y1⟩ | ⟨e4, e7, e6, es, y⟩
    · have hx3 : ab_zX Z i 3 = 1 := by omega
      have hx : ab_rc Z (ab_zX Z i) := ab_rcx hrc h3 e3 e4 e6
      obtain ⟨m, hm, hom, t0, t1, t2, tu⟩ := ab_hrc h hi hk' hx
      obtain ⟨b', hbm, hbb⟩ := ab_fbI h m (by omega) _ hom hx
      have ebb : b' = b := by
        refine ab_bone (n := w 6) (c := w 4) h (by omega) (by omega) ?_ ?_ hb.2.2.1 hb.2.2.2.1
        · rw [e4, e6]; exact hbb.2.2.1
        · rw [e4, e6]; exact hbb.2.2.2.1
      subst ebb
      have := ih m hm (by omega) _ b' hom hx3 hbm hbb ht
      by_cases e8 : w 7 ≤ 6
      · exact e8
      · exfalso
        have hb2 := hb.2.1
        obtain ⟨k, kk, kK, kn⟩ := ab_tick h (show ab_zn Z 0 ≤ ab_zn Z b' - 58 by omega) b' (by omega) (show ab_zn Z b' - 58 < ab_zn Z b' by omega)
        have hn1 : ab_zn Z (i + 1) ≤ ab_zn Z i + 1 := by
          rw [ab_now1 h hi]
          split <;> omega
        have hWn := ab_win h hL hG hk hNB (show k ≤ i + 1 by omega) (show i + 1 ≤ N by omega) (by omega)
        obtain ⟨hR, hL', _, _, hq, hc⟩ := hWn
        have hlen : i - k < i + 1 - k := by omega
        have hkb := ab_ownm (c := w 4) h (show k ≤ b' by omega) (by omega)
        have hb6 := hb.2.2.1
        have hrc' : ab_rc (ab_sh Z k) w := ⟨by omega, Or.inl (by
          show ab_zD Z (k + 0) 4 (w 4) 0 < w 6
          rw [show k + 0 = k by omega]
          omega)⟩
        have hbth' : ab_bth (ab_sh Z k) (b' - k) w := by
          have q := hb
          unfold ab_bth at q ⊢
          have hkb' : k ≤ b' := by omega
          have en : ab_zn (ab_sh Z k) (b' - k) = ab_zn Z b' := by
            show ab_zD (ab_sh Z k) (b' - k) 0 0 0 = _
            rw [ab_shD hkb']
          rw [ab_shs hkb', ab_shp hkb', ab_shK hkb', ab_shD hkb', ab_shD1 hkb', ab_shX hkb', en]
          exact q
        have hnb : ab_zn (ab_sh Z k) (b' - k) = ab_zn Z b' := by
          show ab_zD (ab_sh Z k) (b' - k) 0 0 0 = _
          rw [ab_shD (by omega)]
        have hn0 : ab_zn (ab_sh Z k) 0 = ab_zn Z k := rfl
        obtain ⟨a, ha⟩ := ab_tbI hR hL' hG hl hq (show b' - k < i + 1 - k by omega) hbth' h3 (by omega)
        have hO' := ab_shO (show k ≤ i by omega) ho
        by_cases hgood : w 7 + d (w 5) (w 1) = d (w 5) (w 4)
        · have hz := (ab_tnr hR hl (show b' - k < i + 1 - k by omega) ha (i - k) hlen w hO' h3 hrc' hbth' rfl rfl).2.2.1
          have d7 := ha.2.2.2.2.2.2.2.2.2.1
          have : 0 < d (w 5) (w 1) := by
            rcases Nat.eq_zero_or_pos (d (w 5) (w 1)) with y | y
            · exact absurd (hG.2.2.2.1 _ _ y).symm hz
            · exact y
          omega
        · obtain ⟨i', w', q1, _⟩ := ab_badp hR hG hl (show b' - k < i + 1 - k by omega) ha (i - k) hlen w hO' h3 hrc' hbth' rfl rfl hgood
          exact hc _ _ _ i' (by omega) ⟨a, w', q1⟩
    · omega
/-- a way that was not there was learned -/
theorem ab_lrx {Z : ab_Z} {d : Nat → Nat → Nat} {N v c a lm : Nat} (h : ab_RL lm Z d N) (ha : ab_zD Z a 1 v c = 8) : ∀ k, a ≤ k → k ≤ N → ab_zD Z k 1 v c ≠ 8 → ∃ i, a ≤ i ∧ i < k ∧ ab_zK Z i = 1 ∧ ab_zs Z i = v ∧ ab_zX Z i 3 ≤ 1 ∧ ab_zX Z i 4 = c ∧ ab_zD Z i 3 v c ≤ ab_zX Z i 6 ∧ ab_zX Z i 6 ≤ ab_zD Z k 3 v c := by
  intro k
  induction k with
  | zero => intro h1 _ h8; rw [show a = 0 by omega] at ha; exact absurd ha h8
  | succ k ih =>
    intro h1 h2 h8
    by_cases e : a = k + 1
    · rw [e] at ha; exact absurd ha h8
    · have hD := h.1 k (by omega)
      have hm := ab_nr1 (v := v) (c := c) h (show k < N by omega)
      rcases ab_Ry h (show k < N by omega) v c with ⟨s1, _, _⟩ | ⟨hk, ev, ec, hs, hl, l1, l2, l3⟩ | ⟨_, ⟨_, y1, _, _, _⟩, _⟩
      · rw [← hD] at s1
        rw [s1] at h8
        obtain ⟨i, i1, i2, i3, i4, i5, i6, i7, i8⟩ := ih (by omega) (by omega) h8
        exact ⟨i, i1, by omega, i3, i4, i5, i6, i7, by omega⟩
      · rw [← hD] at l3
        refine ⟨k, by omega, by omega, hk, ev.symm, ?_, ec.symm, ?_, by omega⟩
        · rcases hs with ⟨z, _⟩ | z <;> omega
        · rcases hl.2 with z | z <;> omega
      · rw [← hD] at y1
        exact absurd y1 h8
/-- IN THE NB WORLD THERE IS PROGRESS -/
theorem ab_NBF {Z : ab_Z} {d : Nat → Nat → Nat} {N lm h1 k1 s g x y r : Nat} (h : ab_RL lm Z d N) (hL : ab_L Z N) (h0 : ab_t0 Z N) (hG : ab_G (ab_zu Z) d) (hk : ab_hk Z h1 k1 s g) (hNB : ab_NB Z d) (hnp : ab_np Z N)
    (hxy : ab_zl Z x y) (hd : d x y = r) (h7 : r ≤ 7) (hmin : ∀ a b, ab_zl Z a b → r ≤ d a b) (hN : ab_zn Z 0 + 300 ≤ ab_zn Z N) : False := by
  have hne : x ≠ y := (hk.1 _ _ hxy).2.1
  have r1 : 1 ≤ r := by
    rcases Nat.eq_zero_or_pos r with e | e
    · exact absurd (hG.2.2.2.1 x y (by omega)) hne
    · exact e
  have lt : ∀ a b, a ≤ N → b ≤ N → ab_zn Z a < ab_zn Z b → a < b := by
    intro a b ha hb e
    by_cases c : a < b
    · exact c
    · have := ab_nowm h (show b ≤ a by omega) ha
      omega
  have bal : ∀ k c, ab_bal (ab_sh Z k) d c r := fun k c => ⟨fun g hg => hmin _ _ hg, fun z hz => by rw [hG.2.2.1]; exact hmin _ _ hz⟩
  -- the first asking
  obtain ⟨a1, a1N, a1a, a1l, a1u⟩ := ab_askx h hL h0 hxy (show ab_zn Z 0 ≤ ab_zn Z 0 + 60 by omega) (by omega)
  obtain ⟨k1', k1l, k1K, k1n⟩ := ab_tick h (show ab_zn Z 0 ≤ ab_zn Z a1 - 59 by omega) a1 (by omega) (show ab_zn Z a1 - 59 < ab_zn Z a1 by omega)
  obtain ⟨e1, e1l, _, e1n⟩ := ab_tick h (show ab_zn Z 0 ≤ ab_zn Z a1 + 20 by omega) N (Nat.le_refl _) (by omega)
  have ae1 := lt a1 e1 (by omega) (by omega) (by omega)
  have hW1 := ab_win h hL hG hk hNB (show k1' ≤ e1 by omega) (show e1 ≤ N by omega) (by omega)
  have t01 := ab_wt0 (n := e1 - k1') h hL h0 (by omega) k1K (by omega)
  have ask1 := ab_sha (show k1' ≤ a1 by omega) a1a
  have na1 : ab_zn (ab_sh Z k1') (a1 - k1') = ab_zn Z a1 := by
    show ab_zD (ab_sh Z k1') (a1 - k1') 0 0 0 = _
    rw [ab_shD (by omega)]
  have ne1 : ab_zn (ab_sh Z k1') (e1 - k1') = ab_zn Z e1 := by
    show ab_zD (ab_sh Z k1') (e1 - k1') 0 0 0 = _
    rw [ab_shD (by omega)]
  have n01 : ab_zn (ab_sh Z k1') 0 = ab_zn Z k1' := rfl
  obtain ⟨j', m', q1, q2, q3, q4, q5, q6, q7, q8, q9, q10, q11, q12⟩ := ab_qt hW1 t01 (bal k1' x) hd h7 (show a1 - k1' < e1 - k1' by omega) ask1 (by omega) (by omega)
  -- back to the long run
  have jn : ab_zn Z (k1' + j') = ab_zn Z a1 + r := by have : ab_zn (ab_sh Z k1') j' = _ := q4; rw [na1] at this; exact this
  have mn : ab_zn Z (k1' + m') = ab_zn Z a1 + 2 * r := by have : ab_zn (ab_sh Z k1') m' = _ := q10; rw [na1] at this; exact this
  have mK : ab_zK Z (k1' + m') = 1 := q6
  have ms : ab_zs Z (k1' + m') = x := q7
  have m3 : ab_zX Z (k1' + m') 3 = 1 := q8
  have m4 : ab_zX Z (k1' + m') 4 = y := q9
  have b1 : ab_zD Z (k1' + j') 4 y 0 + 1 = ab_zX Z (k1' + m') 6 := q11
  have b2 : ab_zD Z (k1' + j' + 1) 4 y 0 = ab_zX Z (k1' + m') 6 := q12
  have mN : k1' + m' < N := by omega
  have hDm := h.1 (k1' + m') mN
  have hnrm : ab_zX Z (k1' + m') 6 ≤ ab_zD Z (k1' + m' + 1) 3 x y := by
    have := ab_hnr (u := ab_zu Z) (ac := ab_za Z) (s := x) (p := ab_zp Z (k1' + m')) (x := ab_zX Z (k1' + m')) (D := ab_zD Z (k1' + m')) (Or.inr m3) (by rw [m4]; exact hne)
    rw [hDm]
    unfold ab_zY
    rw [mK, ab_do1, ms]
    rw [m4] at this
    exact this
  -- the second asking
  obtain ⟨a2, a2N, a2a, a2l, a2u⟩ := ab_askx h hL h0 hxy (show ab_zn Z 0 ≤ ab_zn Z a1 + 15 by omega) (by omega)
  have ma2 := lt (k1' + m') a2 (by omega) (by omega) (by omega)
  have hnr2 : ab_zX Z (k1' + m') 6 ≤ ab_zD Z a2 3 x y := Nat.le_trans hnrm (ab_nrm h (by omega) (by omega))
  obtain ⟨k2, k2l, k2K, k2n⟩ := ab_tick h (show ab_zn Z 0 ≤ ab_zn Z a2 - 72 by omega) a2 (by omega) (show ab_zn Z a2 - 72 < ab_zn Z a2 by omega)
  obtain ⟨e2, e2l, _, e2n⟩ := ab_tick h (show ab_zn Z 0 ≤ ab_zn Z a2 + 52 by omega) N (Nat.le_refl _) (by omega)
  have ae2 := lt a2 e2 (by omega) (by omega) (by omega)
  have hW2 := ab_win h hL hG hk hNB (show k2 ≤ e2 by omega) (show e2 ≤ N by omega) (by omega)
  have t02 := ab_wt0 (n := e2 - k2) h hL h0 (by omega) k2K (by omega)
  have ask2 := ab_sha (show k2 ≤ a2 by omega) a2a
  have na2 : ab_zn (ab_sh Z k2) (a2 - k2) = ab_zn Z a2 := by
    show ab_zD (ab_sh Z k2) (a2 - k2) 0 0 0 = _
    rw [ab_shD (by omega)]
  have ne2 : ab_zn (ab_sh Z k2) (e2 - k2) = ab_zn Z e2 := by
    show ab_zD (ab_sh Z k2) (e2 - k2) 0 0 0 = _
    rw [ab_shD (by omega)]
  have n02 : ab_zn (ab_sh Z k2) 0 = ab_zn Z k2 := rfl
  have np2 : ab_np (ab_sh Z k2) (e2 - k2) := ⟨fun i hi => hnp.1 (k2 + i) (by omega), fun i hi => hnp.2.1 (k2 + i) (by omega), hnp.2.2⟩
  refine ab_two hW2 t02 np2 (bal k2 x) (bal k2 y) hd h7 (show a2 - k2 < e2 - k2 by omega) ask2 (by omega) (by omega) ?_
  intro k hk1 hk2 hk3 hgo
  have h8 : ab_zD Z (k2 + k) 1 x y ≠ 8 := hgo.2.2.2.1
  have ha8 : ab_zD Z (a2 + 1) 1 x y = 8 := a2a.2.2.2.2.1
  obtain ⟨i, i1, i2, i3, i4, i5, i6, i7, i8⟩ := ab_lrx h ha8 (k2 + k) (by omega) (by omega) h8
  have iN : i < N := by omega
  have ni := ab_nowm h (show a2 ≤ i by omega) (by omega)
  have nT : ab_zX Z (k1' + m') 6 ≤ ab_zX Z i 6 := Nat.le_trans hnr2 (Nat.le_trans (ab_nrm h (show a2 ≤ i by omega) (by omega)) i7)
  have own0 := ab_ownm (c := y) h (Nat.zero_le (k1' + j')) (by omega)
  have hr : ab_rc Z (ab_zX Z i) := ⟨i5, Or.inl (by rw [i6]; omega)⟩
  obtain ⟨p, hp, hop, t0, t1, t2, tu⟩ := ab_hrc h iN i3 hr
  obtain ⟨b, hb, hbb⟩ := ab_fbI h p (by omega) _ hop hr
  have hbb' := hbb
  obtain ⟨c1, c2, c3, c4, c5⟩ := hbb
  rw [i6] at c1 c3 c4
  -- it was born late
  have hbl : ab_zn Z a2 ≤ ab_zn Z b + 9 := by
    rcases c5 with ⟨z0, _, z2, z3, z4⟩ | ⟨z0, _⟩
    · obtain ⟨j, j1, j2, j3, j4, j5⟩ := ab_life h iN i3 z0 (by omega)
      rw [i6] at j2 j4 z3 z4
      rw [j2] at j3
      have e : b = j := by
        rcases Nat.lt_trichotomy b j with z | z | z
        · have := ab_qm (c := y) h (show b + 1 ≤ j by omega) (by omega)
          have := j3.2.2.2.2.2.1
          omega
        · exact z
        · have := ab_qm (c := y) h (show j + 1 ≤ b by omega) (by omega)
          have := z3.2.2.2.2.2.1
          omega
      subst e
      omega
    · have hjb : k1' + j' ≤ b := by
        by_cases e : k1' + j' ≤ b
        · exact e
        · have := ab_ownm (c := y) h (show b + 1 ≤ k1' + j' by omega) (by omega)
          omega
      have := ab_nowm h hjb (by omega)
      have := ab_y7 h hL hG hk hNB p (by omega) _ b hop z0 hb hbb' (by omega)
      omega
  have hkb := lt k2 b (by omega) (by omega) (by omega)
  have hbe : b < e2 := by omega
  have ownk := ab_ownm (c := y) h (show k2 ≤ b by omega) (by omega)
  refine ab_gwn (n := ab_zX Z i 6) (t := ab_zn Z b) hW2.1 (by omega) ⟨b - k2, by omega, ?_, ?_, ?_⟩ (by omega) ?_ i8
  · show ab_zD (ab_sh Z k2) (b - k2) 0 0 0 = _
    rw [ab_shD (by omega)]
  · rw [ab_shD (by omega)]; omega
  · rw [ab_shD1 (by omega)]; omega
  · show ab_zD Z (k2 + 0) 4 y 0 < _
    rw [show k2 + 0 = k2 by omega]
    omega
