/-! ## a settling as a run of questions -/
/-- links, states, kinds, station, other station, frame heard, frames sent, orders used, pairs, their code -/
abbrev aq_T : Type := (Nat → Nat → Prop) × (Nat → ab_D) × (Nat → Nat) × (Nat → Nat) × (Nat → Nat) × (Nat → ab_F) × (Nat → ab_F → Prop) × (Nat → Nat) × (Nat → Nat → Prop) × (Nat → Nat → Nat)
abbrev aq_u (Q : aq_T) : Nat → Nat → Prop := Q.1
abbrev aq_D (Q : aq_T) : Nat → ab_D := Q.2.1
abbrev aq_K (Q : aq_T) : Nat → Nat := Q.2.2.1
abbrev aq_s (Q : aq_T) : Nat → Nat := Q.2.2.2.1
abbrev aq_p (Q : aq_T) : Nat → Nat := Q.2.2.2.2.1
abbrev aq_X (Q : aq_T) : Nat → ab_F := Q.2.2.2.2.2.1
abbrev aq_O (Q : aq_T) : Nat → ab_F → Prop := Q.2.2.2.2.2.2.1
abbrev aq_om (Q : aq_T) : Nat → Nat := Q.2.2.2.2.2.2.2.1
abbrev aq_arc (Q : aq_T) : Nat → Nat → Prop := Q.2.2.2.2.2.2.2.2.1
abbrev aq_cd (Q : aq_T) : Nat → Nat → Nat := Q.2.2.2.2.2.2.2.2.2
abbrev aq_n (Q : aq_T) (i : Nat) : Nat := aq_D Q i 0 0 0
def aq_R (Q : aq_T) (N : Nat) : Prop :=
  (∀ n, n < N → (∃ lv cf ac, (∀ a b, lv a b → aq_arc Q a b) ∧ aq_D Q (n + 1) = (ab_do (aq_u Q) lv cf ac (aq_K Q n) (aq_s Q n) (aq_p Q n) (aq_X Q n) (aq_D Q n)).1 ∧ ∀ w, aq_O Q n w → (ab_do (aq_u Q) lv cf ac (aq_K Q n) (aq_s Q n) (aq_p Q n) (aq_X Q n) (aq_D Q n)).2 w) ∨
    (aq_K Q n = 1 ∧ aq_X Q n 3 = 4 ∧ (∀ f i j, f ≠ 7 → f ≠ 9 → aq_D Q (n + 1) f i j = aq_D Q n f i j) ∧ ∀ w, aq_O Q n w → w 3 ≠ 0)) ∧
  (∀ n, n < N → aq_K Q n = 1 → aq_X Q n 3 = 0 → aq_s Q n < 8 ∧ ∃ j w, j < n ∧ aq_O Q j w ∧ w 3 = 0 ∧ aq_X Q n 4 = w 4 ∧ aq_X Q n 8 = w 8 ∧ aq_n Q j + 1 ≤ aq_n Q n ∧ aq_n Q n ≤ aq_n Q j + 4 + 2 * aq_om Q j ∧ (aq_n Q n = aq_n Q j + 1 ∨ 1 ≤ aq_om Q j)) ∧
  (∀ a b, aq_arc Q a b → a < 8 ∧ aq_cd Q a b < 15) ∧ (∀ a b a' b', aq_arc Q a b → aq_arc Q a' b' → aq_cd Q a b = aq_cd Q a' b' → a = a' ∧ b = b') ∧ aq_sum (aq_om Q) N ≤ 16 ∧ (∀ s f q, ab_sn s f q (aq_D Q 0) → q ≤ aq_D Q 0 5 f 0) ∧ (∀ v, v < 8 → aq_D Q 0 15 v 0 < 64)
def aq_ask (Q : aq_T) (n f b q : Nat) : Prop := aq_s Q n = f ∧ aq_p Q n = b ∧ aq_arc Q f b ∧ ab_asks (aq_K Q n) f b (aq_D Q n) (aq_D Q (n + 1)) ∧ aq_D Q (n + 1) 5 f 0 = q
/-- station v writes the question q of f into its table -/
def aq_q (Q : aq_T) (n v f q : Nat) : Prop := (aq_K Q n = 1 ∧ aq_X Q n 3 = 0 ∧ aq_s Q n = v ∧ aq_X Q n 4 = f ∧ aq_X Q n 8 = q ∧ ¬ ab_sn v f q (aq_D Q n)) ∨ (v = f ∧ ∃ b, aq_ask Q n f b q)
theorem aq_uni {Q : aq_T} {n v f q v' f' q' : Nat} (h : aq_q Q n v f q) (g : aq_q Q n v' f' q') : v = v' ∧ f = f' ∧ q = q' := by
  rcases h with ⟨h1, h2, h3, h4, h5, _⟩ | ⟨h1, b, h2, h3, h4, h5, h6⟩
  · rcases g with ⟨g1, g2, g3, g4, g5, _⟩ | ⟨g1, b', g2, g3, g4, g5, g6⟩
    · exact ⟨h3.symm.trans g3, h4.symm.trans g4, h5.symm.trans g5⟩
    · have := g5.1
      omega
  · rcases g with ⟨g1, g2, g3, g4, g5, _⟩ | ⟨g1, b', g2, g3, g4, g5, g6⟩
    · have := h5.1
      omega
    · have e : f = f' := h2.symm.trans g2
      subst e
      exact ⟨h1.trans g1.symm, rfl, h6.symm.trans g6⟩
theorem aq_st {Q : aq_T} {N n : Nat} (h : aq_R Q N) (hn : n < N) (v : Nat) : (aq_S (aq_D Q n) (aq_D Q (n + 1)) v ∧ ∀ f q, ¬ aq_q Q n v f q) ∨ ∃ f q, aq_q Q n v f q ∧ aq_E (aq_D Q n) (aq_D Q (n + 1)) v f q := by
  rcases h.1 n hn with ⟨lv, cf, ac, hlv, e, ho⟩ | ⟨k1, x4, hs, ho⟩
  · rcases aq_step (u := aq_u Q) (lv := lv) (cf := cf) (ac := ac) (k := aq_K Q n) (a := aq_s Q n) (b := aq_p Q n) (v := v) (x := aq_X Q n) (D := aq_D Q n) with ⟨z1, z2⟩ | ⟨f, q, z1, z2⟩
    · rw [← e] at z1 z2
      refine Or.inl ⟨z1, fun f q y => ?_⟩
      rcases y with ⟨y1, y2, y3, y4, y5, y6⟩ | ⟨y1, b, y2, y3, y4, y5, y6⟩
      · exact z2 f q (Or.inl ⟨y1, y2, y3, y4, y5, y6⟩)
      · have d4 := ab_d4 (u := aq_u Q) (lv := lv) (cf := cf) (ac := ac) (k := aq_K Q n) (a := aq_s Q n) (b := aq_p Q n) (c := f) (x := aq_X Q n) (D := aq_D Q n)
        rw [← e] at d4
        have e4 := y5.2.2.2.2.2.2
        have k2 := y5.1
        rcases d4 with d | ⟨_, _, ⟨d, _⟩ | ⟨d, _⟩⟩
        · omega
        · omega
        · refine z2 f q (Or.inr ⟨d, ?_, ?_, y1.symm, ?_⟩)
          · rw [y2, y3]; exact y5
          · rw [y1]; exact y2
          · rw [y1]; exact y6.symm
    · rw [← e] at z1 z2
      refine Or.inr ⟨f, q, ?_, z2⟩
      rcases z1 with ⟨y1, y2, y3, y4, y5, y6⟩ | ⟨y1, y2, y3, y4, y5⟩
      · exact Or.inl ⟨y1, y2, y3, y4, y5, y6⟩
      · have ef : f = aq_s Q n := y4.trans y3.symm
        refine Or.inr ⟨y4.symm, aq_p Q n, ef.symm, rfl, ?_, ?_, ?_⟩
        · rw [ef]; exact hlv _ _ y1
        · rw [ef]; exact y2
        · rw [y4]; exact y5.symm
  · refine Or.inl ⟨⟨fun i => ⟨hs 13 _ _ (by decide) (by decide), hs 14 _ _ (by decide) (by decide)⟩, hs 15 _ _ (by decide) (by decide)⟩, fun f q y => ?_⟩
    rcases y with ⟨_, y2, _⟩ | ⟨_, b, _, _, _, y5, _⟩
    · omega
    · have := y5.1
      omega
theorem aq_n1 {Q : aq_T} {N n : Nat} (h : aq_R Q N) (hn : n < N) : aq_n Q n ≤ aq_n Q (n + 1) ∧ ∀ c, aq_D Q n 5 c 0 ≤ aq_D Q (n + 1) 5 c 0 := by
  rcases h.1 n hn with ⟨lv, cf, ac, hlv, e, ho⟩ | ⟨k1, x4, hs, ho⟩
  · refine ⟨?_, fun c => ?_⟩
    · show aq_D Q n 0 0 0 ≤ aq_D Q (n + 1) 0 0 0
      rw [e, ab_d0]
      split <;> omega
    · rw [e]
      exact ab_d5
  · exact ⟨Nat.le_of_eq (hs 0 0 0 (by decide) (by decide)).symm, fun c => Nat.le_of_eq (hs 5 c 0 (by decide) (by decide)).symm⟩
theorem aq_nm {Q : aq_T} {N a : Nat} (h : aq_R Q N) : ∀ b, a ≤ b → b ≤ N → aq_n Q a ≤ aq_n Q b ∧ ∀ c, aq_D Q a 5 c 0 ≤ aq_D Q b 5 c 0 := by
  intro b
  induction b with
  | zero => intro h1 _; rw [show a = 0 by omega]; exact ⟨Nat.le_refl _, fun _ => Nat.le_refl _⟩
  | succ b ih =>
    intro h1 h2
    by_cases e : a = b + 1
    · rw [e]; exact ⟨Nat.le_refl _, fun _ => Nat.le_refl _⟩
    · obtain ⟨i1, i2⟩ := ih (by omega) (by omega)
      obtain ⟨j1, j2⟩ := aq_n1 h (show b < N by omega)
      exact ⟨Nat.le_trans i1 j1, fun c => Nat.le_trans (i2 c) (j2 c)⟩
/-- one question, one asking -/
theorem aq_ua {Q : aq_T} {N n m f b b' q : Nat} (h : aq_R Q N) (hn : n < N) (hm : m < N) (a : aq_ask Q n f b q) (a' : aq_ask Q m f b' q) : n = m ∧ b = b' := by
  have key : ∀ n m b b', n < N → m < N → n < m → aq_ask Q n f b q → aq_ask Q m f b' q → False := by
    intro n m b b' hn hm hlt a a'
    have := (aq_nm h m (show n + 1 ≤ m by omega) (by omega)).2 f
    have e1 := a.2.2.2.2
    have e2 := a'.2.2.2.2
    have e3 := a'.2.2.2.1.2.2.2.2.2.1
    omega
  have e : n = m := by
    by_cases z : n < m
    · exact absurd (key n m b b' hn hm z a a') (fun y => y)
    · by_cases z' : m < n
      · exact absurd (key m n b' b hm hn z' a' a) (fun y => y)
      · omega
  subst e
  exact ⟨rfl, a.2.1.symm.trans a'.2.1⟩
/-- the pause between two askings of a pair -/
theorem aq_sp {Q : aq_T} {N n m f b q q' : Nat} (h : aq_R Q N) (hm : m < N) (hlt : n < m) (a : aq_ask Q n f b q) (a' : aq_ask Q m f b q') : aq_n Q n + 24 ≤ aq_n Q m := by
  have key : ∀ k, n + 1 ≤ k → k ≤ m → aq_n Q n + 24 ≤ aq_D Q k 6 f b := by
    intro k
    induction k with
    | zero => intro z; omega
    | succ k ih =>
      intro z1 z2
      by_cases e : n = k
      · subst e
        rw [a.2.2.2.1.2.2.2.2.1]
        exact Nat.le_refl _
      · have i := ih (by omega) (by omega)
        rcases h.1 k (by omega) with ⟨lv, cf, ac, hlv, e, ho⟩ | ⟨k1, x4, hs, ho⟩
        · have d6 := ab_d6 (u := aq_u Q) (lv := lv) (cf := cf) (ac := ac) (k := aq_K Q k) (a := aq_s Q k) (b := aq_p Q k) (i := f) (j := b) (x := aq_X Q k) (D := aq_D Q k)
          rw [← e] at d6
          rcases d6 with d | ⟨d1, d2, d3⟩
          · rw [d]; exact i
          · have := d3.2.2.2.2.1
            rw [← d1, ← d2] at this
            rw [this]
            have := (aq_nm h k (show n ≤ k by omega) (by omega)).1
            show aq_n Q n + 24 ≤ aq_n Q k + 24
            omega
        · rw [hs 6 f b (by decide) (by decide)]
          exact i
  have := key m (by omega) (Nat.le_refl _)
  have := a'.2.2.2.1.2.2.2.1
  show aq_D Q n 0 0 0 + 24 ≤ aq_D Q m 0 0 0
  have e : aq_n Q n = aq_D Q n 0 0 0 := rfl
  omega
/-- who sends a question on has just written it -/
theorem aq_sw {Q : aq_T} {N n : Nat} {w : ab_F} (h : aq_R Q N) (hn : n < N) (ho : aq_O Q n w) (h3 : w 3 = 0) : aq_q Q n (aq_s Q n) (w 4) (w 8) := by
  rcases h.1 n hn with ⟨lv, cf, ac, hlv, e, hO⟩ | ⟨k1, x4, hs, hO⟩
  · have d1 := ab_d1 (hO w ho) (by omega)
    obtain ⟨d0, ds, du, ⟨k1, x3, w4, w5, w6, w7, x5, w8, _⟩ | ⟨w4, w7, w6, e4, ⟨_, _, _, w3, _⟩ | ⟨hl, ha, _, _, w8⟩⟩⟩ := d1
    · obtain ⟨e8, ns⟩ := w8 (x3.trans h3)
      refine Or.inl ⟨k1, x3.trans h3, rfl, w4.symm, e8.symm, ?_⟩
      rw [w4, e8]
      exact ns
    · omega
    · rw [← e] at ha w8
      rw [w4, w8]
      exact Or.inr ⟨rfl, aq_p Q n, rfl, rfl, hlv _ _ hl, ha, rfl⟩
  · exact absurd h3 (hO w ho)
theorem aq_p64 {Q : aq_T} {N v : Nat} (h : aq_R Q N) (hv : v < 8) : ∀ n, n ≤ N → aq_D Q n 15 v 0 < 64 := by
  intro n
  induction n with
  | zero => exact fun _ => h.2.2.2.2.2.2 v hv
  | succ n ih =>
    intro hn
    rcases aq_st h (show n < N by omega) v with ⟨z, _⟩ | ⟨f, q, _, z⟩
    · rw [z.2]; exact ih (by omega)
    · rw [z.2.2.1]; exact Nat.mod_lt _ (by decide)
/-- an entry stays while fewer than 64 others are written -/
theorem aq_keep {Q : aq_T} {N v r f q : Nat} (h : aq_R Q N) (hv : v < 8) (hr : aq_q Q r v f q) (hE : aq_E (aq_D Q r) (aq_D Q (r + 1)) v f q) : ∀ m, r + 1 ≤ m → m ≤ N → aq_cnt (fun k => r < k ∧ ∃ f q, aq_q Q k v f q) m ≤ 63 →
    aq_D Q m 15 v 0 = (aq_D Q r 15 v 0 + 1 + aq_cnt (fun k => r < k ∧ ∃ f q, aq_q Q k v f q) m) % 64 ∧ aq_D Q m 13 v (aq_D Q r 15 v 0) = f ∧ aq_D Q m 14 v (aq_D Q r 15 v 0) = q := by
  intro m
  induction m with
  | zero => intro z; omega
  | succ m ih =>
    intro h1 h2 h3
    by_cases e : r = m
    · subst e
      have c0 : aq_cnt (fun k => r < k ∧ ∃ f q, aq_q Q k v f q) (r + 1) = 0 := aq_c0 (r + 1) (fun k hk z => by have := z.1; omega)
      rw [c0]
      exact ⟨hE.2.2.1, hE.1, hE.2.1⟩
    · have cm : aq_cnt (fun k => r < k ∧ ∃ f q, aq_q Q k v f q) (m + 1) = aq_cnt (fun k => r < k ∧ ∃ f q, aq_q Q k v f q) m + ab_if (r < m ∧ ∃ f q, aq_q Q m v f q) 1 0 := rfl
      obtain ⟨i1, i2, i3⟩ := ih (by omega) (by omega) (by rw [cm] at h3; omega)
      have e64 := aq_p64 h hv r (by omega)
      rcases aq_st h (show m < N by omega) v with ⟨z, zn⟩ | ⟨f', q', zq, z⟩
      · rw [ab_in (fun y => by obtain ⟨_, f', q', y⟩ := y; exact zn f' q' y)] at cm
        rw [z.2, (z.1 _).1, (z.1 _).2, cm]
        exact ⟨i1, i2, i3⟩
      · rw [ab_ip ⟨by omega, f', q', zq⟩] at cm
        have ne : aq_D Q r 15 v 0 ≠ aq_D Q m 15 v 0 := by
          rw [i1]
          rw [cm] at h3
          omega
        refine ⟨?_, ?_, ?_⟩
        · rw [z.2.2.1, i1, cm]
          omega
        · rw [(z.2.2.2 _ ne).1]; exact i2
        · rw [(z.2.2.2 _ ne).2]; exact i3
/-- a new question in a table was written -/
theorem aq_wr {Q : aq_T} {N v f q : Nat} (h : aq_R Q N) (hq : aq_D Q 0 5 f 0 < q) : ∀ n, n ≤ N → ab_sn v f q (aq_D Q n) → ∃ r, r < n ∧ aq_q Q r v f q := by
  intro n
  induction n with
  | zero => intro _ z; have := h.2.2.2.2.2.1 v f q z; omega
  | succ n ih =>
    intro hn ⟨i, i1, i2, i3⟩
    rcases aq_st h (show n < N by omega) v with ⟨z, zn⟩ | ⟨f', q', zq, z⟩
    · obtain ⟨r, r1, r2⟩ := ih (by omega) ⟨i, i1, by rw [← (z.1 i).1]; exact i2, by rw [← (z.1 i).2]; exact i3⟩
      exact ⟨r, by omega, r2⟩
    · by_cases e : i = aq_D Q n 15 v 0
      · rw [e, z.1] at i2
        rw [e, z.2.1] at i3
        exact ⟨n, by omega, by rw [← i2, ← i3]; exact zq⟩
      · obtain ⟨r, r1, r2⟩ := ih (by omega) ⟨i, i1, by rw [← (z.2.2.2 i e).1]; exact i2, by rw [← (z.2.2.2 i e).2]; exact i3⟩
        exact ⟨r, by omega, r2⟩
