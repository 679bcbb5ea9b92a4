/-! ## X: what holds between the calls -/
theorem rt_w {D : ab_D} {f i j v : Nat} (h : f ≠ 0 ∧ f ≠ 6 ∧ f ≠ 7 ∧ f ≠ 8 ∧ f ≠ 9) (k : rt_P D) : rt_P (ab_w D f i j v) := by
  intro a b
  unfold rt_p
  rw [ab_wf (fun z => h.2.1 z.symm), ab_wf (fun z => h.1 z.symm), ab_wf (fun z => h.2.2.1 z.symm), ab_wf (fun z => h.2.2.2.1 z.symm), ab_wf (fun z => h.2.2.2.2 z.symm)]
  exact k a b
/-- forgetting keeps the timers -/
theorem rt_clr1 {s i t : Nat} {T : zz_T} (hs : s < 8) (hi : i < 8) (e4 : T 4 0 = nI t) (ht : t < 2 ^ 29) (h : rt_P (rf_a T)) : rt_P (rf_a (mm_clr1 s i T)) := by
  unfold mm_clr1
  have e21 : T 4 0 - 24 + 24 = nI t := by
    rw [e4]
    simp
  rw [rf_n (by decide), rf_n (by decide), rf_27 hs hi, rf_28 hs hi, rf_n (by decide), rf_21 hs hi, rf_19 hs hi, rf_20 hs hi, rf_18 hs hi]
  intro a b
  have e0 : rf_a T 0 0 0 = t := by
    show (if (0 : Nat) = 0 ∧ (0 : Nat) = 0 then rf_c (T 4 0) else 0) = t
    rw [if_pos ⟨rfl, rfl⟩, e4, rf_cn (by omega)]
  have k := h a b
  unfold rt_p
  by_cases e : a = s ∧ b = i
  · obtain ⟨rfl, rfl⟩ := e
    refine ⟨?_, fun h7 => absurd ?_ h7⟩
    · rw [ab_wf (show 6 ≠ 9 by decide), ab_wf (show 6 ≠ 7 by decide), ab_we, ab_wf (show 0 ≠ 9 by decide), ab_wf (show 0 ≠ 7 by decide), ab_wf (show 0 ≠ 6 by decide), ab_wf (show 0 ≠ 2 by decide), ab_wf (show 0 ≠ 3 by decide), ab_wf (show 0 ≠ 1 by decide), e0]
      rw [e21, rf_cn (by omega)]
      omega
    · rw [ab_wf (show 7 ≠ 9 by decide), ab_we]
      exact rf_cn (n := 0) (by omega)
  · have w : ∀ D f v g, ab_w D f s i v g a b = D g a b := fun D f v g => if_neg (fun y => e ⟨y.2.1, y.2.2⟩)
    rw [w, w, w, w, w, w, w, w, w, w, w, w, w, w, w, w, w, w, w, w, w, w, w, w]
    rw [ab_wf (show 0 ≠ 9 by decide), ab_wf (show 0 ≠ 7 by decide), ab_wf (show 0 ≠ 6 by decide), ab_wf (show 0 ≠ 2 by decide), ab_wf (show 0 ≠ 3 by decide), ab_wf (show 0 ≠ 1 by decide)]
    exact k

theorem rt_clear {s t : Nat} {T : zz_T} (hs : s < 8) (e4 : T 4 0 = nI t) (ht : t < 2 ^ 29) (h : rt_P (rf_a T)) : rt_P (rf_a (mm_clear s T)) := by
  unfold mm_clear
  have h1 : rt_P (rf_a (zz_it (mm_clr1 s) 8 T)) := by
    refine (zz_itI (fun (_ : Nat) (U : zz_T) => rt_P (rf_a U) ∧ U 4 0 = nI t) ⟨h, e4⟩ (fun k U hk hU => ⟨rt_clr1 hs hk hU.2 ht hU.1, ?_⟩)).1
    unfold mm_clr1
    rw [zz_sn (by decide), zz_sn (by decide), zz_sn (by decide), zz_sn (by decide), zz_sn (by decide), zz_sn (by decide), zz_sn (by decide), zz_sn (by decide), zz_sn (by decide)]
    exact hU.2
  refine zz_itI (fun (_ : Nat) (U : zz_T) => rt_P (rf_a U)) h1 (fun k U hk hU => ?_)
  unfold mm_clr2
  rw [rf_22 hs hk]
  exact rt_w (by decide) hU
/-- X -/
def rx_X (so go k : Nat) (S : zz_T) : Prop := ∃ B, ri_C B S ∧ rt_P (rf_a S) ∧ rx_src so go S ∧ 300 ≤ B ∧ B + 1023660 * rx_pot S ≤ 400 + 2047321 * k
theorem rx_Xs {so go k l : Nat} {S T : zz_T} (hF : ∀ f, rf_F f ∨ f = 5 ∨ f = 1 ∨ f = 9 ∨ f = 10 ∨ f = 14 ∨ f = 15 → T f = S f) (hp : rx_pot T ≤ rx_pot S + 2) (hkl : l = k + 1 ∨ (l = k ∧ rx_pot T ≤ rx_pot S)) (h : rx_X so go k S) : rx_X so go l T := by
  obtain ⟨B, h1, h2, h3, h4, h5⟩ := h
  have e : rf_a T = rf_a S := rf_same (fun f hf => hF f (Or.inl hf))
  refine ⟨B, ri_Cs (fun f hf => hF f (by rcases hf with z | z; exact Or.inl z; exact Or.inr (Or.inl z))) h1, by rw [e]; exact h2, rx_srcS (fun f hf => hF f (by omega)) h3, h4, ?_⟩
  omega
theorem rx_pote {S T : zz_T} (h : ∀ f, f = 1 ∨ f = 2 ∨ f = 14 ∨ f = 15 ∨ f = 38 → T f = S f) : rx_pot T = rx_pot S := by
  unfold rx_pot rv_m rv_o mm_has mm_isT
  rw [h 1 (by decide), h 2 (by decide), h 14 (by decide), h 15 (by decide), h 38 (by decide)]
theorem rx_cT {P : Nat → Prop} : ∀ n, (∀ k, k < n → P k) → zz_cnt P n = n := by
  intro n
  induction n with
  | zero => exact fun _ => rfl
  | succ n ih =>
    intro h
    unfold zz_cnt
    rw [ih (fun k hk => h k (by omega)), if_pos (h n (by omega))]
theorem rx_cF {P : Nat → Prop} : ∀ n, (∀ k, k < n → ¬ P k) → zz_cnt P n = 0 := by
  intro n
  induction n with
  | zero => exact fun _ => rfl
  | succ n ih =>
    intro h
    unfold zz_cnt
    rw [ih (fun k hk => h k (by omega)), if_neg (h n (by omega))]
/-- the fresh object -/
theorem rx_ini {so go : Nat} : rx_X so go 0 mm_ini := by
  have z0 : ri_C 300 zz_0 ∧ rt_P (rf_a zz_0) := by
    have n0 : ∀ f i, zz_0 f i = nI 0 := fun f i => rfl
    have c0 : rf_c 0 = 0 := rf_cn (n := 0) (by omega)
    refine ⟨⟨⟨⟨0, by omega, rfl⟩, fun s _ => ⟨0, by omega, rfl⟩, fun s _ => ⟨0, by omega, rfl⟩, fun q _ => Or.inr ⟨0, by omega, rfl⟩, fun q _ => ⟨0, by omega, rfl⟩, fun q _ => ⟨24, by omega, rfl⟩, fun q _ => ?_, fun q _ => ⟨0, by omega, rfl⟩, fun s _ => ⟨0, by omega, rfl⟩, fun p _ => Or.inl rfl, fun p _ => ⟨0, by omega, rfl⟩, fun p _ => ⟨0, by omega, rfl⟩⟩, ⟨0, by omega, rfl⟩, ⟨fun v c => ?_, fun s f q ⟨i, i1, i2, i3⟩ => ?_⟩, fun a b h7 => ?_⟩, fun a b => ?_⟩
    · exact Or.inr ⟨0, by omega, rfl⟩
    · have : rf_a zz_0 3 v c = 0 := by
        show (if v < 8 ∧ c < 8 then rf_c 0 else 0) = 0
        rw [c0]
        split <;> rfl
      omega
    · have : q = 0 := by
        rw [← i3]
        show (if s < 8 ∧ i < 64 then rf_c 0 else 0) = 0
        rw [c0]
        split <;> rfl
      omega
    · exfalso
      apply h7
      show (if a < 8 ∧ b < 8 then rf_c 0 else 0) = 0
      rw [c0]
      split <;> rfl
    · have e7 : rf_a zz_0 7 a b = 0 := by
        show (if a < 8 ∧ b < 8 then rf_c 0 else 0) = 0
        rw [c0]
        split <;> rfl
      refine ⟨?_, fun z => absurd e7 z⟩
      have : rf_a zz_0 6 a b ≤ 24 := by
        show (if a < 8 ∧ b < 8 then rf_c (0 + 24) else 0) ≤ 24
        split
        · rw [show (0 : Int32) + 24 = nI 24 from rfl, rf_cn (by omega)]
          omega
        · omega
      omega
  have key : ∀ n, n ≤ 8 → ∀ T : zz_T, T = zz_it mm_ini1 n zz_0 → ri_C 300 T ∧ rt_P (rf_a T) ∧ (∀ f, f ≠ 16 → (f < 18 ∨ f = 23 ∨ f = 24 ∨ f = 26 ∨ 30 < f) → T f = zz_0 f) ∧ ∀ c, T 16 c = nI 0 ∨ T 16 c = nI 1 := by
    intro n
    induction n with
    | zero => intro _ T hT; rw [hT]; exact ⟨z0.1, z0.2, fun _ _ _ => rfl, fun _ => Or.inl rfl⟩
    | succ n ih =>
      intro hn T hT
      obtain ⟨U, hU⟩ : ∃ U, U = zz_it mm_ini1 n zz_0 := ⟨_, rfl⟩
      have e : T = mm_clear n (zz_s U 16 n 1) := by rw [hT, hU]; rfl
      obtain ⟨i1, i2, i3, i4⟩ := ih (by omega) U hU
      clear hU hT
      have n8 : n < 8 := by omega
      have ew : rf_a (zz_s U 16 n 1) = ab_w (rf_a U) 4 n 0 1 := by rw [rf_16 n8, show (1 : Int32) = nI 1 from rfl, rf_cn (by omega)]
      have u20 : ∀ v c, rf_a U 3 v c ≤ rf_a U 4 c 0 := i1.2.2.1.1
      have c1 : ri_C 300 (zz_s U 16 n 1) := by
        refine ⟨rf_b16 ⟨1, by omega, rfl⟩ i1.1, zz_5s (by decide) i1.2.1, ⟨fun v c => ?_, fun s f q ⟨i, k1, k2, k3⟩ => ?_⟩, ?_⟩
        · rw [ew, ab_wf (show 3 ≠ 4 by decide)]
          by_cases z : c = n
          · have h0 : rf_a U 4 c 0 ≤ 1 := by
              show (if c < 8 ∧ (0 : Nat) = 0 then rf_c (U 16 c) else 0) ≤ 1
              split
              · rcases i4 c with y | y
                · rw [y, rf_cn (by omega)]
                  omega
                · rw [y, rf_cn (by omega)]
                  omega
              · omega
            have := u20 v c
            rw [z, ab_we]
            rw [z] at this h0
            omega
          · rw [ab_wi z]
            exact u20 v c
        · rw [ew, ab_wf (by decide)] at k2 k3
          rw [ew, ab_wf (by decide)]
          exact i1.2.2.1.2 s f q ⟨i, k1, k2, k3⟩
        · rw [ew]
          exact ri_hw (Or.inl (by decide)) i1.2.2.2
      rw [e]
      refine ⟨ri_clear n8 (by omega) (by omega) c1, rt_clear (t := 0) n8 ?_ (by omega) ?_, fun f f16 hf => ?_, fun c => ?_⟩
      · rw [zz_sn (by decide), i3 4 (by decide) (by decide)]
        rfl
      · rw [ew]
        exact rt_w (by decide) i2
      · rw [zz_clro hf, zz_sn f16]
        exact i3 f f16 hf
      · rw [zz_clro (by omega), zz_se]
        by_cases z : c = n
        · rw [z, pk_us]
          exact Or.inr rfl
        · rw [pk_un z]
          exact i4 c
  obtain ⟨k1, k2, k3, _⟩ := key 8 (Nat.le_refl _) mm_ini rfl
  have s0 : ∀ f, f = 1 ∨ f = 2 ∨ f = 9 ∨ f = 10 ∨ f = 14 ∨ f = 15 ∨ f = 38 → mm_ini f = zz_0 f := fun f hf => k3 f (by omega) (by omega)
  refine ⟨300, k1, k2, ⟨fun m a b hm _ _ hh _ _ => ?_, fun a b _ _ _ => ?_⟩, by omega, ?_⟩
  · exfalso
    apply hh
    rw [s0 1 (by omega)]
    show ((0 : Int32) >>> _) &&& 1 = 0
    simp
  · rw [s0 14 (by omega), s0 15 (by omega)]
    rfl
  · have p0 : rx_pot mm_ini = 0 := by
      rw [rx_pote (S := zz_0) (fun f hf => s0 f (by omega))]
      have a1 : zz_cnt (mm_has zz_0) 16 = 0 := rx_cF 16 (fun k _ z => z (by show ((0 : Int32) >>> _) &&& 1 = 0; simp))
      have a2 : zz_cnt (mm_isT zz_0) 16 = 0 := rx_cF 16 (fun k _ z => z (by show ((0 : Int32) >>> _) &&& 1 = 0; simp))
      have a3 : zz_cnt (fun p => zz_0 14 p = zz_0 15 p) 64 = 64 := rx_cT 64 (fun _ _ => rfl)
      have a4 : zz_cnt (fun i => zz_0 38 i = 0) 16 = 16 := rx_cT 16 (fun _ _ => rfl)
      unfold rx_pot rv_m rv_o
      rw [a1, a2, a3, a4]
    rw [p0]
    omega

/-- forgetting -/
theorem rx_forget {so go k a : Nat} {S C : zz_T} (ha : a < 8) (hC : C = mm_clear a S) (hk : k ≤ 261) (h : rx_X so go k S) : rx_X so go (k + 1) (zz_s C 16 a (C 16 a + 1)) := by
  obtain ⟨B, h1, h2, h3, h4, h5⟩ := h
  have hB : B + 1 ≤ 2 ^ 29 := by omega
  obtain ⟨t, t1, t2⟩ := h1.1.1
  have c1 : ri_C B C := by rw [hC]; exact ri_clear ha (by omega) (by omega) h1
  have c2 : rt_P (rf_a C) := by rw [hC]; exact rt_clear ha t2 (by omega) h2
  have co : ∀ f, f ≠ 16 → (f < 18 ∨ f = 23 ∨ f = 24 ∨ f = 26 ∨ 30 < f) → zz_s C 16 a (C 16 a + 1) f = S f := fun f z1 z2 => by
    rw [zz_sn z1, hC, zz_clro z2]
  clear hC
  obtain ⟨n, hn, e16⟩ := c1.1.2.1 a ha
  refine ⟨B + 1, ri_C16 ha hB c1, ?_, rx_srcS (fun f hf => co f (by omega) (by omega)) h3, by omega, ?_⟩
  · rw [rf_16 ha]
    exact rt_w (by decide) c2
  · rw [rx_pote (S := S) (fun f hf => co f (by omega) (by omega))]
    omega
/-- an order is set -/
theorem rx_disturb {so go k : Nat} {S T : zz_T} (hF : ∀ f, f < 38 ∨ 41 < f → T f = S f) (h1 : ∃ i, ∀ j, j ≠ i → T 38 j = S 38 j) (h : rx_X so go k S) : rx_X so go (k + 1) T := by
  refine rx_Xs (fun f hf => hF f (by unfold rf_F at hf; omega)) ?_ (Or.inl rfl) h
  obtain ⟨i, hi⟩ := h1
  have m := (rv_c1 (P := fun i => S 38 i = 0) (Q := fun i => T 38 i = 0) (j := i) 16 (fun k _ hne z => by show T 38 k = 0; rw [hi k hne]; exact z)).1
  unfold rx_pot rv_m rv_o mm_has mm_isT
  rw [hF 1 (by omega), hF 2 (by omega), hF 14 (by omega), hF 15 (by omega)]
  omega
/-- a message is taken -/
theorem rx_take {so go k m : Nat} {S : zz_T} (hm : m < 16) (h : rx_X so go k S) : rx_X so go (k + 1) (mm_take m S) := by
  obtain ⟨B, h1, h2, h3, h4, h5⟩ := h
  have o : ∀ f, f ≠ 1 → f ≠ 2 → mm_take m S f = S f := fun f z1 z2 => zz_takeo z1 z2
  have e : rf_a (mm_take m S) = rf_a S := rf_same (fun f hf => o f (by unfold rf_F at hf; omega) (by unfold rf_F at hf; omega))
  have p : rx_pot (mm_take m S) ≤ rx_pot S + 2 := by
    have a1 := zz_cntm (P := mm_has (mm_take m S)) (Q := mm_has S) 16 (fun k hk z => ((zz_takeb hm hk).1.1 z).1)
    have a2 := (rv_c1 (P := mm_isT S) (Q := mm_isT (mm_take m S)) (j := m) 16 (fun k hk hne z => (zz_takeb hm hk).2.2 ⟨z, hne⟩)).1
    unfold rx_pot rv_m rv_o
    rw [o 14 (by decide) (by decide), o 15 (by decide) (by decide), o 38 (by decide) (by decide)]
    omega
  refine ⟨B, ri_Cs (fun f hf => o f (by unfold rf_F at hf; omega) (by unfold rf_F at hf; omega)) h1, by rw [e]; exact h2, ⟨fun q a b hq ha hb z1 z2 z3 => ?_, fun a b ha hb z => ?_⟩, h4, by omega⟩
  · rw [o 9 (by decide) (by decide)] at z2
    rw [o 10 (by decide) (by decide)] at z3
    exact h3.1 q a b hq ha hb ((zz_takeb hm hq).1.1 z1).1 z2 z3
  · rw [o 14 (by decide) (by decide), o 15 (by decide) (by decide)]
    exact h3.2 a b ha hb z
theorem rx_post1 {S : zz_T} {a b m d : Nat} (ha : a < 8) (hb : b < 8) (hm : m < 16) (hd : d ≤ 1) : ∀ T : zz_T, T = mm_post a b m d S →
    (∀ f, f ≠ 0 → f ≠ 1 → f ≠ 2 → f ≠ 3 → f ≠ 8 → f ≠ 9 → f ≠ 10 → f ≠ 11 → f ≠ 12 → T f = S f) ∧ (∀ k, k < 16 → (mm_has T k ↔ mm_has S k ∨ k = m)) ∧ (∀ k, k < 16 → (mm_isT T k ↔ mm_isT S k ∧ k ≠ m)) ∧ T 9 = upd (S 9) m (nI a) ∧ T 10 = upd (S 10) m (nI b) := by
  intro T hT
  have pp : ∀ Y : zz_T, Y = mm_post1 a b m S → (∀ f, f ≠ 1 → f ≠ 2 → f ≠ 3 → f ≠ 8 → f ≠ 9 → f ≠ 10 → f ≠ 11 → Y f = S f) ∧ Y 1 0 = S 1 0 ||| ((1 : Int32) <<< (nI m &&& 31)) ∧ Y 2 0 = S 2 0 &&& (((1 : Int32) <<< (nI m &&& 31)) ^^^ (-1)) ∧ Y 9 = upd (S 9) m (nI a) ∧ Y 10 = upd (S 10) m (nI b) := by
    intro Y hY
    unfold mm_post1 at hY
    subst hY
    refine ⟨fun f g1 g2 g3 g8 g9 g10 g11 => ?_, ?_, ?_, ?_, ?_⟩
    · rw [zz_sn g11, zz_sn g10, zz_sn g9, zz_sn g3, zz_sn g8, zz_sn g2, zz_sn g1]
    · rw [zz_sn (by decide), zz_sn (by decide), zz_sn (by decide), zz_sn (by decide), zz_sn (by decide), zz_sn (by decide), zz_se, pk_us]
    · rw [zz_sn (by decide), zz_sn (by decide), zz_sn (by decide), zz_sn (by decide), zz_sn (by decide), zz_se, pk_us]
    · rw [zz_sn (by decide), zz_sn (by decide), zz_se, zz_sn (by decide), zz_sn (by decide), zz_sn (by decide), zz_sn (by decide), zz_8 a (by omega)]
    · rw [zz_sn (by decide), zz_se, zz_sn (by decide), zz_sn (by decide), zz_sn (by decide), zz_sn (by decide), zz_sn (by decide), zz_8 b (by omega)]
  obtain ⟨p0, p1, p2, p9, p10⟩ := pp _ rfl
  obtain ⟨q0, _, _⟩ := zz_post2 (Y := mm_post1 a b m S) (m := m) hd _ rfl
  unfold mm_post at hT
  generalize zz_it (mm_post2 m) d (mm_post1 a b m S) = X at hT q0
  generalize mm_post1 a b m S = Y at p0 p1 p2 p9 p10 q0
  have r : ∀ f, f ≠ 12 → f ≠ 0 → T f = Y f := fun f h1 h2 => by rw [hT, zz_sn h2]; exact q0 f h1
  clear hT
  refine ⟨fun f g0 g1 g2 g3 g8 g9 g10 g11 g12 => (r f g12 g0).trans (p0 f g1 g2 g3 g8 g9 g10 g11), fun k hk => ?_, fun k hk => ?_, (r 9 (by decide) (by decide)).trans p9, (r 10 (by decide) (by decide)).trans p10⟩
  · show zz_b (T 1 0) k ↔ zz_b (S 1 0) k ∨ k = m
    rw [r 1 (by decide) (by decide), p1, zb_bor (by omega), zb_b1 (by omega) (by omega)]
  · show zz_b (T 2 0) k ↔ zz_b (S 2 0) k ∧ k ≠ m
    rw [r 2 (by decide) (by decide), p2, zb_bclr (by omega) (by omega)]
/-- a message is posted -/
theorem rx_post {so go k ns a b m d : Nat} {S T : zz_T} (ha : a < 8) (hb : b < 8) (hab : a ≠ b) (hm : m < 16) (hd : d ≤ 1) (hs : (a = so ∧ b = go) ∨ a = 0 ∨ a = 4) (hI : zz_I ns S) (hn : ¬ mm_has S m) (hT : T = mm_post a b m d S) (h : rx_X so go k S) : rx_X so go (k + 1) T := by
  obtain ⟨F, hh, hi, F9, F10⟩ := rx_post1 ha hb hm hd T hT
  clear hT
  obtain ⟨B, h1, h2, h3, h4, h5⟩ := h
  have FF : ∀ f, rf_F f ∨ f = 5 ∨ f = 14 ∨ f = 15 ∨ f = 38 → T f = S f := fun f hf => by
    unfold rf_F at hf
    exact F f (by omega) (by omega) (by omega) (by omega) (by omega) (by omega) (by omega) (by omega) (by omega)
  have e : rf_a T = rf_a S := rf_same (fun f hf => FF f (Or.inl hf))
  have nT : ¬ mm_isT S m := fun z => hn (hI.2.2.2.2.1.2.2.2.1 m hm z)
  have p : rx_pot T ≤ rx_pot S + 2 := by
    have a1 := (rv_c1 (P := mm_has T) (Q := mm_has S) (j := m) 16 (fun k hk hne z => by
      rcases (hh k hk).1 z with y | y
      · exact y
      · exact absurd y hne)).1
    have a2 := zz_cntm (P := mm_isT S) (Q := mm_isT T) 16 (fun k hk z => (hi k hk).2 ⟨z, fun y => nT (by rw [← y]; exact z)⟩)
    unfold rx_pot rv_m rv_o
    rw [FF 14 (by omega), FF 15 (by omega), FF 38 (by omega)]
    omega
  refine ⟨B, ri_Cs (fun f hf => FF f (by rcases hf with z | z; exact Or.inl z; exact Or.inr (Or.inl z))) h1, by rw [e]; exact h2, ⟨fun q a' b' hq ha' hb' z1 z2 z3 => ?_, fun a' b' ha' hb' z => ?_⟩, h4, by omega⟩
  · rw [F9] at z2
    rw [F10] at z3
    by_cases eq : q = m
    · rw [eq, pk_us] at z2 z3
      have e1 : a = a' := (nI_eq (by omega) (by omega)).1 z2
      have e2 : b = b' := (nI_eq (by omega) (by omega)).1 z3
      subst e1 e2
      refine ⟨hab, ?_⟩
      rcases hs with z | z | z
      · exact Or.inr (Or.inr z)
      · exact Or.inl z
      · exact Or.inr (Or.inl z)
    · rw [pk_un eq] at z2 z3
      rcases (hh q hq).1 z1 with y | y
      · exact h3.1 q a' b' hq ha' hb' y z2 z3
      · exact absurd y eq
  · rw [FF 14 (by omega), FF 15 (by omega)]
    exact h3.2 a' b' ha' hb' z
/-- a settling -/
theorem rx_settle {so go k ns : Nat} {S U : zz_T} (hso : so < 8) (hgo : go < 8) (hH : rx_H so go) (hk : k ≤ 260) (hns : ns ≤ k) (hI : zz_I ns S) (h : rx_X so go k S) (hU : U = mm_run 60000 (mm_calm S)) : zz_cnt (mm_rd U) 16 = 0 ∧ rx_X so go (k + 1) U := by
  obtain ⟨B, h1, h2, h3, h4, h5⟩ := h
  obtain ⟨Z, hZ⟩ : ∃ Z, Z = mm_calm S := ⟨_, rfl⟩
  have ho : ∀ f, f ≠ 32 → Z f = S f := fun f hf => by rw [hZ]; exact zz_calmo hf
  have h32 : ∀ i, i < 1024 → Z 32 i = 0 := by
    rw [hZ]
    exact zz_calm32
  have hJ := zz_J0 hI Z hZ
  obtain ⟨c1, c2⟩ := ri_calm h1
  rw [← hZ] at c1 c2 hU
  clear hZ
  have e : rf_a Z = rf_a S := rf_same (fun f hf => ho f (by unfold rf_F at hf; omega))
  have hs : rx_src so go Z := rx_srcS (fun f hf => ho f (by omega)) h3
  have ht : rt_P (rf_a Z) := by rw [e]; exact h2
  have hp : rx_pot Z = rx_pot S := rx_pote (fun f hf => ho f (by omega))
  have hl : zz_lk Z := zz_lkc (ho 6 (by decide)) hI.1
  have pb := (rx_potb hso hgo hJ.2.1 hs).1
  have hM : ri_M ns B Z Z := ⟨hJ, c1, c2⟩
  obtain ⟨p, hpp⟩ : ∃ p, p = rx_pot Z := ⟨_, rfl⟩
  have b1 : B + 1089 * (940 * p + 1) ≤ 2 ^ 29 := by
    have : 1089 * (940 * p + 1) = 1023660 * p + 1089 := by
      rw [Nat.mul_add, ← Nat.mul_assoc]
    rw [this, hpp, hp, ← Nat.add_assoc]
    have h6 : B + 1023660 * rx_pot S ≤ 532303860 := by
      clear this
      omega
    exact Nat.le_trans (Nat.add_le_add_right h6 1089) (by decide)
  have b2 : 940 * p ≤ 60000 := by
    clear b1
    omega
  have b3 : ns < B := by
    clear b1
    omega
  have b4 : 16 ≤ B := by
    clear b1
    omega
  obtain ⟨r1, t, r2, r3, r4⟩ := rx_run (N := ns) (B0 := B) (Z := Z) hso hgo hH ⟨hl, b3, b4, h32, hM, ht, hs⟩ p 60000 B Z 0 rfl rfl (Nat.le_of_eq hpp.symm) b2 b1 hM ht hs
  clear b1 b2
  rw [← hU] at r1 r2
  refine ⟨r1, ?_⟩
  rw [← hpp] at r3 r4
  obtain ⟨C, hC⟩ : ∃ C, C = B + 1089 * t := ⟨_, rfl⟩
  have t1 : 1089 * t ≤ 1023660 * (p - rx_pot (rf_mo Z t)) := by
    have := Nat.mul_le_mul_left 1089 r4
    rw [← Nat.mul_assoc] at this
    exact this
  have bC : C + 1023660 * rx_pot (rf_mo Z t) ≤ 400 + 2047321 * k := by
    rw [hp] at hpp
    rw [← hpp] at h5
    omega
  have C29 : C ≤ 2 ^ 29 := by omega
  obtain ⟨m1, m2⟩ := ri_mo hl (show ns < B by omega) (by omega) hM ht t C hC C29
  have m3 : rx_src so go (rf_mo Z t) := by
    have := rx_mi (show ns < 2 ^ 30 by omega) hJ hs (1089 * t)
    rw [rf_Sm] at this
    exact this
  rw [r2]
  exact ⟨C, ⟨m1.2.1.1, m1.2.1.2.2.1, m1.2.1.2.2.2.1.1, m1.2.2⟩, m2, m3, by omega, by omega⟩
/-- ALL THAT THE LAW ASKS OF X -/
theorem rx_zz {so go : Nat} (hso : so < 8) (hgo : go < 8) (hH : rx_H so go) : zz_X so go (fun k S => k ≤ 261 → rx_X so go k S) := by
  refine ⟨fun _ => rx_ini, fun k a b up S ha hb hab h hk => ?_, fun k a S C ha hC h hk => rx_forget ha hC (by omega) (h (by omega)), fun k S T h1 h2 h hk => rx_disturb h1 h2 (h (by omega)), fun k m S hm h hk => rx_take hm (h (by omega)), fun k S h hk => ?_, fun k b S h hk => ?_, fun k ns a b m d S T hk ha hb hab hm hd hs hI hn hT h hk' => rx_post ha hb hab hm hd hs hI hn hT (h (by omega)), fun k ns S U hk hns hI h hU => ?_⟩
  · refine rx_Xs (S := S) (fun f hf => zz_linko (by unfold rf_F at hf; omega)) ?_ (Or.inl rfl) (h (by omega))
    rw [rx_pote (S := S) (fun f hf => zz_linko (by omega))]
    omega
  · exact rx_Xs (S := S) (fun f hf => rfl) (by omega) (Or.inl rfl) (h (by omega))
  · have o : ∀ f, f ≠ 0 → f ≠ 7 → zz_s (zz_s S 7 0 b) 0 0 (nI 1) f = S f := fun f z1 z2 => by rw [zz_sn z1, zz_sn z2]
    have e := rx_pote (T := zz_s (zz_s S 7 0 b) 0 0 (nI 1)) (S := S) (fun f hf => o f (by omega) (by omega))
    exact rx_Xs (S := S) (fun f hf => o f (by unfold rf_F at hf; omega) (by unfold rf_F at hf; omega)) (by omega) (Or.inr ⟨rfl, by omega⟩) (h hk)
  · have := rx_settle hso hgo hH hk hns hI (h (by omega)) hU
    exact ⟨this.1, fun _ => this.2⟩
/-- THE LAW, from: no stretch of 940 moments without an event -/
theorem rx_law (hH : ∀ so go, so < 8 → go < 8 → so ≠ go → rx_H so go) (xs : Nat → Int32) (L : Nat) (hL : L ≤ 260) : wpL_law (fun r => r = 1) L xs :=
  wk_law (fun so go k S => k ≤ 261 → rx_X so go k S) (fun so go hso hgo hsg => rx_zz hso hgo (hH so go hso hgo hsg)) xs L hL
