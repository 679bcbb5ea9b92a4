/-! ## the settling loop -/
def rx_ok (so go a b : Nat) : Prop := a ≠ b ∧ (a = 0 ∨ a = 4 ∨ (a = so ∧ b = go))
/-- messages come from the stations 0, 4 and the law's own source; other pairs never sent -/
def rx_src (so go : Nat) (S : zz_T) : Prop := (∀ m a b, m < 16 → a < 8 → b < 8 → mm_has S m → S 9 m = nI a → S 10 m = nI b → rx_ok so go a b) ∧ (∀ a b, a < 8 → b < 8 → ¬ rx_ok so go a b → S 14 (a + 8 * b) = S 15 (a + 8 * b))
theorem rx_srcS {so go : Nat} {S T : zz_T} (h : ∀ f, f = 1 ∨ f = 9 ∨ f = 10 ∨ f = 14 ∨ f = 15 → T f = S f) (k : rx_src so go S) : rx_src so go T := by
  unfold rx_src mm_has
  rw [h 1 (by decide), h 9 (by decide), h 10 (by decide), h 14 (by decide), h 15 (by decide)]
  exact k
theorem rx_srcP {so go : Nat} {S T : zz_T} (h : rp_S S T ∨ rp_A S T ∨ rp_B S T) (k : rx_src so go S) : rx_src so go T := by
  rcases h with h | ⟨f, g, m, hf, hg, hm, hw, hF, hT, e14, _, ho⟩ | ⟨f, g, hf, hg, hF, hn, e14, ho⟩
  · exact rx_srcS (fun f hf => h f (by unfold rf_cf; omega)) k
  · have hok : rx_ok so go f g := k.1 m f g hm hf hg hw.1 hw.2.2.1 hw.2.2.2
    refine ⟨fun q a b hq ha hb z1 z2 z3 => ?_, fun a b ha hb hn => ?_⟩
    · unfold mm_has at z1
      rw [hF 1 (by omega)] at z1
      rw [hF 9 (by omega)] at z2
      rw [hF 10 (by omega)] at z3
      exact k.1 q a b hq ha hb z1 z2 z3
    · have hne : a + 8 * b ≠ f + 8 * g := fun e => by
        obtain ⟨rfl, rfl⟩ := zz_pp ha hf e
        exact hn hok
      rw [hF 14 (by omega), ho _ hne]
      exact k.2 a b ha hb hn
  · refine ⟨fun q a b hq ha hb z1 z2 z3 => ?_, fun a b ha hb hn => ?_⟩
    · unfold mm_has at z1
      rw [hF 1 (by omega)] at z1
      rw [hF 9 (by omega)] at z2
      rw [hF 10 (by omega)] at z3
      exact k.1 q a b hq ha hb z1 z2 z3
    · by_cases e : a + 8 * b = f + 8 * g
      · rw [e, e14, hF 15 (by omega)]
      · rw [ho _ e, hF 15 (by omega)]
        exact k.2 a b ha hb hn
theorem rx_step {N k : Nat} {Z T : zz_T} (hN : N < 2 ^ 30) (hk : k < 1089) (h : zz_J N Z T) : rp_S T (rf_step k T) ∨ rp_A T (rf_step k T) ∨ rp_B T (rf_step k T) := by
  unfold rf_step
  split
  · exact Or.inl (fun f hf => zz_sn (by unfold rf_cf at hf; omega))
  · split
    · exact rp_lst hN (by omega) h
    · exact Or.inl rp_ub
theorem rx_mi {so go N : Nat} {Z S : zz_T} (hN : N < 2 ^ 30) (h : zz_J N Z S) (k : rx_src so go S) : ∀ n, rx_src so go (rf_S S n) := by
  intro n
  induction n with
  | zero => exact k
  | succ n ih =>
    rw [rf_S1]
    exact rx_srcP (rx_step hN (Nat.mod_lt _ (by decide)) (rp_mi hN h n)) ih
/-- what may still happen -/
noncomputable def rx_pot (S : zz_T) : Nat := 2 * zz_cnt (mm_has S) 16 + 80 - (rv_m S + rv_o S)
theorem rx_len {P : Nat → Prop} {n : Nat} : ∀ (l : List Nat) (P : Nat → Prop), (∀ p, p < n → P p → p ∈ l) → zz_cnt P n ≤ l.length := by
  intro l
  induction l with
  | nil =>
    intro P h
    have : ∀ m, m ≤ n → zz_cnt P m = 0 := by
      intro m
      induction m with
      | zero => exact fun _ => rfl
      | succ m ih =>
        intro hm
        unfold zz_cnt
        rw [ih (by omega), if_neg (fun z => by have := h m (by omega) z; exact absurd this (by simp))]
    rw [this n (Nat.le_refl _)]
    exact Nat.zero_le _
  | cons a l ih =>
    intro P h
    have h1 := (rv_c1 (P := P) (Q := fun p => P p ∧ p ≠ a) (j := a) n (fun k _ hne z => ⟨z, hne⟩)).1
    have h2 := ih (fun p => P p ∧ p ≠ a) (fun p hp z => by
      have := h p hp z.1
      rw [List.mem_cons] at this
      rcases this with e | e
      · exact absurd e z.2
      · exact e)
    show _ ≤ l.length + 1
    omega
theorem rx_cc {P : Nat → Prop} : ∀ n, zz_cnt P n + zz_cnt (fun p => ¬ P p) n = n := by
  intro n
  induction n with
  | zero => rfl
  | succ n ih =>
    unfold zz_cnt
    by_cases c : P n
    · rw [if_pos c, if_neg (fun z => z c)]
      omega
    · rw [if_neg c, if_pos c]
      omega
theorem rx_potb {so go N : Nat} {S : zz_T} (hso : so < 8) (hgo : go < 8) (hK : zz_K N S) (k : rx_src so go S) : rx_pot S ≤ 63 ∧ rx_pot S + (rv_m S + rv_o S) = 2 * zz_cnt (mm_has S) 16 + 80 := by
  have h1 := zz_cntm (P := mm_isT S) (Q := mm_has S) 16 (fun m hm z => hK.2.2.2.1 m hm z)
  have h2 := zz_cntle (P := mm_has S) 16
  have h3 := zz_cntle (P := fun i => S 38 i = 0) 16
  have h4 := rx_cc (P := fun p => S 14 p = S 15 p) 64
  have h5 := rx_len (P := fun _ => True) (n := 64) [8, 16, 24, 32, 40, 48, 56, 4, 12, 20, 28, 44, 52, 60, so + 8 * go] (fun p => ¬ S 14 p = S 15 p) (fun p hp z => by
    by_cases c : rx_ok so go (p % 8) (p / 8)
    · obtain ⟨c1, c2⟩ := c
      simp only [List.mem_cons, List.not_mem_nil, or_false]
      rcases c2 with e | e | ⟨e, e'⟩ <;> omega
    · exfalso
      have := k.2 (p % 8) (p / 8) (by omega) (by omega) c
      rw [show p % 8 + 8 * (p / 8) = p by omega] at this
      exact z this)
  have h6 : ([8, 16, 24, 32, 40, 48, 56, 4, 12, 20, 28, 44, 52, 60, so + 8 * go] : List Nat).length = 15 := rfl
  unfold rx_pot rv_m rv_o
  generalize zz_cnt (mm_has S) 16 = x1 at *
  generalize zz_cnt (mm_isT S) 16 = x2 at *
  generalize zz_cnt (fun p => S 14 p = S 15 p) 64 = x3 at *
  generalize zz_cnt (fun i => S 38 i = 0) 16 = x4 at *
  generalize zz_cnt (fun p => ¬ S 14 p = S 15 p) 64 = x5 at *
  omega
/-- a settling that began with Z: no frame in the air -/
def rx_Z (so go N B0 : Nat) (Z : zz_T) : Prop := zz_lk Z ∧ N < B0 ∧ 16 ≤ B0 ∧ (∀ i, i < 1024 → Z 32 i = 0) ∧ ri_M N B0 Z Z ∧ rt_P (rf_a Z) ∧ rx_src so go Z
/-- NO STRETCH of 940 moments without an event, while something is ready -/
def rx_H (so go : Nat) : Prop := ∀ N B0 B Z S t, rx_Z so go N B0 Z → B = B0 + 1089 * t → S = rf_mo Z t → B + 1089 * 941 ≤ 2 ^ 29 → ri_M N B Z S → rt_P (rf_a S) → rx_src so go S → zz_cnt (mm_rd S) 16 ≠ 0 → rv_m (rf_mo S 940) = rv_m S → rv_o (rf_mo S 940) = rv_o S → False
theorem rx_moa (S : zz_T) (t : Nat) : ∀ s, rf_mo (rf_mo S t) s = rf_mo S (t + s) := by
  intro s
  induction s with
  | zero => rfl
  | succ s ih =>
    rw [rf_mo1, ih]
    exact (rf_mo1 S (t + s)).symm
theorem rx_run0 {S : zz_T} (h : zz_cnt (mm_rd S) 16 = 0) : ∀ n, mm_run n S = S := by
  intro n
  cases n with
  | zero => rfl
  | succ n =>
    unfold mm_run
    rw [if_pos h]
theorem rx_runt {S : zz_T} : ∀ t n, t ≤ n → (∀ s, s < t → zz_cnt (mm_rd (rf_mo S s)) 16 ≠ 0) → mm_run n S = mm_run (n - t) (rf_mo S t) := by
  intro t
  induction t with
  | zero => intro n _ _; rfl
  | succ t ih =>
    intro n hn h
    rw [ih n (by omega) (fun s hs => h s (by omega))]
    obtain ⟨m, hm⟩ : ∃ m, n - t = m + 1 := ⟨n - t - 1, by omega⟩
    rw [hm, show n - (t + 1) = m by omega]
    show @ite _ (zz_cnt (mm_rd (rf_mo S t)) 16 = 0) (Classical.propDecidable _) _ _ = _
    rw [if_neg (h t (by omega))]
    rfl
theorem rx_rdc {S T : zz_T} (h : rp_S S T) : mm_rd T = mm_rd S := by
  have e6 : ∀ a, mm_rch T a = mm_rch S a := fun a => funext (fun n => zz_rchc (h 6 (by decide)) a n)
  funext m
  unfold mm_rd mm_has mm_isT mm_dist
  rw [h 1 (by decide), h 2 (by decide), h 9 (by decide), h 10 (by decide), e6]
theorem rx_fst {P : Nat → Prop} : ∀ n, P n → ∃ t, t ≤ n ∧ P t ∧ ∀ s, s < t → ¬ P s := by
  intro n
  induction n using Nat.strongRecOn with
  | _ n ih =>
    intro h
    by_cases e : ∃ s, s < n ∧ P s
    · obtain ⟨s, s1, s2⟩ := e
      obtain ⟨t, t1, t2, t3⟩ := ih s s1 s2
      exact ⟨t, by omega, t2, t3⟩
    · exact ⟨n, Nat.le_refl _, h, fun s hs z => e ⟨s, hs, z⟩⟩
