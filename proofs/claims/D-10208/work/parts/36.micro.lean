/-! ## the micro run: 1 + 1024 + 64 steps a moment -/
theorem rf_ita {σ : Type} (f : Nat → σ → σ) (m : Nat) : ∀ n (S : σ), zz_it f (m + n) S = zz_it (fun k => f (m + k)) n (zz_it f m S) := by
  intro n
  induction n with
  | zero => intro S; rfl
  | succ n ih =>
    intro S
    show f (m + n) (zz_it f (m + n) S) = f (m + n) (zz_it (fun k => f (m + k)) n (zz_it f m S))
    rw [ih]
theorem rf_itc {σ : Type} {f g : Nat → σ → σ} : ∀ n (S : σ), (∀ k, k < n → ∀ T, f k T = g k T) → zz_it f n S = zz_it g n S := by
  intro n
  induction n with
  | zero => intro S _; rfl
  | succ n ih =>
    intro S h
    show f n (zz_it f n S) = g n (zz_it g n S)
    rw [ih S (fun k hk T => h k (by omega) T), h n (by omega)]
theorem rf_it8 {σ : Type} (h : Nat → Nat → σ → σ) : ∀ a (S : σ), zz_it (fun k => h (k / 8) (k % 8)) (8 * a) S = zz_it (fun a => zz_it (h a) 8) a S := by
  intro a
  induction a with
  | zero => intro S; rfl
  | succ a ih =>
    intro S
    rw [show 8 * (a + 1) = 8 * a + 8 by omega, rf_ita, ih]
    show _ = zz_it (h a) 8 (zz_it (fun a => zz_it (h a) 8) a S)
    refine rf_itc 8 _ (fun k hk T => ?_)
    show h ((8 * a + k) / 8) ((8 * a + k) % 8) T = h a k T
    rw [show (8 * a + k) / 8 = a by omega, show (8 * a + k) % 8 = k by omega]
noncomputable def rf_step (k : Nat) (T : zz_T) : zz_T := if k = 0 then mm_tick T else if k ≤ 1024 then mm_lst (k - 1) T else mm_ub ((k - 1025) / 8) ((k - 1025) % 8) T
theorem rf_mom (S : zz_T) : zz_it rf_step 1089 S = mm_mom S := by
  rw [show (1089 : Nat) = (1 + 1024) + 8 * 8 from rfl, rf_ita, rf_ita]
  have h1 : zz_it rf_step 1 S = mm_tick S := by
    show rf_step 0 S = _
    unfold rf_step
    rw [if_pos rfl]
  have h2 : ∀ T, zz_it (fun k => rf_step (1 + k)) 1024 T = mm_listen T := by
    intro T
    unfold mm_listen
    refine rf_itc 1024 T (fun k hk U => ?_)
    unfold rf_step
    rw [if_neg (by omega), if_pos (by omega), show 1 + k - 1 = k by omega]
  have h3 : ∀ T, zz_it (fun k => rf_step (1 + 1024 + k)) (8 * 8) T = zz_it mm_ua 8 T := by
    intro T
    have e : zz_it (fun k => rf_step (1 + 1024 + k)) (8 * 8) T = zz_it (fun k => mm_ub (k / 8) (k % 8)) (8 * 8) T := by
      refine rf_itc _ T (fun k hk U => ?_)
      unfold rf_step
      rw [if_neg (by omega), if_neg (by omega), show 1 + 1024 + k - 1025 = k by omega]
    rw [e]
    exact rf_it8 mm_ub 8 T
  rw [h1, h2, h3]
  rfl
theorem rf_mom2 (S : zz_T) (m : Nat) (h : m + 1 = 1089) : rf_step m (zz_it rf_step m S) = mm_mom S := by
  have e := rf_mom S
  rw [← h] at e
  exact e
theorem rf_it0 {σ : Type} (f : Nat → σ → σ) (S : σ) : zz_it f 0 S = S := rfl
theorem rf_it1 {σ : Type} (f : Nat → σ → σ) (n : Nat) (S : σ) : zz_it f (n + 1) S = f n (zz_it f n S) := rfl
noncomputable def rf_mo (S : zz_T) : Nat → zz_T
  | 0 => S
  | t + 1 => mm_mom (rf_mo S t)
noncomputable def rf_S (S : zz_T) (n : Nat) : zz_T := zz_it rf_step (n % 1089) (rf_mo S (n / 1089))
theorem rf_mo1 (S : zz_T) (t : Nat) : rf_mo S (t + 1) = mm_mom (rf_mo S t) := rfl
theorem rf_S1 (S : zz_T) (n : Nat) : rf_S S (n + 1) = rf_step (n % 1089) (rf_S S n) := by
  unfold rf_S
  by_cases h : n % 1089 = 1088
  · have e1 : (n + 1) % 1089 = 0 := by omega
    have e2 : (n + 1) / 1089 = n / 1089 + 1 := by omega
    rw [e1, e2, h, rf_it0, rf_mo1, rf_mom2 _ 1088 rfl]
  · have e1 : (n + 1) % 1089 = n % 1089 + 1 := by omega
    have e2 : (n + 1) / 1089 = n / 1089 := by omega
    rw [e1, e2, rf_it1]
theorem rf_Sm (S : zz_T) (t : Nat) : rf_S S (1089 * t) = rf_mo S t := by
  unfold rf_S
  rw [show 1089 * t % 1089 = 0 by omega, show 1089 * t / 1089 = t by omega, rf_it0]
/-- what a listening step hears -/
def rf_hs (i : Nat) (T : zz_T) : Prop := ¬ T 32 i = 0 ∧ ¬ T 4 0 < T 35 i ∧ mm_up T (rf_c (T 33 i)) (T 34 i)
noncomputable def rf_K (S : zz_T) (n : Nat) : Nat := if n % 1089 = 0 then 0 else if n % 1089 ≤ 1024 then ab_if (rf_hs (n % 1089 - 1) (rf_S S n)) 1 3 else if (n % 1089 - 1025) / 8 = (n % 1089 - 1025) % 8 then 3 else 2
noncomputable def rf_s (S : zz_T) (n : Nat) : Nat := if n % 1089 ≤ 1024 then rf_c (rf_S S n 34 (n % 1089 - 1)) else (n % 1089 - 1025) / 8
noncomputable def rf_p (S : zz_T) (n : Nat) : Nat := if n % 1089 ≤ 1024 then rf_c (rf_S S n 33 (n % 1089 - 1)) else (n % 1089 - 1025) % 8
noncomputable def rf_X (S : zz_T) (n : Nat) : ab_F := rf_sl (rf_S S n) (n % 1089 - 1)
noncomputable def rf_Z (S : zz_T) : ab_Z := (rf_u S, rf_l S, fun a b => rf_c (S 14 (a + 8 * b)), fun a b => rf_c (S 15 (a + 8 * b)), fun n => rf_a (rf_S S n), rf_K S, rf_s S, rf_p S, rf_X S)
/-- slots: numbers, stations, bounds -/
def rf_q (B : Nat) (S : zz_T) : Prop := ∀ i, i < 1024 → ¬ S 32 i = 0 → rf_sm S i ∧ rf_c (S 33 i) < 8 ∧ rf_c (S 34 i) < 8 ∧ rf_sl S i 3 < 5 ∧ rf_sl S i 4 < 8 ∧ rf_sl S i 5 < 8 ∧ rf_sl S i 6 < B ∧ rf_sl S i 7 < B ∧ rf_sl S i 8 < B ∧ (rf_sl S i 3 = 1 → rf_sl S i 8 = 0) ∧ (3 ≤ rf_sl S i 3 → rf_sl S i 7 = 0)
/-- the frame of a slot, read -/
theorem rf_rd {B i : Nat} {T : zz_T} (hi : i < 1024) (hu : ¬ T 32 i = 0) (hq : rf_q B T) (hB : B ≤ 2 ^ 29) : ∀ U, U = zz_it (mm_rd1 i) 12 (zz_s T 32 i 0) →
    rf_r U (rf_sl T i 3) (rf_sl T i 4) (rf_sl T i 5) (rf_sl T i 6) (rf_sl T i 7) (rf_sl T i 8) ∧ T 33 i = nI (rf_c (T 33 i)) ∧ T 34 i = nI (rf_c (T 34 i)) ∧ (∀ f, f ≠ 43 → f ≠ 32 → U f = T f) := by
  intro U hU
  obtain ⟨⟨m33, m34, m35, m36⟩, s1, s2, b3, b4, b5, b6, b7, b8, b9⟩ := hq i hi hu
  obtain ⟨k1, k2⟩ := zz_rdk (i := i) (S := zz_s T 32 i 0)
  rw [← hU] at k1 k2
  have e36 : ∀ j, zz_s T 32 i 0 36 j = T 36 j := fun j => by rw [zz_sn (by decide)]
  have w0 : T 36 (i * 12) = nI (rf_sl T i 3) := by have := (m36 0 (by omega)).1; rw [Nat.add_zero] at this; exact this
  refine ⟨⟨b3, b4, b5, by omega, by omega, by omega, ?_, ?_, ?_, ?_, ?_, ?_⟩, m33.1, m34.1, fun f h1 h2 => (k1 f h1).trans (zz_sn h2)⟩
  · rw [k2 0 (by omega), e36, Nat.add_zero]; exact w0
  · rw [k2 1 (by omega), e36]; exact (m36 1 (by omega)).1
  · rw [k2 2 (by omega), e36]; exact (m36 2 (by omega)).1
  · rw [k2 3 (by omega), e36]; exact (m36 3 (by omega)).1
  · rw [k2 4 (by omega), e36]; exact (m36 4 (by omega)).1
  · rw [k2 5 (by omega), e36]; exact (m36 5 (by omega)).1
/-! ## every micro step is a step of the machine -/
theorem rf_lst {i : Nat} {T : zz_T} : (rf_hs i T → mm_lst i T = mm_lst1 i (rf_c (T 33 i)) (rf_c (T 34 i)) T) ∧ (¬ rf_hs i T → (mm_lst i T = T ∧ (T 32 i = 0 ∨ T 4 0 < T 35 i)) ∨ (mm_lst i T = zz_s T 32 i 0 ∧ ¬ T 4 0 < T 35 i)) := by
  have hu : mm_up (zz_s T 32 i 0) (rf_c (T 33 i)) (T 34 i) ↔ mm_up T (rf_c (T 33 i)) (T 34 i) := by
    unfold mm_up
    rw [zz_sn (by decide)]
  have hu' : mm_up (zz_s T 32 i 0) (T 33 i).toNatClampNeg (T 34 i) ↔ mm_up T (rf_c (T 33 i)) (T 34 i) := hu
  unfold mm_lst
  constructor
  · intro h
    rw [if_neg h.1, if_neg h.2.1, if_pos (hu'.2 h.2.2)]
    rfl
  · intro h
    by_cases c1 : T 32 i = 0
    · rw [if_pos c1]; exact Or.inl ⟨rfl, Or.inl c1⟩
    · rw [if_neg c1]
      by_cases c2 : T 4 0 < T 35 i
      · rw [if_pos c2]; exact Or.inl ⟨rfl, Or.inr c2⟩
      · rw [if_neg c2, if_neg (fun z => h ⟨c1, c2, hu'.1 z⟩)]
        exact Or.inr ⟨rfl, c2⟩
/-- what stays in a stretch without progress -/
abbrev rf_cf (f : Nat) : Prop := f = 1 ∨ f = 2 ∨ f = 6 ∨ f = 8 ∨ f = 9 ∨ f = 10 ∨ f = 14 ∨ f = 15
theorem rf_lc {S T : zz_T} (h : ∀ f, rf_cf f → T f = S f) : rf_l T = rf_l S := by
  funext a b
  unfold rf_l mm_snd
  rw [h 15 (by decide), h 14 (by decide), h 6 (by decide), zz_fwc (h 1 (by decide)) (h 2 (by decide)) (h 8 (by decide)) (h 9 (by decide)) (h 10 (by decide))]
/-- taking a message over shows in accepted or in the wanted piece -/
theorem rf_acc15 {a b : Nat} {S : zz_T} : mm_acc a b S 15 (a + 8 * b) = S 15 (a + 8 * b) + 1 := by
  have h : ∀ T : zz_T, T 15 = S 15 → mm_ac90 (a + 8 * b) T 15 (a + 8 * b) = S 15 (a + 8 * b) + 1 := by
    intro T hT
    unfold mm_ac90
    rw [zz_sn (by decide), zz_sn (by decide), zz_se, pk_us, hT]
  unfold mm_acc
  cases hfw : mm_fw S (nI a) (nI b) with
  | none => exact h _ rfl
  | some m =>
    show mm_acM (a + 8 * b) m S 15 (a + 8 * b) = _
    unfold mm_acM
    refine h _ ?_
    rw [zz_sn (by decide)]
    unfold mm_acL
    rw [zz_itn (fun k T => zz_sn (by decide)), zz_sn (by decide)]

theorem rf_passo {s f : Nat} {S : zz_T} (h : f < 32) (h5 : f ≠ 5) (h18 : f ≠ 18) : mm_pass s S f = S f := by
  unfold mm_pass
  split
  · rfl
  · split
    · exact zz_sendo (Or.inl ⟨h5, h⟩)
    · exact zz_giveo (Or.inl ⟨h5, h⟩) h18 (by omega)
theorem rf_keepo {p f : Nat} {S : zz_T} (h : f ≠ 30 ∧ f ≠ 31) : mm_keep p S f = S f := by
  unfold mm_keep
  refine zz_itn (fun k T => ?_) _ S
  unfold mm_kp
  rw [zz_sn h.1, zz_sn h.2]
theorem rf_hpK15 {p : Nat} {S : zz_T} : mm_hpK p S 15 = S 15 := by
  unfold mm_hpK
  rw [zz_sn (by decide), rf_keepo (by decide)]
theorem rf_np3 {s f c : Nat} {U : zz_T} (hs : s < 8) (hf : f < 8) (e1 : U 43 1 = nI f) (e2 : U 43 2 = nI s) (e15 : U 15 (f + 8 * s) = nI c) (hc : c < 2 ^ 30) (e29 : U 29 (f + 8 * s) = nI 0) (h15 : mm_hearPiece s U 15 = U 15) (h29 : mm_hearPiece s U 29 (f + 8 * s) = nI 0) :
    ¬ (U 43 3 = U 15 (f + 8 * s) ∧ U 43 4 = U 29 (f + 8 * s)) := by
  intro h
  unfold mm_hearPiece at h15 h29
  rw [if_pos e2, e1, nI_clamp (show f < 2 ^ 31 by omega)] at h15 h29
  unfold mm_hp92 at h15 h29
  rw [rf_passo (by decide) (by decide) (by decide), rf_anWo (by decide)] at h15 h29
  unfold mm_hpT at h15 h29
  rw [if_pos h] at h15 h29
  by_cases d : U 43 7 = 1
  · rw [if_pos d] at h15
    have e := congrFun h15 (f + 8 * s)
    rw [rf_acc15, rf_hpK15, e15, nI_1] at e
    have := (nI_eq (show c + 1 < 2 ^ 31 by omega) (show c < 2 ^ 31 by omega)).1 e
    omega
  · rw [if_neg d] at h29
    unfold mm_hpK at h29
    rw [zz_se, pk_us, rf_keepo (by decide), e29, nI_1, zz_8 (0 + 1) (by omega)] at h29
    have := (nI_eq (show 0 + 1 < 2 ^ 31 by omega) (show 0 < 2 ^ 31 by omega)).1 h29
    omega
theorem rf_np4 {s f n c : Nat} {U : zz_T} (hs : s < 8) (hf : f < 8) (e1 : U 43 1 = nI f) (e2 : U 43 2 = nI s) (e3 : U 43 3 = nI n) (e4 : U 43 4 = nI 0) (e14 : U 14 (s + 8 * f) = nI c) (e25 : U 25 (s + 8 * f) = nI 0) (h14 : mm_hearAnswer s U 14 = U 14) : ¬ mm_anP (s + 8 * f) U := by
  intro h
  unfold mm_hearAnswer at h14
  rw [if_pos e2, e1, nI_clamp (show f < 2 ^ 31 by omega), if_pos h] at h14
  unfold mm_anS at h14
  have e := congrFun h14 (s + 8 * f)
  rw [zz_sn (by decide), zz_sn (by decide), zz_sn (by decide), zz_se, pk_us] at e
  exact h.2.2 ⟨e, by rw [e4, e25]⟩
/-! ## slots along the run -/
/-- a frame's numbers are small -/
def rf_fb (B : Nat) (w : ab_F) : Prop := w 3 < 5 ∧ w 4 < 8 ∧ w 5 < 8 ∧ w 6 < B ∧ w 7 < B ∧ w 8 < B ∧ (w 3 = 1 → w 8 = 0) ∧ (3 ≤ w 3 → w 7 = 0)
theorem rf_fbm {B C : Nat} {w : ab_F} (h : rf_fb B w) (hB : B ≤ C) : rf_fb C w := by
  obtain ⟨a, b, c, d, e, f, g, i⟩ := h
  exact ⟨a, b, c, by omega, by omega, by omega, g, i⟩
def rf_Q (B : Nat) (S : zz_T) : Prop := ∀ i, i < 1024 → ¬ S 32 i = 0 → rf_sm S i ∧ rf_c (S 33 i) < 8 ∧ rf_c (S 34 i) < 8 ∧ rf_fb B (rf_sl S i)
theorem rf_Qq {B : Nat} {S : zz_T} (h : rf_Q B S) : rf_q B S := by
  intro i hi hu
  obtain ⟨a, b, c, d1, d2, d3, d4, d5, d6, d7, d8⟩ := h i hi hu
  exact ⟨a, b, c, d1, d2, d3, d4, d5, d6, d7, d8⟩
theorem rf_Qm {B C : Nat} {S : zz_T} (h : rf_Q B S) (hB : B ≤ C) : rf_Q C S := fun i hi hu => by
  obtain ⟨a, b, c, d⟩ := h i hi hu
  exact ⟨a, b, c, rf_fbm d hB⟩
theorem rf_Qc {B : Nat} {S T : zz_T} (h : ∀ f, f = 32 ∨ f = 33 ∨ f = 34 ∨ f = 35 ∨ f = 36 → T f = S f) (k : rf_Q B S) : rf_Q B T := by
  intro i hi hu
  have e : rf_ss S T i := ⟨by rw [h 32 (by omega)], by rw [h 33 (by omega)], by rw [h 34 (by omega)], by rw [h 35 (by omega)], fun q _ => by rw [h 36 (by omega)]⟩
  rw [e.1] at hu
  obtain ⟨a, b, c, d⟩ := k i hi hu
  refine ⟨rf_smc e a, ?_, ?_, ?_⟩
  · rw [e.2.1]; exact b
  · rw [e.2.2.1]; exact c
  · rw [rf_sss e]; exact d
theorem rf_Q32 {B i : Nat} {S : zz_T} (k : rf_Q B S) : rf_Q B (zz_s S 32 i 0) := by
  intro j hj hu
  have hne : j ≠ i := fun e => hu (by rw [zz_se, e, pk_us])
  rw [zz_se, pk_un hne] at hu
  have e : ∀ f, f ≠ 32 → zz_s S 32 i 0 f = S f := fun f hf => zz_sn hf
  obtain ⟨a, b, c, d⟩ := k j hj hu
  unfold rf_sm rf_sl at *
  rw [e 33 (by decide), e 34 (by decide), e 35 (by decide), e 36 (by decide)]
  exact ⟨a, b, c, d⟩
/-- slots behind a step that puts frames of O -/
theorem rf_Qg {B m : Nat} {S T : zz_T} {O : ab_F → Prop} (g : rf_rg S T m O) (k : rf_Q B S) (hO : ∀ w, O w → w 1 < 8 ∧ w 2 < 8 ∧ rf_fb B w) : rf_Q B T := by
  obtain ⟨j, hj, a1, a2, a3, a4, a5, a6⟩ := g
  intro i hi hu
  rcases a5 i hi with ⟨q, q1, q2, q3, q4, q5, q6⟩ | ⟨_, q2⟩
  · obtain ⟨c1, c2, c3⟩ := hO _ q5
    exact ⟨q6, c1, c2, c3⟩
  · rw [q2.1] at hu
    obtain ⟨a, b, c, d⟩ := k i hi hu
    refine ⟨rf_smc q2 a, ?_, ?_, ?_⟩
    · rw [q2.2.1]; exact b
    · rw [q2.2.2.1]; exact c
    · rw [rf_sss q2]; exact d
/-- numbers of the picture -/
theorem rf_b4a {B s : Nat} {S : zz_T} (h : rf_b B S) (hB : B ≤ 2 ^ 29) (hs : s < 8) : rf_a S 4 s 0 < B := by
  obtain ⟨n, hn, e⟩ := h.2.1 s hs
  rw [rf_4r hs, e, rf_cn (by omega)]
  exact hn
theorem rf_b5a {B s : Nat} {S : zz_T} (h : rf_b B S) (hB : B ≤ 2 ^ 29) (hs : s < 8) : rf_a S 5 s 0 < B := by
  obtain ⟨n, hn, e⟩ := h.2.2.1 s hs
  rw [rf_5r hs, e, rf_cn (by omega)]
  exact hn
theorem rf_b3a {B s c : Nat} {S : zz_T} (h : rf_b B S) (hB : B ≤ 2 ^ 29) (hs : s < 8) (hc : c < 8) : rf_a S 3 s c < B := by
  obtain ⟨n, hn, e⟩ := h.2.2.2.2.1 (s * 8 + c) (by omega)
  rw [rf_3r hs hc, e, rf_cn (by omega)]
  exact hn
/-- a LOSS in the picture names a station -/
theorem rf_oL {B s t : Nat} {S : zz_T} {w : ab_F} (h : rf_b B S) (hB : B ≤ 2 ^ 29) (hB2 : 16 ≤ B) (hs : s < 8) (hw : ab_oL (rf_a S) s t w) : w 1 < 8 ∧ rf_fb B w := by
  obtain ⟨c, r, e, e8⟩ := hw
  have hc : c < 8 := by
    by_cases z : c < 8
    · exact z
    · exfalso
      have : rf_a S 1 s c = 0 := if_neg (fun y => z y.2)
      omega
  have := rf_b3a h hB hs hc
  rw [e]
  refine ⟨hs, by show 2 < 5; omega, hs, hc, this, by show 0 < B; omega, by show 0 < B; omega, fun _ => rfl, fun z => ?_⟩
  have : (3 : Nat) ≤ 2 := z
  omega
theorem rf_u8 {S : zz_T} {p q : Nat} (h : rf_u S p q) : q < 8 := h.2.1
/-- what a hearing sends is small -/
theorem rf_hfb {B s p : Nat} {S U R : zz_T} {ac : Nat → Nat → Nat} {x w : ab_F} (hB : B + 1 ≤ 2 ^ 29) (hB2 : 16 ≤ B) (hs : s < 8) (hU : rf_b B U) (hR : rf_b (B + 1) R) (eR : rf_a R = (ab_h (rf_u S) ac s p x (rf_a U)).1) (hx : rf_fb B x) (hac : ac (x 4) s < B)
    (h : (ab_h (rf_u S) ac s p x (rf_a U)).2 w) : w 1 < 8 ∧ w 2 < 8 ∧ rf_fb (B + 1) w := by
  obtain ⟨x3, x4, x5, x6, x7, x8, xt, xp⟩ := hx
  obtain ⟨hu, y⟩ := ab_hho h
  have h2 := rf_u8 hu
  have own := rf_b4a hU (by omega) hs
  rcases y with ⟨e3, _, _, e⟩ | ⟨e3, _, _, e, e4, _⟩ | ⟨e3, _, e, _⟩ | ⟨e3, _, e8, e, _⟩ | ⟨e3, _, e, _⟩ | y
  · refine ⟨by rw [e]; exact hs, h2, ?_⟩
    rw [e]
    refine ⟨by show 0 < 5; omega, x4, x5, by show x 6 < B + 1; omega, by show x 7 + 1 < B + 1; omega, by show x 8 < B + 1; omega, fun z => ?_, fun z => ?_⟩
    · have : (0 : Nat) = 1 := z
      omega
    · have : (3 : Nat) ≤ 0 := z
      omega
  · refine ⟨by rw [e]; exact hs, h2, ?_⟩
    rw [e]
    refine ⟨by show 1 < 5; omega, hs, x4, ?_, by show 0 < B + 1; omega, by show 0 < B + 1; omega, fun z => rfl, fun z => ?_⟩
    · show (ab_h (rf_u S) ac s p x (rf_a U)).1 4 s 0 < B + 1
      omega
    · have : (3 : Nat) ≤ 1 := z
      omega
  · refine ⟨by rw [e]; exact hs, h2, ?_⟩
    rw [e]
    refine ⟨by show 1 < 5; omega, x4, x5, by show x 6 < B + 1; omega, by show x 7 + 1 < B + 1; omega, by show 0 < B + 1; omega, fun z => rfl, fun z => ?_⟩
    have : (3 : Nat) ≤ 1 := z
    omega
  · refine ⟨by rw [e]; exact hs, h2, ?_⟩
    rw [e]
    refine ⟨x3, x4, x5, by show x 6 < B + 1; omega, by show x 7 < B + 1; omega, by show x 8 - 1 < B + 1; omega, fun z => ?_, fun z => xp e3⟩
    have : x 3 = 1 := z
    omega
  · refine ⟨by rw [e]; exact hs, h2, ?_⟩
    rw [e]
    refine ⟨by show 4 < 5; omega, hs, x4, by show ac (x 4) s < B + 1; omega, by show 0 < B + 1; omega, by show 8 < B + 1; omega, fun z => ?_, fun z => rfl⟩
    have : (4 : Nat) = 1 := z
    omega
  · rw [← eR] at y
    obtain ⟨a, b⟩ := rf_oL hR hB (by omega) hs y
    exact ⟨a, h2, b⟩
/-- what an urging sends is small -/
theorem rf_ufb {B a b : Nat} {S U : zz_T} {lv : Nat → Nat → Prop} {cf : Nat → Nat → Nat} {w : ab_F} (hB : B + 1 ≤ 2 ^ 29) (hB2 : 16 ≤ B) (ha : a < 8) (hb : b < 8) (hU : rf_b B U) (hcf : cf a b < B)
    (h : (ab_u (rf_u S) lv cf a b (rf_a U)).2 w) : w 1 < 8 ∧ w 2 < 8 ∧ rf_fb (B + 1) w := by
  have own := rf_b4a hU (by omega) ha
  have qs := rf_b5a hU (by omega) ha
  have nr := rf_b3a hU (by omega) ha hb
  have loss : ∀ r, rf_u S a r → w = ab_pt (rf_a U 0 0 0) a r (ab_fr 2 a b (rf_a U 3 a b) 0 0) → w 1 < 8 ∧ w 2 < 8 ∧ rf_fb (B + 1) w := by
    intro r ur e
    rw [e]
    refine ⟨ha, rf_u8 ur, by show 2 < 5; omega, ha, hb, by show rf_a U 3 a b < B + 1; omega, by show 0 < B + 1; omega, by show 0 < B + 1; omega, fun z => rfl, fun z => ?_⟩
    have : (3 : Nat) ≤ 2 := z
    omega
  rcases ab_uc (u := rf_u S) (lv := lv) (cf := cf) (a := a) (b := b) (D := rf_a U) with ⟨z, _⟩ | ⟨hl, _, ⟨z, _, _, _, y⟩ | ⟨_, y⟩⟩
  · rw [z] at h
    exact absurd h (fun z => z)
  · have hh := y.1.2
    rw [y.2] at h
    have e : w = ab_pt _ a (rf_a U 1 a b) (ab_fr 3 a b (cf a b) 0 8) := h
    rw [e]
    refine ⟨ha, rf_u8 hh, by show 3 < 5; omega, ha, hb, by show cf a b < B + 1; omega, by show 0 < B + 1; omega, by show 8 < B + 1; omega, fun z => ?_, fun z => rfl⟩
    have : (3 : Nat) = 1 := z
    omega
  · obtain ⟨_, _, y | y⟩ := ab_nwc y
    · obtain ⟨r, ur, e⟩ := y.2.2.2.2.2 w h
      exact loss r ur e
    · rcases y.2.2.2.2.2.2.2 w h with ⟨r, hr, ur, e⟩ | ⟨r, ur, e⟩
      · rw [e]
        refine ⟨ha, hr, by show 0 < 5; omega, ha, hb, by show rf_a U 4 a 0 + 1 < B + 1; omega, by show 0 < B + 1; omega, by show rf_a U 5 a 0 + 1 < B + 1; omega, fun z => ?_, fun z => ?_⟩
        · have : (0 : Nat) = 1 := z
          omega
        · have : (3 : Nat) ≤ 0 := z
          omega
      · exact loss r ur e
