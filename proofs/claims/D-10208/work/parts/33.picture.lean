/-! ## the picture of a state -/
noncomputable def rf_c (x : Int32) : Nat := x.toNatClampNeg
noncomputable def rf_m (x : Int32) : Nat := ab_if (x = -1) 8 x.toNatClampNeg
noncomputable def rf_a (S : zz_T) : ab_D := fun f i j =>
  match f with
  | 0 => if i = 0 ∧ j = 0 then rf_c (S 4 0) else 0
  | 1 => if i < 8 ∧ j < 8 then rf_m (S 18 (i * 8 + j)) else 0
  | 2 => if i < 8 ∧ j < 8 then rf_c (S 19 (i * 8 + j)) else 0
  | 3 => if i < 8 ∧ j < 8 then rf_c (S 20 (i * 8 + j)) else 0
  | 4 => if i < 8 ∧ j = 0 then rf_c (S 16 i) else 0
  | 5 => if i < 8 ∧ j = 0 then rf_c (S 17 i) else 2 ^ 30
  | 6 => if i < 8 ∧ j < 8 then rf_c (S 21 (i * 8 + j) + 24) else 0
  | 7 => if i < 8 ∧ j < 8 then rf_c (S 28 (i + 8 * j)) else 0
  | 8 => if i < 8 ∧ j < 8 then rf_c (S 26 (i + 8 * j)) else 0
  | 9 => if i < 8 ∧ j < 8 then rf_c (S 27 (i + 8 * j)) else 0
  | 13 => if i < 8 ∧ j < 64 then rf_m (S 22 (i * 64 + j)) else 0
  | 14 => if i < 8 ∧ j < 64 then rf_c (S 23 (i * 64 + j)) else 0
  | 15 => if i < 8 ∧ j = 0 then rf_c (S 24 i) else 0
  | _ => 0
abbrev rf_F (f : Nat) : Prop := f = 4 ∨ (15 < f ∧ f < 25) ∨ f = 26 ∨ f = 27 ∨ f = 28
/-- what the picture does not show -/
theorem rf_same {S T : zz_T} (h : ∀ f, rf_F f → T f = S f) : rf_a T = rf_a S := by
  funext f i j
  unfold rf_a
  rw [h 4 (by decide), h 16 (by decide), h 17 (by decide), h 18 (by decide), h 19 (by decide), h 20 (by decide), h 21 (by decide), h 22 (by decide), h 23 (by decide), h 24 (by decide), h 26 (by decide), h 27 (by decide), h 28 (by decide)]
theorem rf_w {S : zz_T} {F f k i j v : Nat} {x : Int32} (h1 : rf_a (zz_s S F k x) f i j = v) (h2 : ∀ g a b, (g ≠ f ∨ a ≠ i ∨ b ≠ j) → rf_a (zz_s S F k x) g a b = rf_a S g a b) : rf_a (zz_s S F k x) = ab_w (rf_a S) f i j v := by
  funext g a b
  by_cases h : g = f ∧ a = i ∧ b = j
  · obtain ⟨rfl, rfl, rfl⟩ := h
    rw [ab_we, h1]
  · rw [ab_wne (by omega)]
    exact h2 g a b (by omega)
/-- a field of the picture that the written field is not behind -/
theorem rf_o {S T : zz_T} {F : Nat} (h : ∀ g, g ≠ F → T g = S g) (f i j : Nat) (hF : match f with | 0 => F ≠ 4 | 1 => F ≠ 18 | 2 => F ≠ 19 | 3 => F ≠ 20 | 4 => F ≠ 16 | 5 => F ≠ 17 | 6 => F ≠ 21 | 7 => F ≠ 28 | 8 => F ≠ 26 | 9 => F ≠ 27 | 13 => F ≠ 22 | 14 => F ≠ 23 | 15 => F ≠ 24 | _ => True) : rf_a T f i j = rf_a S f i j := by
  unfold rf_a
  split at hF <;> first | rfl | rw [h _ (Ne.symm hF)]
/-! ## one place written, in the picture -/
theorem rf_18 {S : zz_T} {s g : Nat} {x : Int32} (hs : s < 8) (hg : g < 8) : rf_a (zz_s S 18 (s * 8 + g) x) = ab_w (rf_a S) 1 s g (rf_m x) := by
  refine rf_w ?_ ?_
  · show (if s < 8 ∧ g < 8 then _ else _) = _
    rw [if_pos ⟨hs, hg⟩, zz_se, pk_us]
  · intro q a b h
    by_cases e : q = 1
    · subst e
      show (if a < 8 ∧ b < 8 then _ else _) = (if a < 8 ∧ b < 8 then _ else _)
      by_cases r : a < 8 ∧ b < 8
      · rw [if_pos r, if_pos r, zz_se, pk_un (show a * 8 + b ≠ s * 8 + g by omega)]
      · rw [if_neg r, if_neg r]
    · refine rf_o (F := 18) (fun g hg => zz_sn hg) q a b ?_
      split <;> first | decide | (exfalso; omega) | trivial
theorem rf_19 {S : zz_T} {s g : Nat} {x : Int32} (hs : s < 8) (hg : g < 8) : rf_a (zz_s S 19 (s * 8 + g) x) = ab_w (rf_a S) 2 s g (rf_c x) := by
  refine rf_w ?_ ?_
  · show (if s < 8 ∧ g < 8 then _ else _) = _
    rw [if_pos ⟨hs, hg⟩, zz_se, pk_us]
  · intro q a b h
    by_cases e : q = 2
    · subst e
      show (if a < 8 ∧ b < 8 then _ else _) = (if a < 8 ∧ b < 8 then _ else _)
      by_cases r : a < 8 ∧ b < 8
      · rw [if_pos r, if_pos r, zz_se, pk_un (show a * 8 + b ≠ s * 8 + g by omega)]
      · rw [if_neg r, if_neg r]
    · refine rf_o (F := 19) (fun g hg => zz_sn hg) q a b ?_
      split <;> first | decide | (exfalso; omega) | trivial
theorem rf_20 {S : zz_T} {s g : Nat} {x : Int32} (hs : s < 8) (hg : g < 8) : rf_a (zz_s S 20 (s * 8 + g) x) = ab_w (rf_a S) 3 s g (rf_c x) := by
  refine rf_w ?_ ?_
  · show (if s < 8 ∧ g < 8 then _ else _) = _
    rw [if_pos ⟨hs, hg⟩, zz_se, pk_us]
  · intro q a b h
    by_cases e : q = 3
    · subst e
      show (if a < 8 ∧ b < 8 then _ else _) = (if a < 8 ∧ b < 8 then _ else _)
      by_cases r : a < 8 ∧ b < 8
      · rw [if_pos r, if_pos r, zz_se, pk_un (show a * 8 + b ≠ s * 8 + g by omega)]
      · rw [if_neg r, if_neg r]
    · refine rf_o (F := 20) (fun g hg => zz_sn hg) q a b ?_
      split <;> first | decide | (exfalso; omega) | trivial
theorem rf_21 {S : zz_T} {s g : Nat} {x : Int32} (hs : s < 8) (hg : g < 8) : rf_a (zz_s S 21 (s * 8 + g) x) = ab_w (rf_a S) 6 s g (rf_c (x + 24)) := by
  refine rf_w ?_ ?_
  · show (if s < 8 ∧ g < 8 then _ else _) = _
    rw [if_pos ⟨hs, hg⟩, zz_se, pk_us]
  · intro q a b h
    by_cases e : q = 6
    · subst e
      show (if a < 8 ∧ b < 8 then _ else _) = (if a < 8 ∧ b < 8 then _ else _)
      by_cases r : a < 8 ∧ b < 8
      · rw [if_pos r, if_pos r, zz_se, pk_un (show a * 8 + b ≠ s * 8 + g by omega)]
      · rw [if_neg r, if_neg r]
    · refine rf_o (F := 21) (fun g hg => zz_sn hg) q a b ?_
      split <;> first | decide | (exfalso; omega) | trivial
theorem rf_28 {S : zz_T} {s g : Nat} {x : Int32} (hs : s < 8) (hg : g < 8) : rf_a (zz_s S 28 (s + 8 * g) x) = ab_w (rf_a S) 7 s g (rf_c x) := by
  refine rf_w ?_ ?_
  · show (if s < 8 ∧ g < 8 then _ else _) = _
    rw [if_pos ⟨hs, hg⟩, zz_se, pk_us]
  · intro q a b h
    by_cases e : q = 7
    · subst e
      show (if a < 8 ∧ b < 8 then _ else _) = (if a < 8 ∧ b < 8 then _ else _)
      by_cases r : a < 8 ∧ b < 8
      · rw [if_pos r, if_pos r, zz_se, pk_un (show a + 8 * b ≠ s + 8 * g by omega)]
      · rw [if_neg r, if_neg r]
    · refine rf_o (F := 28) (fun g hg => zz_sn hg) q a b ?_
      split <;> first | decide | (exfalso; omega) | trivial
theorem rf_26 {S : zz_T} {s g : Nat} {x : Int32} (hs : s < 8) (hg : g < 8) : rf_a (zz_s S 26 (s + 8 * g) x) = ab_w (rf_a S) 8 s g (rf_c x) := by
  refine rf_w ?_ ?_
  · show (if s < 8 ∧ g < 8 then _ else _) = _
    rw [if_pos ⟨hs, hg⟩, zz_se, pk_us]
  · intro q a b h
    by_cases e : q = 8
    · subst e
      show (if a < 8 ∧ b < 8 then _ else _) = (if a < 8 ∧ b < 8 then _ else _)
      by_cases r : a < 8 ∧ b < 8
      · rw [if_pos r, if_pos r, zz_se, pk_un (show a + 8 * b ≠ s + 8 * g by omega)]
      · rw [if_neg r, if_neg r]
    · refine rf_o (F := 26) (fun g hg => zz_sn hg) q a b ?_
      split <;> first | decide | (exfalso; omega) | trivial
theorem rf_27 {S : zz_T} {s g : Nat} {x : Int32} (hs : s < 8) (hg : g < 8) : rf_a (zz_s S 27 (s + 8 * g) x) = ab_w (rf_a S) 9 s g (rf_c x) := by
  refine rf_w ?_ ?_
  · show (if s < 8 ∧ g < 8 then _ else _) = _
    rw [if_pos ⟨hs, hg⟩, zz_se, pk_us]
  · intro q a b h
    by_cases e : q = 9
    · subst e
      show (if a < 8 ∧ b < 8 then _ else _) = (if a < 8 ∧ b < 8 then _ else _)
      by_cases r : a < 8 ∧ b < 8
      · rw [if_pos r, if_pos r, zz_se, pk_un (show a + 8 * b ≠ s + 8 * g by omega)]
      · rw [if_neg r, if_neg r]
    · refine rf_o (F := 27) (fun g hg => zz_sn hg) q a b ?_
      split <;> first | decide | (exfalso; omega) | trivial
theorem rf_22 {S : zz_T} {s g : Nat} {x : Int32} (hs : s < 8) (hg : g < 64) : rf_a (zz_s S 22 (s * 64 + g) x) = ab_w (rf_a S) 13 s g (rf_m x) := by
  refine rf_w ?_ ?_
  · show (if s < 8 ∧ g < 64 then _ else _) = _
    rw [if_pos ⟨hs, hg⟩, zz_se, pk_us]
  · intro q a b h
    by_cases e : q = 13
    · subst e
      show (if a < 8 ∧ b < 64 then _ else _) = (if a < 8 ∧ b < 64 then _ else _)
      by_cases r : a < 8 ∧ b < 64
      · rw [if_pos r, if_pos r, zz_se, pk_un (show a * 64 + b ≠ s * 64 + g by omega)]
      · rw [if_neg r, if_neg r]
    · refine rf_o (F := 22) (fun g hg => zz_sn hg) q a b ?_
      split <;> first | decide | (exfalso; omega) | trivial
theorem rf_23 {S : zz_T} {s g : Nat} {x : Int32} (hs : s < 8) (hg : g < 64) : rf_a (zz_s S 23 (s * 64 + g) x) = ab_w (rf_a S) 14 s g (rf_c x) := by
  refine rf_w ?_ ?_
  · show (if s < 8 ∧ g < 64 then _ else _) = _
    rw [if_pos ⟨hs, hg⟩, zz_se, pk_us]
  · intro q a b h
    by_cases e : q = 14
    · subst e
      show (if a < 8 ∧ b < 64 then _ else _) = (if a < 8 ∧ b < 64 then _ else _)
      by_cases r : a < 8 ∧ b < 64
      · rw [if_pos r, if_pos r, zz_se, pk_un (show a * 64 + b ≠ s * 64 + g by omega)]
      · rw [if_neg r, if_neg r]
    · refine rf_o (F := 23) (fun g hg => zz_sn hg) q a b ?_
      split <;> first | decide | (exfalso; omega) | trivial
theorem rf_16 {S : zz_T} {s : Nat} {x : Int32} (hs : s < 8) : rf_a (zz_s S 16 s x) = ab_w (rf_a S) 4 s 0 (rf_c x) := by
  refine rf_w ?_ ?_
  · show (if s < 8 ∧ 0 = 0 then _ else _) = _
    rw [if_pos ⟨hs, rfl⟩, zz_se, pk_us]
  · intro q a b h
    by_cases e : q = 4
    · subst e
      show (if a < 8 ∧ b = 0 then _ else _) = (if a < 8 ∧ b = 0 then _ else _)
      by_cases r : a < 8 ∧ b = 0
      · rw [if_pos r, if_pos r, zz_se, pk_un (show a ≠ s by omega)]
      · rw [if_neg r, if_neg r]
    · refine rf_o (F := 16) (fun g hg => zz_sn hg) q a b ?_
      split <;> first | decide | (exfalso; omega) | trivial
theorem rf_17 {S : zz_T} {s : Nat} {x : Int32} (hs : s < 8) : rf_a (zz_s S 17 s x) = ab_w (rf_a S) 5 s 0 (rf_c x) := by
  refine rf_w ?_ ?_
  · show (if s < 8 ∧ 0 = 0 then _ else _) = _
    rw [if_pos ⟨hs, rfl⟩, zz_se, pk_us]
  · intro q a b h
    by_cases e : q = 5
    · subst e
      show (if a < 8 ∧ b = 0 then _ else _) = (if a < 8 ∧ b = 0 then _ else _)
      by_cases r : a < 8 ∧ b = 0
      · rw [if_pos r, if_pos r, zz_se, pk_un (show a ≠ s by omega)]
      · rw [if_neg r, if_neg r]
    · refine rf_o (F := 17) (fun g hg => zz_sn hg) q a b ?_
      split <;> first | decide | (exfalso; omega) | trivial
theorem rf_24 {S : zz_T} {s : Nat} {x : Int32} (hs : s < 8) : rf_a (zz_s S 24 s x) = ab_w (rf_a S) 15 s 0 (rf_c x) := by
  refine rf_w ?_ ?_
  · show (if s < 8 ∧ 0 = 0 then _ else _) = _
    rw [if_pos ⟨hs, rfl⟩, zz_se, pk_us]
  · intro q a b h
    by_cases e : q = 15
    · subst e
      show (if a < 8 ∧ b = 0 then _ else _) = (if a < 8 ∧ b = 0 then _ else _)
      by_cases r : a < 8 ∧ b = 0
      · rw [if_pos r, if_pos r, zz_se, pk_un (show a ≠ s by omega)]
      · rw [if_neg r, if_neg r]
    · refine rf_o (F := 24) (fun g hg => zz_sn hg) q a b ?_
      split <;> first | decide | (exfalso; omega) | trivial
theorem rf_4 {S : zz_T} {x : Int32} : rf_a (zz_s S 4 0 x) = ab_w (rf_a S) 0 0 0 (rf_c x) := by
  refine rf_w ?_ ?_
  · show (if (0 : Nat) = 0 ∧ (0 : Nat) = 0 then rf_c (zz_s S 4 0 x 4 0) else 0) = _
    rw [if_pos ⟨rfl, rfl⟩, zz_se, pk_us]
  · intro q a b h
    by_cases e : q = 0
    · subst e
      show (if a = 0 ∧ b = 0 then _ else _) = (if a = 0 ∧ b = 0 then _ else _)
      rw [if_neg (by omega), if_neg (by omega)]
    · refine rf_o (F := 4) (fun g hg => zz_sn hg) q a b ?_
      split <;> first | decide | (exfalso; omega) | trivial
theorem rf_n {S : zz_T} {F i : Nat} {x : Int32} (h : ¬ rf_F F) : rf_a (zz_s S F i x) = rf_a S := rf_same (fun f hf => zz_sn (fun e => h (e ▸ hf)))
/-! ## reading the picture -/
theorem rf_1r {S : zz_T} {s g : Nat} (hs : s < 8) (hg : g < 8) : rf_a S 1 s g = rf_m (S 18 (s * 8 + g)) := if_pos ⟨hs, hg⟩
theorem rf_2r {S : zz_T} {s g : Nat} (hs : s < 8) (hg : g < 8) : rf_a S 2 s g = rf_c (S 19 (s * 8 + g)) := if_pos ⟨hs, hg⟩
theorem rf_3r {S : zz_T} {s g : Nat} (hs : s < 8) (hg : g < 8) : rf_a S 3 s g = rf_c (S 20 (s * 8 + g)) := if_pos ⟨hs, hg⟩
theorem rf_4r {S : zz_T} {s : Nat} (hs : s < 8) : rf_a S 4 s 0 = rf_c (S 16 s) := if_pos ⟨hs, rfl⟩
theorem rf_5r {S : zz_T} {s : Nat} (hs : s < 8) : rf_a S 5 s 0 = rf_c (S 17 s) := if_pos ⟨hs, rfl⟩
theorem rf_6r {S : zz_T} {s g : Nat} (hs : s < 8) (hg : g < 8) : rf_a S 6 s g = rf_c (S 21 (s * 8 + g) + 24) := if_pos ⟨hs, hg⟩
theorem rf_7r {S : zz_T} {s g : Nat} (hs : s < 8) (hg : g < 8) : rf_a S 7 s g = rf_c (S 28 (s + 8 * g)) := if_pos ⟨hs, hg⟩
theorem rf_8r {S : zz_T} {s g : Nat} (hs : s < 8) (hg : g < 8) : rf_a S 8 s g = rf_c (S 26 (s + 8 * g)) := if_pos ⟨hs, hg⟩
theorem rf_9r {S : zz_T} {s g : Nat} (hs : s < 8) (hg : g < 8) : rf_a S 9 s g = rf_c (S 27 (s + 8 * g)) := if_pos ⟨hs, hg⟩
theorem rf_0r {S : zz_T} : rf_a S 0 0 0 = rf_c (S 4 0) := by
  show (if (0 : Nat) = 0 ∧ (0 : Nat) = 0 then rf_c (S 4 0) else 0) = _
  rw [if_pos ⟨rfl, rfl⟩]
theorem rf_13r {S : zz_T} {s g : Nat} (hs : s < 8) (hg : g < 64) : rf_a S 13 s g = rf_m (S 22 (s * 64 + g)) := if_pos ⟨hs, hg⟩
theorem rf_14r {S : zz_T} {s g : Nat} (hs : s < 8) (hg : g < 64) : rf_a S 14 s g = rf_c (S 23 (s * 64 + g)) := if_pos ⟨hs, hg⟩
theorem rf_15r {S : zz_T} {s : Nat} (hs : s < 8) : rf_a S 15 s 0 = rf_c (S 24 s) := if_pos ⟨hs, rfl⟩
theorem rf_cn {n : Nat} (h : n < 2 ^ 31) : rf_c (nI n) = n := nI_clamp h
theorem rf_n1 {n : Nat} (h : n < 2 ^ 31) : ¬ nI n = -1 := fun e => by
  have h1 := nI_toInt h
  rw [e] at h1
  have h2 : ((-1 : Int32)).toInt = -1 := by decide
  omega
theorem rf_mn {n : Nat} (h : n < 2 ^ 31) : rf_m (nI n) = n := by
  unfold rf_m
  rw [ab_in (rf_n1 h), nI_clamp h]
theorem rf_m1 : rf_m (-1) = 8 := ab_ip rfl
/-- a way: none, or a station -/
abbrev rf_st (x : Int32) : Prop := x = -1 ∨ ∃ r, r < 8 ∧ x = nI r
theorem rf_m8 {x : Int32} (h : rf_st x) : rf_m x = 8 ↔ x = -1 := by
  rcases h with e | ⟨r, hr, e⟩
  · rw [e, rf_m1]
    exact ⟨fun _ => rfl, fun _ => rfl⟩
  · rw [e, rf_mn (by omega)]
    exact ⟨fun z => by omega, fun z => absurd z (rf_n1 (by omega))⟩
theorem rf_mc {x : Int32} (h : rf_st x) (hn : ¬ x = -1) : x = nI (rf_m x) ∧ rf_m x < 8 := by
  rcases h with e | ⟨r, hr, e⟩
  · exact absurd e hn
  · rw [e, rf_mn (by omega)]
    exact ⟨rfl, hr⟩
theorem rf_le {n : Nat} {x : Int32} (h : n < 2 ^ 31) : ¬ x ≤ nI n ↔ n < rf_c x := by
  unfold rf_c
  rw [Int32.le_iff_toInt_le, nI_toInt h]
  have : x.toNatClampNeg = x.toInt.toNat := rfl
  rw [this]
  omega
/-! ## steps in the picture: ways -/
def rf_u (S : zz_T) (p q : Nat) : Prop := p < 8 ∧ q < 8 ∧ mm_up S p (nI q)
theorem rf_Fq {f : Nat} (h : rf_F f) : (f ≠ 5 ∧ f < 32) ∨ 38 < f := by unfold rf_F at h; omega
theorem rf_send {s : Nat} {to : Int32} {S : zz_T} : rf_a (mm_send s to S) = rf_a S := rf_same (fun _ hf => zz_sendo (rf_Fq hf))
theorem rf_tell {s : Nat} {S : zz_T} : rf_a (mm_tell s S) = rf_a S := rf_same (fun _ hf => zz_tello (rf_Fq hf))
theorem rf_beg {k f g : Int32} {S : zz_T} : rf_a (mm_beg k f g S) = rf_a S := rf_same (fun _ hf => zz_bego (by unfold rf_F at hf; omega))
theorem rf_cpy {S : zz_T} : rf_a (mm_cpy S) = rf_a S := rf_same (fun _ hf => zz_cpyo (by unfold rf_F at hf; omega))
theorem rf_give {u : Nat → Nat → Prop} {s g : Nat} {S : zz_T} (hs : s < 8) (hg : g < 8) : rf_a (mm_give s g S) = (ab_gv u s g (rf_a S)).1 := by
  unfold mm_give mm_lossW
  rw [rf_tell, rf_n (by decide), rf_beg, rf_18 hs hg, rf_m1, ab_gv1]
theorem rf_pass {s g : Nat} {S : zz_T} {w : ab_F} (hs : s < 8) (hg : g < 8) (h18 : zz_18 S) (e2 : S 42 2 = nI g) (hw : w 5 = g) : rf_a (mm_pass s S) = (ab_ps (rf_u S) s w (rf_a S)).1 := by
  have hst : rf_st (S 18 (s * 8 + g)) := h18 _ (by omega)
  unfold mm_pass ab_ps
  rw [zz_cl (show g < 2 ^ 31 by omega) e2, hw, rf_1r hs hg]
  by_cases c : S 18 (s * 8 + g) = -1
  · rw [if_pos c, ab_ip ((rf_m8 hst).2 c)]
    rfl
  · rw [if_neg c, ab_in (fun z => c ((rf_m8 hst).1 z))]
    obtain ⟨e, hr⟩ := rf_mc hst c
    by_cases d : mm_up S s (S 18 (s * 8 + g))
    · rw [if_pos d, ab_ip ⟨hs, hr, by rw [← e]; exact d⟩, rf_send]
      rfl
    · rw [if_neg d, ab_in (fun z => d (by rw [e]; exact z.2.2)), rf_give hs hg]
theorem rf_c8 {l : Nat} (h : l < 2 ^ 31) : rf_c (nI l).toInt8.toInt32 = ab_c8 l := by
  unfold rf_c ab_c8
  have e1 : (nI l).toInt8.toInt32.toNatClampNeg = (nI l).toInt8.toInt32.toInt.toNat := rfl
  rw [e1, Int8.toInt_toInt32, Int32.toInt_toInt8, nI_toInt h]
  have : ((l : Int)).bmod (2 ^ 8) = if l % 256 < 128 then ((l % 256 : Nat) : Int) else ((l % 256 : Nat) : Int) - 256 := by
    unfold Int.bmod
    have : ((l : Int)) % (2 ^ 8 : Nat) = ((l % 256 : Nat) : Int) := by omega
    rw [this]
    show (if ((l % 256 : Nat) : Int) < (((2 ^ 8 : Nat) : Int) + 1) / 2 then ((l % 256 : Nat) : Int) else ((l % 256 : Nat) : Int) - ((2 ^ 8 : Nat) : Int)) = _
    split <;> split <;> omega
  rw [this]
  split <;> omega
theorem rf_learn {s g p l n k : Nat} {S : zz_T} (hs : s < 8) (hg : g < 8) (hp : p < 8) (hl : l < 2 ^ 30) (hn : n < 2 ^ 30) (h18 : zz_18 S) (hk : k < 2 ^ 30) (e20 : S 20 (s * 8 + g) = nI k) :
    rf_a (mm_learn s g (nI p) (nI l) (nI n) S) = ab_ln s g p l n (rf_a S) := by
  have hst : rf_st (S 18 (s * 8 + g)) := h18 _ (by omega)
  have hP : (s ≠ g ∧ mm_lnP s g (nI l) (nI n) S) ↔ ab_lp s g l n (rf_a S) := by
    unfold mm_lnP ab_lp
    rw [rf_1r hs hg, rf_2r hs hg, rf_3r hs hg, e20, rf_cn (by omega), rf_m8 hst, nI_eq (by omega) (by omega), rf_le (n := k) (by omega), rf_cn (n := n) (by omega), rf_le (n := l) (by omega)]
  unfold mm_learn ab_ln
  by_cases c : s ≠ g ∧ mm_lnP s g (nI l) (nI n) S
  · rw [if_pos c, ab_ip (hP.1 c)]
    unfold mm_lnS
    rw [rf_20 hs hg, rf_19 hs hg, rf_18 hs hg, zz_8 p (by omega), rf_mn (by omega), rf_c8 (by omega), rf_cn (by omega)]
  · rw [if_neg c, ab_in (fun z => c (hP.2 z))]
theorem rf_see {s f q k : Nat} {S : zz_T} (hs : s < 8) (hf : f < 8) (hq : q < 2 ^ 31) (hk : k < 64) (e24 : S 24 s = nI k) : rf_a (mm_see s (nI f) (nI q) S) = ab_se s f q (rf_a S) := by
  unfold mm_see ab_se
  rw [zz_cl (show k < 2 ^ 31 by omega) e24, rf_15r hs, e24, rf_cn (by omega), rf_24 hs, rf_23 hs hk, rf_22 hs hk, zz_8 f (by omega), rf_mn (by omega), rf_cn hq, rf_cn (by omega)]
/-- the seen table holds stations and numbers -/
def rf_t (S : zz_T) : Prop := ∀ q, q < 512 → rf_st (S 22 q) ∧ ∃ n, n < 2 ^ 30 ∧ S 23 q = nI n
theorem rf_seen {s f q : Nat} {S : zz_T} (hs : s < 8) (hf : f < 8) (hq : q < 2 ^ 30) (ht : rf_t S) : mm_seenP s (nI f) (nI q) S ↔ ab_sn s f q (rf_a S) := by
  unfold mm_seenP ab_sn
  constructor
  · rintro ⟨i, hi, h1, h2⟩
    refine ⟨i, hi, ?_, ?_⟩
    · rw [rf_13r hs hi, h1, rf_mn (by omega)]
    · rw [rf_14r hs hi, h2, rf_cn (by omega)]
  · rintro ⟨i, hi, h1, h2⟩
    obtain ⟨t1, n, hn, t2⟩ := ht (s * 64 + i) (by omega)
    rw [rf_13r hs hi] at h1
    rw [rf_14r hs hi, t2, rf_cn (by omega)] at h2
    refine ⟨i, hi, ?_, by rw [t2, h2]⟩
    rcases t1 with e | ⟨r, hr, e⟩
    · rw [e, rf_m1] at h1
      omega
    · rw [e, rf_mn (by omega)] at h1
      rw [e, h1]
/-- the picture's numbers: now, own numbers, questions, numbers of ways, pauses, the seen table, timers -/
def rf_k (S : zz_T) : Prop := (∃ t, t < 2 ^ 29 ∧ S 4 0 = nI t) ∧ (∀ s, s < 8 → ∃ n, n < 2 ^ 29 ∧ S 16 s = nI n) ∧ (∀ s, s < 8 → ∃ n, n < 2 ^ 29 ∧ S 17 s = nI n) ∧ zz_18 S ∧ (∀ q, q < 64 → ∃ n, n < 2 ^ 30 ∧ S 20 q = nI n) ∧
  (∀ q, q < 64 → ∃ n, n < 2 ^ 30 ∧ S 21 q + 24 = nI n) ∧ rf_t S ∧ zz_24 S ∧ (∀ p, p < 64 → (S 28 p = nI 0 ∨ S 28 p = nI 1) ∧ (∃ n, n < 2 ^ 30 ∧ S 26 p = nI n) ∧ ∃ n, n < 3 ∧ S 27 p = nI n)
theorem rf_kc {S T : zz_T} (h : ∀ f, rf_F f → T f = S f) (k : rf_k S) : rf_k T := by
  unfold rf_k rf_t zz_18 zz_24 at *
  rw [h 4 (by decide), h 16 (by decide), h 17 (by decide), h 18 (by decide), h 20 (by decide), h 21 (by decide), h 22 (by decide), h 23 (by decide), h 24 (by decide), h 26 (by decide), h 27 (by decide), h 28 (by decide)]
  exact k
theorem rf_24c {t a : Nat} {x : Int32} (ht : t < 2 ^ 29) (ha : a < 2 ^ 30) (e : x + 24 = nI a) : 24 ≤ nI t - x ↔ ¬ t < a := by
  have ex : x = nI a - 24 := by rw [← e]; simp
  have ea : (nI a).toInt = (a : Int) := nI_toInt (by omega)
  have et : (nI t).toInt = (t : Int) := nI_toInt (by omega)
  have e24 : ((24 : Int32)).toInt = 24 := by decide
  have b1 : x.toInt = (a : Int) - 24 := by
    rw [ex, Int32.toInt_sub, ea, e24]
    exact Int.bmod_eq_of_le (by omega) (by omega)
  have b2 : (nI t - x).toInt = (t : Int) - ((a : Int) - 24) := by
    rw [Int32.toInt_sub, b1, et]
    exact Int.bmod_eq_of_le (by omega) (by omega)
  rw [Int32.le_iff_toInt_le, b2, e24]
  omega
theorem rf_ask {u : Nat → Nat → Prop} {s g : Nat} {S : zz_T} (hs : s < 8) (hg : g < 8) (hk : rf_k S) : rf_a (mm_ask s g S) = (ab_k u s g (rf_a S)).1 := by
  obtain ⟨⟨t, ht, e4⟩, k16, k17, k18, k20, k21, kt, k24, _⟩ := hk
  obtain ⟨n, hn, e16⟩ := k16 s hs
  obtain ⟨q, hq, e17⟩ := k17 s hs
  obtain ⟨a, ha, e21⟩ := k21 (s * 8 + g) (by omega)
  obtain ⟨k, hk, e24⟩ := k24 s hs
  have hc : (24 ≤ S 4 0 - S 21 (s * 8 + g)) ↔ ¬ rf_a S 0 0 0 < rf_a S 6 s g := by
    rw [rf_0r, rf_6r hs hg, e21, e4, rf_cn (by omega), rf_cn (by omega)]
    exact rf_24c ht ha e21
  unfold mm_ask
  by_cases c : 24 ≤ S 4 0 - S 21 (s * 8 + g)
  · rw [if_pos c, ab_ky (hc.1 c), rf_tell]
    show _ = ab_k1 s g (rf_a S)
    unfold mm_ask3 mm_ask2
    rw [rf_n (by decide), rf_n (by decide), rf_n (by decide), rf_beg]
    have e17' : mm_ask0 s g S 17 s = nI (q + 1) := by
      unfold mm_ask0
      rw [zz_se, pk_us, e17, nI_1]
    have e24' : mm_ask0 s g S 24 s = nI k := by
      unfold mm_ask0
      rw [zz_sn (by decide), zz_sn (by decide), zz_sn (by decide), e24]
    rw [e17', rf_see hs hs (by omega) hk e24']
    unfold ab_k1 mm_ask0
    rw [rf_17 hs, rf_16 hs, rf_21 hs hg, e4, e16, e17, nI_1, nI_1, show nI t + 24 = nI (t + 24) from nI_add t 24, rf_0r, rf_4r hs, rf_5r hs, e4, e16, e17, rf_cn (by omega), rf_cn (by omega), rf_cn (by omega), rf_cn (by omega), rf_cn (by omega), rf_cn (by omega)]
  · rw [if_neg c, ab_kn (by
      by_cases z : rf_a S 0 0 0 < rf_a S 6 s g
      · exact z
      · exact absurd (hc.2 z) c)]
    rfl
/-- the frame that is read -/
noncomputable def rf_x (S : zz_T) : ab_F := ab_fr (rf_c (S 43 0)) (rf_c (S 43 1)) (rf_c (S 43 2)) (rf_c (S 43 3)) (rf_c (S 43 4)) (rf_c (S 43 5))
/-- its words -/
def rf_r (S : zz_T) (k f g n l q : Nat) : Prop := k < 5 ∧ f < 8 ∧ g < 8 ∧ n < 2 ^ 29 ∧ l < 2 ^ 29 ∧ q < 2 ^ 29 ∧ S 43 0 = nI k ∧ S 43 1 = nI f ∧ S 43 2 = nI g ∧ S 43 3 = nI n ∧ S 43 4 = nI l ∧ S 43 5 = nI q
theorem rf_xr {S : zz_T} {k f g n l q : Nat} (h : rf_r S k f g n l q) : rf_x S = ab_fr k f g n l q := by
  obtain ⟨h1, h2, h3, h4, h5, h6, e0, e1, e2, e3, e4, e5⟩ := h
  unfold rf_x
  rw [e0, e1, e2, e3, e4, e5, rf_cn (by omega), rf_cn (by omega), rf_cn (by omega), rf_cn (by omega), rf_cn (by omega), rf_cn (by omega)]
theorem rf_uc {S T : zz_T} (h : T 6 = S 6) : rf_u T = rf_u S := by
  funext p q
  unfold rf_u mm_up
  rw [h]
theorem rf_ha2 {s p f g n l q : Nat} {S : zz_T} (hs : s < 8) (hp : p < 8) (hk : rf_k S) (hr : rf_r S 0 f g n l q) : rf_a (mm_ha2 s (nI p) S) = ab_hA1 s p (ab_fr 0 f g n l q) (rf_a S) := by
  obtain ⟨_, hf, hg, hn, hl, hq, e0, e1, e2, e3, e4, e5⟩ := hr
  obtain ⟨_, k16, k17, k18, k20, k21, kt, k24, _⟩ := hk
  obtain ⟨k, hk, e24⟩ := k24 s hs
  obtain ⟨m, hm, e20⟩ := k20 (s * 8 + f) (by omega)
  unfold mm_ha2 mm_ha1 ab_hA1
  show _ = ab_ln s f p (l + 1) n (ab_se s f q (rf_a S))
  rw [e1, e3, e4, e5, nI_clamp (show f < 2 ^ 31 by omega), nI_1]
  rw [rf_learn hs hf hp (by omega) (by omega) (zz_18of (zz_seeo (by decide) (by decide) (by decide)) k18) hm (by rw [zz_seeo (by decide) (by decide) (by decide)]; exact e20), rf_see hs hf (by omega) hk e24]
theorem rf_18l {s g p : Nat} {b c : Int32} {S : zz_T} (hp : p < 8) (h : zz_18 S) : zz_18 (mm_learn s g (nI p) b c S) := by
  unfold mm_learn
  split
  · unfold mm_lnS
    refine zz_18of (S := zz_s S 18 (s * 8 + g) (nI p).toInt8.toInt32) ?_ (zz_18s (Or.inr ⟨p, hp, zz_8 p (by omega)⟩) h)
    rw [zz_sn (by decide), zz_sn (by decide)]
  · exact h
theorem rf_18a {s p : Nat} {S : zz_T} (hp : p < 8) (h : zz_18 S) : zz_18 (mm_ha2 s (nI p) S) := by
  unfold mm_ha2 mm_ha1
  exact rf_18l hp (zz_18of (zz_seeo (by decide) (by decide) (by decide)) h)
theorem rf_ha2o {s f : Nat} {b : Int32} {S : zz_T} (h : f ≠ 18 ∧ f ≠ 19 ∧ f ≠ 20 ∧ f ≠ 22 ∧ f ≠ 23 ∧ f ≠ 24) : mm_ha2 s b S f = S f := by
  unfold mm_ha2 mm_ha1
  rw [zz_lno h.1 h.2.1 h.2.2.1, zz_seeo h.2.2.2.1 h.2.2.2.2.1 h.2.2.2.2.2]
theorem rf_hearAsk {s p f g n l q : Nat} {S : zz_T} (hs : s < 8) (hp : p < 8) (hk : rf_k S) (hr : rf_r S 0 f g n l q) : rf_a (mm_hearAsk s (nI p) S) = (ab_hA (rf_u S) s p (ab_fr 0 f g n l q) (rf_a S)).1 := by
  have hA := rf_ha2 hs hp hk hr
  obtain ⟨_, hf, hg, hn, hl, hq, e0, e1, e2, e3, e4, e5⟩ := hr
  have hk' := hk
  obtain ⟨_, k16, k17, k18, k20, k21, kt, k24, _⟩ := hk'
  have hsn : mm_seenP s (S 43 1) (S 43 5) S ↔ ab_sn s f q (rf_a S) := by
    rw [e1, e5]; exact rf_seen hs hf (by omega) kt
  unfold mm_hearAsk ab_hA
  show _ = (ab_if (ab_sn s f q (rf_a S)) (ab_nil (rf_a S)) (ab_if (g = s) (ab_ps (rf_u S) s (ab_fr 1 s f (ab_hA1 s p (ab_fr 0 f g n l q) (rf_a S) 4 s 0 + 1) 0 0) (ab_w (ab_hA1 s p (ab_fr 0 f g n l q) (rf_a S)) 4 s 0 (ab_hA1 s p (ab_fr 0 f g n l q) (rf_a S) 4 s 0 + 1)))
      (ab_tl (rf_u S) s (ab_fr 0 f g n (l + 1) q) (ab_hA1 s p (ab_fr 0 f g n l q) (rf_a S))))).1
  by_cases c : mm_seenP s (S 43 1) (S 43 5) S
  · rw [if_pos c, ab_ip (hsn.1 c)]
    rfl
  · rw [if_neg c, ab_in (fun z => c (hsn.2 z))]
    by_cases d : S 43 2 = nI s
    · have egs : g = s := by rw [e2] at d; exact (nI_eq (by omega) (by omega)).1 d
      rw [if_pos d, ab_ip egs]
      obtain ⟨m, hm, e16⟩ := k16 s hs
      have e16' : mm_ha2 s (nI p) S 16 s = nI m := by rw [rf_ha2o (by decide)]; exact e16
      have h16 : ab_hA1 s p (ab_fr 0 f g n l q) (rf_a S) 4 s 0 = m := by
        rw [ab_hA1n (by decide), rf_4r hs, e16, rf_cn (by omega)]
      have hT : rf_a (zz_s (mm_haT s (nI p) S) 42 3 (mm_haT s (nI p) S 16 s)) = ab_w (ab_hA1 s p (ab_fr 0 f g n l q) (rf_a S)) 4 s 0 (m + 1) := by
        unfold mm_haT
        rw [rf_n (by decide), rf_beg, rf_16 hs, hA, e16', nI_1, rf_cn (by omega)]
      have h18 : zz_18 (zz_s (mm_haT s (nI p) S) 42 3 (mm_haT s (nI p) S 16 s)) := by
        refine zz_18of (S := mm_ha2 s (nI p) S) ?_ (rf_18a hp k18)
        unfold mm_haT
        rw [zz_sn (by decide), zz_bego (by decide), zz_sn (by decide)]
      have h42 : zz_s (mm_haT s (nI p) S) 42 3 (mm_haT s (nI p) S 16 s) 42 2 = nI f := by
        rw [zz_se, pk_un (by decide)]
        unfold mm_haT
        rw [zz_beg2, e1]
      have h6 : zz_s (mm_haT s (nI p) S) 42 3 (mm_haT s (nI p) S 16 s) 6 = S 6 := by
        unfold mm_haT
        rw [zz_sn (by decide), zz_bego (by decide), zz_sn (by decide), rf_ha2o (by decide)]
      rw [rf_pass (w := ab_fr 1 s f (ab_hA1 s p (ab_fr 0 f g n l q) (rf_a S) 4 s 0 + 1) 0 0) hs hf h18 h42 rfl, hT, rf_uc h6, h16]
    · have egs : ¬ g = s := fun z => d (by rw [e2, z])
      rw [if_neg d, ab_in egs, rf_tell, rf_n (by decide), rf_cpy, hA]
      rfl
theorem rf_hearTell {s p f g n l q : Nat} {S : zz_T} (hs : s < 8) (hp : p < 8) (hk : rf_k S) (hr : rf_r S 1 f g n l q) : rf_a (mm_hearTell s (nI p) S) = (ab_hT (rf_u S) s p (ab_fr 1 f g n l q) (rf_a S)).1 := by
  obtain ⟨_, hf, hg, hn, hl, hq, e0, e1, e2, e3, e4, e5⟩ := hr
  obtain ⟨_, k16, k17, k18, k20, k21, kt, k24, _⟩ := hk
  obtain ⟨m, hm, e20⟩ := k20 (s * 8 + f) (by omega)
  have h1 : rf_a (mm_ht1 s (nI p) S) = ab_ln s f p (l + 1) n (rf_a S) := by
    unfold mm_ht1
    rw [e1, e3, e4, nI_clamp (show f < 2 ^ 31 by omega), nI_1]
    exact rf_learn hs hf hp (by omega) (by omega) k18 hm e20
  unfold mm_hearTell ab_hT
  show _ = (ab_if (g = s) (ab_nil (ab_ln s f p (l + 1) n (rf_a S))) (ab_ps (rf_u S) s (ab_fr 1 f g n (l + 1) 0) (ab_ln s f p (l + 1) n (rf_a S)))).1
  by_cases d : S 43 2 = nI s
  · have egs : g = s := by rw [e2] at d; exact (nI_eq (by omega) (by omega)).1 d
    rw [if_pos d, ab_ip egs, h1]
    rfl
  · have egs : ¬ g = s := fun z => d (by rw [e2, z])
    rw [if_neg d, ab_in egs]
    have hT : rf_a (mm_ht2 s (nI p) S) = ab_ln s f p (l + 1) n (rf_a S) := by
      unfold mm_ht2
      rw [rf_n (by decide), rf_cpy, h1]
    have hlo : ∀ F, F ≠ 18 → F ≠ 19 → F ≠ 20 → F ≠ 42 → mm_ht2 s (nI p) S F = S F := by
      intro F a b c d
      unfold mm_ht2 mm_ht1
      rw [zz_sn d, zz_cpyo d, zz_lno a b c]
    have h18 : zz_18 (mm_ht2 s (nI p) S) := by
      refine zz_18of (S := mm_ht1 s (nI p) S) ?_ (rf_18l hp k18)
      unfold mm_ht2
      rw [zz_sn (by decide), zz_cpyo (by decide)]
    have h42 : mm_ht2 s (nI p) S 42 2 = nI g := by
      unfold mm_ht2
      rw [zz_se, pk_un (by decide), zz_cpyw (by decide)]
      unfold mm_ht1
      rw [zz_lno (by decide) (by decide) (by decide), e2]
    rw [rf_pass (w := ab_fr 1 f g n (l + 1) 0) hs hg h18 h42 rfl, hT, rf_uc (hlo 6 (by decide) (by decide) (by decide) (by decide))]
theorem rf_hearLoss {s p f g n l q : Nat} {S : zz_T} (hs : s < 8) (hp : p < 8) (hk : rf_k S) (hr : rf_r S 2 f g n l q) : rf_a (mm_hearLoss s (nI p) S) = (ab_hL (rf_u S) s p (ab_fr 2 f g n l q) (rf_a S)).1 := by
  obtain ⟨_, hf, hg, hn, hl, hq, e0, e1, e2, e3, e4, e5⟩ := hr
  obtain ⟨_, k16, k17, k18, k20, k21, kt, k24, _⟩ := hk
  obtain ⟨m, hm, e20⟩ := k20 (s * 8 + g) (by omega)
  have hst : rf_st (S 18 (s * 8 + g)) := k18 _ (by omega)
  unfold mm_hearLoss ab_hL
  rw [e2, nI_clamp (show g < 2 ^ 31 by omega), e3, e20]
  show _ = (ab_if (s ≠ g ∧ rf_a S 1 s g = p ∧ rf_a S 3 s g ≤ n) (ab_gv (rf_u S) s g (rf_a S)) (ab_nil (rf_a S))).1
  have hc : (¬ nI s = nI g ∧ S 18 (s * 8 + g) = nI p ∧ ¬ nI n < nI m) ↔ (s ≠ g ∧ rf_a S 1 s g = p ∧ rf_a S 3 s g ≤ n) := by
    rw [nI_eq (by omega) (by omega), rf_1r hs hg, rf_3r hs hg, e20, rf_cn (by omega)]
    have h1 : S 18 (s * 8 + g) = nI p ↔ rf_m (S 18 (s * 8 + g)) = p := by
      rcases hst with e | ⟨r, hr, e⟩
      · rw [e, rf_m1]
        exact ⟨fun z => absurd z.symm (rf_n1 (by omega)), fun z => by omega⟩
      · rw [e, rf_mn (by omega)]
        exact nI_eq (by omega) (by omega)
    have h2 : ¬ nI n < nI m ↔ m ≤ n := by
      rw [Int32.lt_iff_toInt_lt, nI_toInt (by omega), nI_toInt (by omega)]
      omega
    rw [h1, h2]
  by_cases c : ¬ nI s = nI g ∧ S 18 (s * 8 + g) = nI p ∧ ¬ nI n < nI m
  · rw [if_pos c, ab_ip (hc.1 c), rf_give hs hg]
  · rw [if_neg c, ab_in (fun z => c (hc.2 z))]
    rfl
theorem rf_carry {s k f g n l q : Nat} {S : zz_T} (hs : s < 8) (hk : rf_k S) (hr : rf_r S k f g n l q) : rf_a (mm_carry s S) = (ab_cy (rf_u S) s (ab_fr k f g n l q) (rf_a S)).1 := by
  obtain ⟨_, hf, hg, hn, hl, hq, e0, e1, e2, e3, e4, e5⟩ := hr
  obtain ⟨_, k16, k17, k18, k20, k21, kt, k24, _⟩ := hk
  unfold mm_carry ab_cy
  show _ = (ab_if (q ≤ 1) (ab_nil (rf_a S)) (ab_ps (rf_u S) s (ab_fr k f g n l (q - 1)) (rf_a S))).1
  have hT : rf_a (mm_lifeW S) = rf_a S := by
    unfold mm_lifeW
    rw [rf_n (by decide), rf_cpy]
  have h5 : mm_lifeW S 42 5 = nI q - 1 := by
    unfold mm_lifeW
    rw [zz_se, pk_us, zz_cpyw (by decide), e5]
  have hc : mm_lifeW S 42 5 ≤ 0 ↔ q ≤ 1 := by
    rw [h5, Int32.le_iff_toInt_le, Int32.toInt_sub, nI_toInt (by omega)]
    have e1 : ((1 : Int32)).toInt = 1 := by decide
    have e0 : ((0 : Int32)).toInt = 0 := by decide
    rw [e1, e0, Int.bmod_eq_of_le (by omega) (by omega)]
    omega
  by_cases c : mm_lifeW S 42 5 ≤ 0
  · rw [if_pos c, ab_ip (hc.1 c), hT]
    rfl
  · rw [if_neg c, ab_in (fun z => c (hc.2 z))]
    have hlo : ∀ F, F ≠ 42 → mm_lifeW S F = S F := by
      intro F a
      unfold mm_lifeW
      rw [zz_sn a, zz_cpyo a]
    have h42 : mm_lifeW S 42 2 = nI g := by
      unfold mm_lifeW
      rw [zz_se, pk_un (by decide), zz_cpyw (by decide), e2]
    rw [rf_pass (w := ab_fr k f g n l (q - 1)) hs hg (zz_18of (hlo 18 (by decide)) k18) h42 rfl, hT, rf_uc (hlo 6 (by decide))]
theorem rf_hearPiece {s f g n l q : Nat} {S : zz_T} {ac : Nat → Nat → Nat} (hs : s < 8) (hk : rf_k S) (hr : rf_r S 3 f g n l q) (hnp : g = s → ¬ (S 43 3 = S 15 (f + 8 * s) ∧ S 43 4 = S 29 (f + 8 * s))) :
    rf_a (mm_hearPiece s S) = (ab_hP (rf_u S) ac s (ab_fr 3 f g n l q) (rf_a S)).1 := by
  have hcy := rf_carry hs hk hr
  obtain ⟨_, hf, hg, hn, hl, hq, e0, e1, e2, e3, e4, e5⟩ := hr
  obtain ⟨_, k16, k17, k18, k20, k21, kt, k24, _⟩ := hk
  unfold mm_hearPiece ab_hP
  show _ = (ab_if (g = s) (ab_ps (rf_u S) s (ab_fr 4 s f (ac f s) 0 8) (rf_a S)) (ab_cy (rf_u S) s (ab_fr 3 f g n l q) (rf_a S))).1
  by_cases d : S 43 2 = nI s
  · have egs : g = s := by rw [e2] at d; exact (nI_eq (by omega) (by omega)).1 d
    rw [if_pos d, ab_ip egs, e1, nI_clamp (show f < 2 ^ 31 by omega)]
    unfold mm_hp92 mm_hpT
    rw [if_neg (hnp egs)]
    have hlo : ∀ F, F ≠ 42 → mm_anW s f (f + 8 * s) S F = S F := by
      intro F a
      unfold mm_anW
      rw [zz_sn a, zz_sn a, zz_sn a, zz_bego a]
    have hT : rf_a (mm_anW s f (f + 8 * s) S) = rf_a S := rf_same (fun F hF => hlo F (by unfold rf_F at hF; omega))
    have h42 : mm_anW s f (f + 8 * s) S 42 2 = nI f := by
      unfold mm_anW
      rw [zz_se, pk_un (by decide), zz_se, pk_un (by decide), zz_se, pk_un (by decide), zz_beg2]
    rw [rf_pass (w := ab_fr 4 s f (ac f s) 0 8) hs hf (zz_18of (hlo 18 (by decide)) k18) h42 rfl, hT, rf_uc (hlo 6 (by decide))]
  · have egs : ¬ g = s := fun z => d (by rw [e2, z])
    rw [if_neg d, ab_in egs, hcy]
theorem rf_hearAnswer {s k f g n l q : Nat} {S : zz_T} (hs : s < 8) (hk : rf_k S) (hr : rf_r S k f g n l q) (hnp : g = s → ¬ mm_anP (s + 8 * f) S) :
    rf_a (mm_hearAnswer s S) = (ab_hW (rf_u S) s (ab_fr k f g n l q) (rf_a S)).1 := by
  have hcy := rf_carry hs hk hr
  obtain ⟨_, hf, hg, hn, hl, hq, e0, e1, e2, e3, e4, e5⟩ := hr
  unfold mm_hearAnswer ab_hW
  show _ = (ab_if (g = s) (ab_nil (rf_a S)) (ab_cy (rf_u S) s (ab_fr k f g n l q) (rf_a S))).1
  by_cases d : S 43 2 = nI s
  · have egs : g = s := by rw [e2] at d; exact (nI_eq (by omega) (by omega)).1 d
    rw [if_pos d, ab_ip egs, e1, nI_clamp (show f < 2 ^ 31 by omega), if_neg (hnp egs)]
    rfl
  · have egs : ¬ g = s := fun z => d (by rw [e2, z])
    rw [if_neg d, ab_in egs, hcy]
theorem rf_hear {s p k f g n l q : Nat} {S : zz_T} {ac : Nat → Nat → Nat} (hs : s < 8) (hp : p < 8) (hk : rf_k S) (hr : rf_r S k f g n l q) (hp3 : k = 3 → g = s → ¬ (S 43 3 = S 15 (f + 8 * s) ∧ S 43 4 = S 29 (f + 8 * s))) (hp4 : k = 4 → g = s → ¬ mm_anP (s + 8 * f) S) :
    rf_a (mm_hear s (nI p) S) = (ab_h (rf_u S) ac s p (ab_fr k f g n l q) (rf_a S)).1 := by
  have e0 : S 43 0 = nI k := hr.2.2.2.2.2.2.1
  have hk5 := hr.1
  have K : ∀ j, j < 5 → (S 43 0 = nI j ↔ k = j) := fun j hj => by rw [e0]; exact nI_eq (by omega) (by omega)
  have K0 : S 43 0 = 0 ↔ k = 0 := by rw [show (0 : Int32) = nI 0 from rfl]; exact K 0 (by omega)
  have K1 : S 43 0 = 1 ↔ k = 1 := by rw [show (1 : Int32) = nI 1 from rfl]; exact K 1 (by omega)
  have K2 : S 43 0 = 2 ↔ k = 2 := by rw [show (2 : Int32) = nI 2 from rfl]; exact K 2 (by omega)
  have K3 : S 43 0 = 3 ↔ k = 3 := by rw [show (3 : Int32) = nI 3 from rfl]; exact K 3 (by omega)
  unfold mm_hear ab_h
  show _ = (ab_if (k = 0) (ab_hA (rf_u S) s p (ab_fr k f g n l q) (rf_a S)) (ab_if (k = 1) (ab_hT (rf_u S) s p (ab_fr k f g n l q) (rf_a S)) (ab_if (k = 2) (ab_hL (rf_u S) s p (ab_fr k f g n l q) (rf_a S)) (ab_if (k = 3) (ab_hP (rf_u S) ac s (ab_fr k f g n l q) (rf_a S)) (ab_hW (rf_u S) s (ab_fr k f g n l q) (rf_a S)))))).1
  by_cases c0 : k = 0
  · subst c0
    rw [if_pos (K0.2 rfl), ab_ip rfl]
    exact rf_hearAsk hs hp hk hr
  · rw [if_neg (fun z => c0 (K0.1 z)), ab_in c0]
    by_cases c1 : k = 1
    · subst c1
      rw [if_pos (K1.2 rfl), ab_ip rfl]
      exact rf_hearTell hs hp hk hr
    · rw [if_neg (fun z => c1 (K1.1 z)), ab_in c1]
      by_cases c2 : k = 2
      · subst c2
        rw [if_pos (K2.2 rfl), ab_ip rfl]
        exact rf_hearLoss hs hp hk hr
      · rw [if_neg (fun z => c2 (K2.1 z)), ab_in c2]
        by_cases c3 : k = 3
        · subst c3
          rw [if_pos (K3.2 rfl), ab_ip rfl]
          exact rf_hearPiece hs hk hr (hp3 rfl)
        · rw [if_neg (fun z => c3 (K3.1 z)), ab_in c3]
          exact rf_hearAnswer hs hk hr (hp4 (by omega))
/-! ## urging in the picture -/
theorem rf_ksame {S T : zz_T} (h : ∀ f, rf_F f → f ≠ 18 → T f = S f) (h18 : zz_18 T) (k : rf_k S) : rf_k T := by
  unfold rf_k rf_t zz_24 at *
  rw [h 4 (by decide) (by decide), h 16 (by decide) (by decide), h 17 (by decide) (by decide), h 20 (by decide) (by decide), h 21 (by decide) (by decide), h 22 (by decide) (by decide), h 23 (by decide) (by decide), h 24 (by decide) (by decide), h 26 (by decide) (by decide), h 27 (by decide) (by decide), h 28 (by decide) (by decide)]
  exact ⟨k.1, k.2.1, k.2.2.1, h18, k.2.2.2.2⟩
theorem rf_kgive {s g : Nat} {S : zz_T} (k : rf_k S) : rf_k (mm_give s g S) := by
  refine rf_ksame (fun f hf h18 => zz_giveo (rf_Fq hf) h18 (by unfold rf_F at hf; omega)) ?_ k
  refine zz_18of (S := zz_s S 18 (s * 8 + g) (-1)) ?_ (zz_18s (Or.inl rfl) k.2.2.2.1)
  unfold mm_give mm_lossW
  rw [zz_tello (by decide), zz_sn (by decide), zz_bego (by decide)]
theorem rf_khw {s g : Nat} {S : zz_T} (k : rf_k S) : rf_k (mm_hw s g S) := by
  unfold mm_hw
  split
  · exact k
  · split
    · exact k
    · exact rf_kgive k
theorem rf_k28 {p : Nat} {v : Int32} {S : zz_T} (hv : v = nI 0 ∨ v = nI 1) (k : rf_k S) : rf_k (zz_s S 28 p v) := by
  unfold rf_k rf_t zz_18 zz_24 at *
  rw [zz_sn (g := 4) (by decide), zz_sn (g := 16) (by decide), zz_sn (g := 17) (by decide), zz_sn (g := 18) (by decide), zz_sn (g := 20) (by decide), zz_sn (g := 21) (by decide), zz_sn (g := 22) (by decide), zz_sn (g := 23) (by decide), zz_sn (g := 24) (by decide), zz_sn (g := 26) (by decide), zz_sn (g := 27) (by decide), zz_se]
  refine ⟨k.1, k.2.1, k.2.2.1, k.2.2.2.1, k.2.2.2.2.1, k.2.2.2.2.2.1, k.2.2.2.2.2.2.1, k.2.2.2.2.2.2.2.1, fun q hq => ?_⟩
  have := k.2.2.2.2.2.2.2.2 q hq
  refine ⟨?_, this.2⟩
  by_cases e : q = p
  · rw [e, pk_us]; exact hv
  · rw [pk_un e]; exact this.1
theorem rf_k27 {p n : Nat} {S : zz_T} (hn : n < 3) (k : rf_k S) : rf_k (zz_s S 27 p (nI n)) := by
  unfold rf_k rf_t zz_18 zz_24 at *
  rw [zz_sn (g := 4) (by decide), zz_sn (g := 16) (by decide), zz_sn (g := 17) (by decide), zz_sn (g := 18) (by decide), zz_sn (g := 20) (by decide), zz_sn (g := 21) (by decide), zz_sn (g := 22) (by decide), zz_sn (g := 23) (by decide), zz_sn (g := 24) (by decide), zz_sn (g := 26) (by decide), zz_sn (g := 28) (by decide), zz_se]
  refine ⟨k.1, k.2.1, k.2.2.1, k.2.2.2.1, k.2.2.2.2.1, k.2.2.2.2.2.1, k.2.2.2.2.2.2.1, k.2.2.2.2.2.2.2.1, fun q hq => ?_⟩
  have := k.2.2.2.2.2.2.2.2 q hq
  refine ⟨this.1, this.2.1, ?_⟩
  by_cases e : q = p
  · rw [e, pk_us]; exact ⟨n, hn, rfl⟩
  · rw [pk_un e]; exact this.2.2
theorem rf_hwP {a b : Nat} {S : zz_T} (ha : a < 8) (hb : b < 8) (h18 : zz_18 S) : mm_hwP a b S ↔ ab_hw (rf_u S) a b (rf_a S) := by
  have hst : rf_st (S 18 (a * 8 + b)) := h18 _ (by omega)
  unfold mm_hwP ab_hw
  rw [rf_1r ha hb, rf_m8 hst]
  constructor
  · rintro ⟨h1, h2⟩
    obtain ⟨e, hr⟩ := rf_mc hst h1
    exact ⟨h1, ha, hr, by rw [← e]; exact h2⟩
  · rintro ⟨h1, h2⟩
    obtain ⟨e, hr⟩ := rf_mc hst h1
    exact ⟨h1, by rw [e]; exact h2.2.2⟩
theorem rf_hw {a b : Nat} {S : zz_T} (ha : a < 8) (hb : b < 8) (h18 : zz_18 S) : rf_a (mm_hw a b S) = (ab_hs (rf_u S) a b (rf_a S)).1 := by
  have hst : rf_st (S 18 (a * 8 + b)) := h18 _ (by omega)
  have hP := rf_hwP (S := S) ha hb h18
  unfold mm_hwP ab_hw at hP
  unfold mm_hw ab_hs
  by_cases c : S 18 (a * 8 + b) = -1
  · rw [if_pos c, ab_in (fun z => z.1 (by rw [rf_1r ha hb]; exact (rf_m8 hst).2 c))]
    rfl
  · rw [if_neg c]
    have c' : ¬ rf_a S 1 a b = 8 := fun z => c (by rw [rf_1r ha hb] at z; exact (rf_m8 hst).1 z)
    by_cases d : mm_up S a (S 18 (a * 8 + b))
    · rw [if_pos d, ab_in (fun z => z.2 (hP.1 ⟨c, d⟩).2)]
      rfl
    · rw [if_neg d, ab_ip ⟨c', fun z => d (hP.2 ⟨c', z⟩).2⟩, rf_give ha hb]
theorem rf_hw6 {a b : Nat} {S : zz_T} : mm_hw a b S 6 = S 6 := zz_hwo (by decide) (by decide) (by decide)
theorem rf_uW {a b : Nat} {m : Option Nat} {S : zz_T} : rf_a (mm_uW a b m S) = rf_a S := rf_same (fun _ hf => zz_uWo (by unfold rf_F at hf; omega))
theorem rf_uW2 {a b : Nat} {m : Option Nat} {S : zz_T} : mm_uW a b m S 42 2 = nI b := by
  cases m with
  | none =>
    show mm_wq a b S 42 2 = _
    unfold mm_wq
    rw [zz_se, pk_un (by decide), zz_se, pk_un (by decide), zz_beg2]
  | some k => exact zz_wp2
theorem rf_u142 {a b : Nat} {m : Option Nat} {S : zz_T} {cf : Nat → Nat → Nat} (ha : a < 8) (hb : b < 8) (hk : rf_k S) : rf_a (mm_u142 a b m S) = (ab_u1 (rf_u S) cf a b (rf_a S)).1 := by
  have h18 := hk.2.2.2.1
  have hP := rf_hwP (S := S) ha hb h18
  unfold mm_u142 ab_u1
  by_cases c : mm_hwP a b S
  · rw [if_pos c, ab_ip (hP.1 c)]
    have eh : mm_hw a b S = S := by
      unfold mm_hw
      rw [if_neg c.1, if_pos c.2]
    rw [eh]
    unfold mm_u187
    have hlo : ∀ F, F ≠ 42 → F ≠ 28 → F ≠ 26 → zz_s (zz_s (mm_uW a b m S) 28 (a + 8 * b) 1) 26 (a + 8 * b) (mm_uW a b m S 4 0) F = S F := by
      intro F x y z
      rw [zz_sn z, zz_sn y, zz_uWo x]
    have e1 : rf_a (zz_s (zz_s (mm_uW a b m S) 28 (a + 8 * b) 1) 26 (a + 8 * b) (mm_uW a b m S 4 0)) = ab_w (ab_w (rf_a S) 7 a b 1) 8 a b (rf_a S 0 0 0) := by
      rw [rf_26 ha hb, rf_28 ha hb, rf_uW, zz_uWo (by decide), rf_0r]
      rfl
    rw [rf_pass (g := b) (w := ab_fr 3 a b (cf a b) 0 8) ha hb (zz_18of (hlo 18 (by decide) (by decide) (by decide)) h18) (by rw [zz_sn (by decide), zz_sn (by decide)]; exact rf_uW2) rfl, e1, rf_uc (hlo 6 (by decide) (by decide) (by decide))]
    have hh := hP.1 c
    have hw : ab_hw (rf_u S) a b (ab_w (ab_w (rf_a S) 7 a b 1) 8 a b (rf_a S 0 0 0)) := by
      unfold ab_hw
      rw [ab_wf (by decide), ab_wf (by decide)]
      exact hh
    rcases ab_psc (u := rf_u S) (s := a) (w := ab_fr 3 a b (cf a b) 0 8) (D := ab_w (ab_w (rf_a S) 7 a b 1) 8 a b (rf_a S 0 0 0)) with ⟨e, _⟩ | ⟨_, _, e⟩ | ⟨_, e, _⟩
    · exact absurd e hw.1
    · rw [e]; rfl
    · exact absurd hw.2 e
  · rw [if_neg c, ab_in (fun z => c (hP.2 z))]
    show _ = (ab_k (rf_u S) a b (ab_w (ab_hs (rf_u S) a b (rf_a S)).1 7 a b 0)).1
    have kk : rf_k (zz_s (mm_hw a b S) 28 (a + 8 * b) 0) := rf_k28 (Or.inl rfl) (rf_khw hk)
    rw [rf_ask (u := rf_u S) ha hb kk, rf_28 ha hb, rf_hw ha hb h18]
    rfl
theorem rf_u108 {a b z : Nat} {m : Option Nat} {S : zz_T} {cf : Nat → Nat → Nat} (ha : a < 8) (hb : b < 8) (hz : z < 4) (hk : rf_k S) (hz2 : z < 3) : rf_a (mm_u108 a b m (nI z) S) = (ab_u2 (rf_u S) cf a b z (rf_a S)).1 := by
  have eA : mm_uA (a + 8 * b) (nI z) S = zz_s S 27 (a + 8 * b) (nI z) := by
    unfold mm_uA
    rw [zz_8 z (by omega)]
  have rA : rf_a (zz_s S 27 (a + 8 * b) (nI z)) = ab_w (rf_a S) 9 a b z := by
    rw [rf_27 ha hb, rf_cn (by omega)]
  have uA : rf_u (zz_s S 27 (a + 8 * b) (nI z)) = rf_u S := rf_uc (zz_sn (by decide))
  have kA : rf_k (zz_s S 27 (a + 8 * b) (nI z)) := rf_k27 hz2 hk
  have h18 := kA.2.2.2.1
  have hP := rf_hwP (S := zz_s S 27 (a + 8 * b) (nI z)) ha hb h18
  rw [rA, uA] at hP
  have hP' : mm_hwP a b (zz_s S 27 (a + 8 * b) (nI z)) ↔ ab_hw (rf_u S) a b (rf_a S) := by
    rw [hP]
    unfold ab_hw
    rw [ab_wf (by decide)]
  unfold mm_u108 ab_u2
  rw [eA, zz_8 z (by omega)]
  have hc : nI z < 2 ↔ z < 2 := by
    rw [show (2 : Int32) = nI 2 from rfl, Int32.lt_iff_toInt_lt, nI_toInt (by omega), nI_toInt (by omega)]
    omega
  by_cases c : nI z < 2
  · rw [if_pos c, ab_ip (hc.1 c), rf_u142 (cf := cf) ha hb kA, rA, uA]
  · rw [if_neg c, ab_in (fun y => c (hc.2 y))]
    by_cases d : mm_hwP a b (zz_s S 27 (a + 8 * b) (nI z))
    · rw [if_pos d, ab_ip (hP'.1 d)]
      show _ = (ab_u1 (rf_u S) cf a b (ab_w (ab_gv (rf_u S) a b (ab_w (rf_a S) 9 a b z)).1 9 a b 0)).1
      have eh : mm_hw a b (zz_s S 27 (a + 8 * b) (nI z)) = zz_s S 27 (a + 8 * b) (nI z) := by
        unfold mm_hw
        rw [if_neg d.1, if_pos d.2]
      rw [eh]
      have kG : rf_k (zz_s (mm_give a b (zz_s S 27 (a + 8 * b) (nI z))) 27 (a + 8 * b) (nI 0)) := rf_k27 (by omega) (rf_kgive kA)
      have rG : rf_a (zz_s (mm_give a b (zz_s S 27 (a + 8 * b) (nI z))) 27 (a + 8 * b) (nI 0)) = ab_w (ab_gv (rf_u S) a b (ab_w (rf_a S) 9 a b z)).1 9 a b 0 := by
        rw [rf_27 ha hb, rf_give (u := rf_u S) ha hb, rA]
        rfl
      have uG : rf_u (zz_s (mm_give a b (zz_s S 27 (a + 8 * b) (nI z))) 27 (a + 8 * b) (nI 0)) = rf_u S := by
        rw [rf_uc (S := mm_give a b (zz_s S 27 (a + 8 * b) (nI z))) (zz_sn (by decide)), rf_uc (zz_giveo (by decide) (by decide) (by decide)), uA]
      have := rf_u142 (m := m) (cf := cf) ha hb kG
      rw [rG, uG] at this
      exact this
    · rw [if_neg d, ab_in (fun y => d (hP'.2 y))]
      show _ = (ab_u1 (rf_u S) cf a b (ab_hs (rf_u S) a b (ab_w (rf_a S) 9 a b z)).1).1
      rw [rf_u142 (cf := cf) ha hb (rf_khw kA), rf_hw ha hb h18, rA, rf_uc rf_hw6, uA]
/-- the live pairs of a state -/
def rf_l (S : zz_T) (a b : Nat) : Prop := a < 8 ∧ b < 8 ∧ a ≠ b ∧ ((∃ k, mm_snd a b S = some k) ∨ ¬ S 15 (a + 8 * b) ≤ S 14 (a + 8 * b)) ∧ ¬ S 6 a = 0
theorem rf_26c {t n : Nat} (ht : t < 2 ^ 29) (hn : n < 2 ^ 30) : 26 ≤ nI t - nI n ↔ n + 26 ≤ t := by
  rw [Int32.le_iff_toInt_le, Int32.toInt_sub, nI_toInt (by omega), nI_toInt (by omega)]
  have e : ((26 : Int32)).toInt = 26 := by decide
  rw [e, Int.bmod_eq_of_le (by omega) (by omega)]
  omega
theorem rf_urge {a b : Nat} {S : zz_T} {cf : Nat → Nat → Nat} (ha : a < 8) (hb : b < 8) (hab : a ≠ b) (hk : rf_k S) (h27 : S 28 (a + 8 * b) = nI 1 → ∃ n, n < 2 ∧ S 27 (a + 8 * b) = nI n) : rf_a (mm_urge a b S) = (ab_u (rf_u S) (rf_l S) cf a b (rf_a S)).1 := by
  obtain ⟨⟨t, ht, e4⟩, _, _, _, _, _, _, _, k9⟩ := id hk
  obtain ⟨h28, ⟨n, hn, e26⟩, z, hz, e27⟩ := k9 (a + 8 * b) (by omega)
  have h7 : S 28 (a + 8 * b) = 0 ↔ rf_a S 7 a b = 0 := by
    rw [rf_7r ha hb]
    rcases h28 with e | e
    · rw [e, rf_cn (by omega)]
      exact ⟨fun _ => rfl, fun _ => rfl⟩
    · rw [e, rf_cn (by omega)]
      exact ⟨fun y => absurd y (by decide), fun y => by omega⟩
  have hc : (¬ S 6 a = 0 ∧ (S 28 (a + 8 * b) = 0 ∨ 26 ≤ S 4 0 - S 26 (a + 8 * b))) ↔ (¬ S 6 a = 0 ∧ (rf_a S 7 a b = 0 ∨ rf_a S 8 a b + 26 ≤ rf_a S 0 0 0)) := by
    rw [h7, rf_8r ha hb, rf_0r, e4, e26, rf_cn (by omega), rf_cn (by omega), rf_26c ht hn]
  unfold mm_urge ab_u
  by_cases c : (∃ k, mm_snd a b S = some k) ∨ ¬ S 15 (a + 8 * b) ≤ S 14 (a + 8 * b)
  · rw [if_pos c]
    unfold mm_u46
    by_cases d : ¬ S 6 a = 0 ∧ (S 28 (a + 8 * b) = 0 ∨ 26 ≤ S 4 0 - S 26 (a + 8 * b))
    · rw [if_pos d, ab_ip ⟨⟨ha, hb, hab, c, d.1⟩, (hc.1 d).2⟩]
      unfold mm_u82
      by_cases e : S 28 (a + 8 * b) = 0
      · rw [if_pos e, ab_ip (h7.1 e)]
        exact rf_u108 (z := 0) ha hb (by omega) hk (by omega)
      · rw [if_neg e, ab_in (fun y => e (h7.2 y))]
        obtain ⟨k, hk2, ek⟩ := h27 (by
          rcases h28 with y | y
          · exact absurd y e
          · exact y)
        rw [ek, nI_1, rf_9r ha hb, ek, rf_cn (by omega)]
        exact rf_u108 (z := k + 1) ha hb (by omega) hk (by omega)
    · rw [if_neg d, ab_in (fun y => d (hc.2 ⟨y.1.2.2.2.2, y.2⟩))]
      rfl
  · rw [if_neg c, ab_in (fun y => c y.1.2.2.2.1)]
    rfl
