/-! ## the bits of a row -/
theorem zr_amt : ∀ w, w < 7 → (((9 * nI w).toInt64 &&& 63).toBitVec.smod 64).toNat = 9 * w := by decide +kernel
def zr_t (x : Int64) (i : Nat) : Bool := x.toBitVec.getLsbD i
theorem zr_due {row : Int64} {w i : Nat} (hw : w < 7) (hi : i < 32) : zb_t (mm_due row w) i = (decide (i < 9) && zr_t row (9 * w + i)) := by
  have h511 : ∀ i, i < 32 → zb_t 511 i = decide (i < 9) := by decide +kernel
  unfold mm_due
  rw [zb_and, h511 i hi]
  by_cases c : i < 9
  · rw [decide_eq_true c, Bool.and_true, Bool.true_and]
    unfold zb_t zr_t
    rw [Int64.toBitVec_toInt32, BitVec.getLsbD_signExtend, Int64.toBitVec_shiftRight]
    show (decide (i < 32) && if i < 64 then (row.toBitVec.sshiftRight (((9 * nI w).toInt64 &&& 63).toBitVec.smod 64).toNat).getLsbD i else _) = _
    rw [zr_amt w hw, if_pos (by omega), decide_eq_true hi, Bool.true_and, BitVec.getLsbD_sshiftRight, if_pos (by omega), decide_eq_false (by omega)]
    rfl
  · rw [decide_eq_false c, Bool.and_false, Bool.false_and]
theorem zr_or (x y : Int64) (i : Nat) : zr_t (x ||| y) i = (zr_t x i || zr_t y i) := by unfold zr_t; rw [Int64.toBitVec_or, BitVec.getLsbD_or]
theorem zr_shl {x : Int64} {w i : Nat} (hw : w < 7) (hi : i < 64) : zr_t (x <<< ((9 * nI w).toInt64 &&& 63)) i = (decide (9 * w ≤ i) && zr_t x (i - 9 * w)) := by
  unfold zr_t
  rw [Int64.toBitVec_shiftLeft]
  show (x.toBitVec <<< (((9 * nI w).toInt64 &&& 63).toBitVec.smod 64).toNat).getLsbD i = _
  rw [zr_amt w hw, BitVec.getLsbD_shiftLeft]
  by_cases c : 9 * w ≤ i
  · rw [decide_eq_true c, decide_eq_true hi, decide_eq_false (by omega)]
    rfl
  · rw [decide_eq_false c, decide_eq_true (show i < 9 * w by omega), decide_eq_true hi]
    rfl
theorem zr_l : ∀ u, u < 512 → ∀ i, i < 64 → zr_t (nI u).toInt64 i = (decide (i < 9) && zb_t (nI u) i) := by
  intro u hu i hi
  have hb : ∀ j, 9 ≤ j → zb_t (nI u) j = false := by
    intro j hj
    unfold zb_t
    show (BitVec.ofNat 32 u).getLsbD j = false
    rw [BitVec.getLsbD_ofNat, Nat.testBit_lt_two_pow (Nat.lt_of_lt_of_le hu (Nat.pow_le_pow_right (n := 2) (by decide) hj)), Bool.and_false]
  unfold zr_t
  rw [Int32.toBitVec_toInt64, BitVec.getLsbD_signExtend, decide_eq_true hi, Bool.true_and]
  by_cases c : i < 9
  · rw [if_pos (by omega), decide_eq_true c, Bool.true_and]
    rfl
  · rw [decide_eq_false c, Bool.false_and]
    split
    · exact hb i (by omega)
    · rw [BitVec.msb_eq_getLsbD_last]
      exact hb 31 (by decide)
/-- nothing is written behind the first n messages -/
def zr_0 (row : Int64) (n : Nat) : Prop := ∀ j, 9 * n ≤ j → j < 64 → zr_t row j = false
theorem zr_put {row : Int64} {n u : Nat} (hn : n < 7) (hu : u < 512) (h : zr_0 row n) : zr_0 (row ||| ((nI u).toInt64 <<< ((9 * nI n).toInt64 &&& 63))) (n + 1) ∧ mm_due (row ||| ((nI u).toInt64 <<< ((9 * nI n).toInt64 &&& 63))) n = nI u ∧ ∀ w, w < n → mm_due (row ||| ((nI u).toInt64 <<< ((9 * nI n).toInt64 &&& 63))) w = mm_due row w := by
  refine ⟨fun j hj hj' => ?_, zb_ext (fun i hi => ?_), fun w hw => zb_ext (fun i hi => ?_)⟩
  · rw [zr_or, h j (by omega) hj', zr_shl hn hj', zr_l u hu (j - 9 * n) (by omega), decide_eq_false (show ¬ j - 9 * n < 9 by omega), Bool.false_and, Bool.and_false]
    rfl
  · rw [zr_due hn hi, zr_or]
    by_cases c : i < 9
    · rw [h (9 * n + i) (by omega) (by omega), zr_shl hn (by omega), zr_l u hu _ (by omega), show 9 * n + i - 9 * n = i by omega, decide_eq_true c, decide_eq_true (show 9 * n ≤ 9 * n + i by omega)]
      rfl
    · rw [decide_eq_false c, Bool.false_and]
      unfold zb_t
      show false = (BitVec.ofNat 32 u).getLsbD i
      rw [BitVec.getLsbD_ofNat, Nat.testBit_lt_two_pow (Nat.lt_of_lt_of_le hu (Nat.pow_le_pow_right (n := 2) (by decide) (show 9 ≤ i by omega))), Bool.and_false]
  · rw [zr_due (by omega) hi, zr_due (by omega) hi, zr_or]
    by_cases c : i < 9
    · rw [zr_shl hn (by omega), decide_eq_false (show ¬ 9 * n ≤ 9 * w + i by omega), Bool.false_and, Bool.or_false]
    · rw [decide_eq_false c, Bool.false_and, Bool.false_and]
/-! ## what calls do to the messages of the law's pair -/
theorem zz_Dc {so go sent tk : Nat} {row : Int64} {S T : zz_T} (h : ∀ f, f = 1 ∨ f = 2 ∨ f = 8 ∨ f = 9 ∨ f = 10 ∨ f = 11 ∨ f = 12 ∨ f = 13 → T f = S f) (k : zz_D so go row sent tk S) : zz_D so go row sent tk T := by
  unfold zz_D zz_pm zz_cq mm_has mm_isT at *
  rw [h 1 (by decide), h 2 (by decide), h 8 (by decide), h 9 (by decide), h 10 (by decide), h 11 (by decide), h 12 (by decide), h 13 (by decide)]
  exact k
theorem zz_Derl {N so go tk : Nat} {S : zz_T} {q : Nat → Nat} {sent : Nat} (hK : zz_K N S)
    (h1 : ∀ m, m < 16 → zz_pm so go S m → tk ≤ q m ∧ q m < sent)
    (h2 : ∀ m m', m < 16 → m' < 16 → zz_pm so go S m → zz_pm so go S m' → S 8 m < S 8 m' → q m < q m')
    (h3 : ∀ j, tk ≤ j → j < sent → ∃ m, m < 16 ∧ zz_pm so go S m ∧ q m = j) {m : Nat} (hm : m < 16) (hp : mm_at S (nI so) (nI go) m) (he : mm_erl S (nI so) (nI go) m = 0) : q m = tk := by
  have hpm : zz_pm so go S m := ⟨hp.1, hp.2.2.1, hp.2.2.2⟩
  obtain ⟨y1, y2⟩ := h1 m hm hpm
  rcases Nat.lt_or_ge tk (q m) with z | z
  · obtain ⟨m', hm', hp', e⟩ := h3 tk (Nat.le_refl _) (by omega)
    have hne : m ≠ m' := fun w => by rw [w] at z; omega
    have hK6 := hK.2.2.2.2.2 m m' hm hm' hne hp.1 hp'.1
    have hlt : S 8 m' < S 8 m := by
      rcases Int32.lt_or_lt_of_ne hK6.1 with w | w
      · have := h2 m m' hm hm' hpm hp' w
        omega
      · exact w
    have hat : mm_at S (nI so) (nI go) m' := by
      refine ⟨hp'.1, Classical.byContradiction (fun c => ?_), hp'.2.1, hp'.2.2⟩
      have w := hK6.2 (hp.2.2.1.trans hp'.2.1.symm) (hp.2.2.2.trans hp'.2.2.symm) hp.2.1 c
      exact absurd (Int32.lt_of_le_of_lt (Int32.le_of_lt w) hlt) Int32.lt_irrefl
    unfold mm_erl at he
    exact absurd ⟨hat, Int32.not_le.2 hlt⟩ (zz_cnt0 16 he m' hm')
  · omega
theorem zz_Dtake {N so go sent tk m : Nat} {row : Int64} {S : zz_T} (hK : zz_K N S) (hm : m < 16) (hf : mm_find S (nI so) (nI go) 0 = some m) (h : zz_D so go row sent tk S) : zz_D so go row sent (tk + 1) (mm_take m S) := by
  obtain ⟨hle, q, h1, h2, h3⟩ := h
  obtain ⟨_, _, ⟨hat, he⟩, _⟩ := zz_fst_some 16 0 m hf
  have hpm : zz_pm so go S m := ⟨hat.1, hat.2.2.1, hat.2.2.2⟩
  have hq := zz_Derl hK (fun m hm hp => ⟨(h1 m hm hp).1, (h1 m hm hp).2.1⟩) h2 h3 hm hat he
  have hinj := zz_Dinj hK h2
  have hlt := (h1 m hm hpm).2.1
  have pmT : ∀ k, k < 16 → (zz_pm so go (mm_take m S) k ↔ zz_pm so go S k ∧ k ≠ m) := by
    intro k hk
    unfold zz_pm
    rw [(zz_takeb hm hk).1, zz_takeo (f := 9) (by decide) (by decide), zz_takeo (f := 10) (by decide) (by decide)]
    exact ⟨fun z => ⟨⟨z.1.1, z.2⟩, z.1.2⟩, fun z => ⟨⟨z.1.1, z.2⟩, z.1.2⟩⟩
  refine ⟨by omega, q, fun k hk hp => ?_, fun k k' hk hk' hp hp' z => ?_, fun j hj hj' => ?_⟩
  · obtain ⟨hp, hne⟩ := (pmT k hk).1 hp
    obtain ⟨y1, y2, y3⟩ := h1 k hk hp
    have hk' : q k ≠ tk := fun e => hne (hinj k m hk hm hp hpm (e.trans hq.symm))
    refine ⟨by omega, y2, fun h7 => ?_⟩
    have y := y3 h7
    unfold zz_cq at *
    rw [(zz_takeb hm hk).2, zz_takeo (f := 11) (by decide) (by decide), zz_takeo (f := 12) (by decide) (by decide), zz_takeo (f := 13) (by decide) (by decide)]
    exact ⟨y.1, fun c => ⟨(y.2 c).1, fun x => (y.2 c).2.1 x.1, fun x => (y.2 c).2.2 (fun w => x ⟨w, hne⟩)⟩⟩
  · rw [zz_takeo (f := 8) (by decide) (by decide)] at z
    exact h2 k k' hk hk' ((pmT k hk).1 hp).1 ((pmT k' hk').1 hp').1 z
  · obtain ⟨k, hk, hp, e⟩ := h3 j (by omega) hj'
    exact ⟨k, hk, (pmT k hk).2 ⟨hp, fun w => by rw [w] at e; omega⟩, e⟩
theorem zz_Dpost {ns so go sent tk a b m d u : Nat} {row row' : Int64} {S : zz_T} (hns : ns < 2 ^ 30) (ha : a < 8) (hb : b < 8) (hm : m < 16) (hd : d ≤ 1) (e0 : S 0 0 = nI d) (hn : ¬ mm_has S m) (hI : zz_I ns S) (h : zz_D so go row sent tk S)
    (hab : a = so ∧ b = go) (hu : u ≤ 256) (hud : d = if u = 0 then 0 else 1) (h7 : 0 < d → S 7 0 = nI (u - 1)) (hr : ∀ w, w < sent → w < 7 → mm_due row' w = mm_due row w) (hr' : sent < 7 → mm_due row' sent = nI u) : ∀ T : zz_T, T = mm_post a b m d S → zz_D so go row' (sent + 1) tk T := by
  intro T hT
  obtain ⟨F, _, hh, hi, F8, F3, F9, F10, F11, F12, F12'⟩ := zz_post ha hb hm hd e0 T hT
  clear hT
  obtain ⟨rfl, rfl⟩ := hab
  obtain ⟨hle, q, h1, h2, h3⟩ := h
  have F13 : T 13 = S 13 := F 13 (by decide) (by decide) (by decide) (by decide) (by decide) (by decide) (by decide) (by decide) (by decide)
  have pmT : ∀ k, k < 16 → k ≠ m → (zz_pm a b T k ↔ zz_pm a b S k) := by
    intro k hk hne
    unfold zz_pm
    rw [hh k hk, F9, F10, pk_un hne, pk_un hne]
    exact ⟨fun z => ⟨z.1.resolve_right hne, z.2⟩, fun z => ⟨Or.inl z.1, z.2⟩⟩
  have pmm : zz_pm a b T m := ⟨(hh m hm).2 (Or.inr rfl), by rw [F9, pk_us], by rw [F10, pk_us]⟩
  have ser : ∀ j, j < 16 → mm_has S j → S 8 j < S 3 0 := by
    intro j hj y
    obtain ⟨p, hp, ep⟩ := hI.2.2.2.2.2.2 j hj y
    rw [ep, hI.2.2.2.2.2.1]
    exact nI_lt hp (by omega)
  refine ⟨by omega, fun k => if k = m then sent else q k, fun k hk hp => ?_, fun k k' hk hk' hp hp' z => ?_, fun j hj hj' => ?_⟩
  · dsimp only
    by_cases e : k = m
    · rw [if_pos e, e]
      refine ⟨hle, by omega, fun h7' => ?_⟩
      rw [hr' h7']
      refine ⟨fun z => ?_, fun z => ⟨?_, fun y => absurd rfl ((hi m hm).1 y).2, fun _ => ?_⟩⟩
      · have : u = 0 := (nI_eq (by omega) (by decide)).1 (show nI u = nI 0 from z)
        rw [F11, pk_us, hud, if_pos this]
        rfl
      · have : u ≠ 0 := fun w => z (by rw [w]; rfl)
        rw [F11, pk_us, hud, if_neg this]
        rfl
      · have hu0 : u ≠ 0 := fun w => z (by rw [w]; rfl)
        have hd1 : 0 < d := by rw [hud, if_neg hu0]; omega
        rw [F12' hd1, h7 hd1, zb_p255]
        have : nI u - 1 = nI (u - 1) := by
          rw [show (1 : Int32) = nI 1 from rfl, pk_sub (by omega)]
        rw [this, pk_andN (by omega) 8 (by decide), Nat.mod_eq_of_lt (by omega)]
    · rw [if_neg e]
      have hp' := (pmT k hk e).1 hp
      obtain ⟨y1, y2, y3⟩ := h1 k hk hp'
      refine ⟨y1, by omega, fun h7' => ?_⟩
      have y := y3 h7'
      rw [hr (q k) y2 h7']
      unfold zz_cq at *
      rw [hi k hk, F11, pk_un e, F13, F12 (k * 8) (by omega)]
      exact ⟨y.1, fun c => ⟨(y.2 c).1, fun x => (y.2 c).2.1 x.1, fun x => (y.2 c).2.2 (fun w => x ⟨w, e⟩)⟩⟩
  · rw [F8] at z
    show (if k = m then sent else q k) < (if k' = m then sent else q k')
    by_cases e : k = m
    · by_cases e' : k' = m
      · rw [e, e'] at z
        exact absurd z Int32.lt_irrefl
      · have p' := (pmT k' hk' e').1 hp'
        rw [e, pk_us, pk_un e'] at z
        exact absurd (Int32.lt_of_le_of_lt (Int32.le_of_lt z) (ser k' hk' p'.1)) Int32.lt_irrefl
    · have p := (pmT k hk e).1 hp
      by_cases e' : k' = m
      · rw [if_neg e, if_pos e']
        exact (h1 k hk p).2.1
      · rw [if_neg e, if_neg e']
        rw [pk_un e, pk_un e'] at z
        exact h2 k k' hk hk' p ((pmT k' hk' e').1 hp') z
  · by_cases e : j = sent
    · exact ⟨m, hm, pmm, by show (if m = m then sent else q m) = j; rw [if_pos rfl, e]⟩
    · obtain ⟨k, hk, hp, ek⟩ := h3 j hj (by omega)
      have hne : k ≠ m := fun w => hn (by rw [← w]; exact hp.1)
      exact ⟨k, hk, (pmT k hk hne).2 hp, by show (if k = m then sent else q k) = j; rw [if_neg hne, ek]⟩
theorem zz_Dother {so go sent tk a b m d : Nat} {row : Int64} {S : zz_T} (ha : a < 8) (hb : b < 8) (hso : so < 8) (hgo : go < 8) (hm : m < 16) (hd : d ≤ 1) (e0 : S 0 0 = nI d) (hn : ¬ mm_has S m) (h : zz_D so go row sent tk S) (hab : ¬ (a = so ∧ b = go)) :
    ∀ T : zz_T, T = mm_post a b m d S → zz_D so go row sent tk T := by
  intro T hT
  obtain ⟨F, _, hh, hi, F8, F3, F9, F10, F11, F12, _⟩ := zz_post ha hb hm hd e0 T hT
  clear hT
  obtain ⟨hle, q, h1, h2, h3⟩ := h
  have F13 : T 13 = S 13 := F 13 (by decide) (by decide) (by decide) (by decide) (by decide) (by decide) (by decide) (by decide) (by decide)
  have pmm : ¬ zz_pm so go T m := by
    rintro ⟨_, z1, z2⟩
    rw [F9, pk_us] at z1
    rw [F10, pk_us] at z2
    exact hab ⟨(nI_eq (by omega) (by omega)).1 z1, (nI_eq (by omega) (by omega)).1 z2⟩
  have pmT : ∀ k, k < 16 → (zz_pm so go T k ↔ zz_pm so go S k ∧ k ≠ m) := by
    intro k hk
    by_cases hne : k = m
    · rw [hne]
      exact ⟨fun z => absurd z pmm, fun z => absurd rfl z.2⟩
    · unfold zz_pm
      rw [hh k hk, F9, F10, pk_un hne, pk_un hne]
      exact ⟨fun z => ⟨⟨z.1.resolve_right hne, z.2⟩, hne⟩, fun z => ⟨Or.inl z.1.1, z.1.2⟩⟩
  refine ⟨hle, q, fun k hk hp => ?_, fun k k' hk hk' hp hp' z => ?_, fun j hj hj' => ?_⟩
  · obtain ⟨hp', e⟩ := (pmT k hk).1 hp
    obtain ⟨y1, y2, y3⟩ := h1 k hk hp'
    refine ⟨y1, y2, fun h7' => ?_⟩
    have y := y3 h7'
    unfold zz_cq at *
    rw [hi k hk, F11, pk_un e, F13, F12 (k * 8) (by omega)]
    exact ⟨y.1, fun c => ⟨(y.2 c).1, fun x => (y.2 c).2.1 x.1, fun x => (y.2 c).2.2 (fun w => x ⟨w, e⟩)⟩⟩
  · obtain ⟨p, e⟩ := (pmT k hk).1 hp
    obtain ⟨p', e'⟩ := (pmT k' hk').1 hp'
    rw [F8, pk_un e, pk_un e'] at z
    exact h2 k k' hk hk' p p' z
  · obtain ⟨k, hk, hp, ek⟩ := h3 j hj hj'
    exact ⟨k, hk, (pmT k hk).2 ⟨hp, fun w => hn (by rw [← w]; exact hp.1)⟩, ek⟩
theorem zz_Dset {so go sent tk : Nat} {row : Int64} {Z U : zz_T} (hQ : zz_Q Z U) (h : zz_D so go row sent tk Z) : zz_D so go row sent tk U := by
  obtain ⟨Q1, Q2, Q3, Q4⟩ := hQ
  obtain ⟨hle, q, h1, h2, h3⟩ := h
  have pm : ∀ k, zz_pm so go U k ↔ zz_pm so go Z k := by
    intro k
    unfold zz_pm mm_has
    rw [Q1 1 (by decide), Q1 9 (by decide), Q1 10 (by decide)]
  refine ⟨hle, q, fun k hk hp => ?_, fun k k' hk hk' hp hp' z => ?_, fun j hj hj' => ?_⟩
  · obtain ⟨y1, y2, y3⟩ := h1 k hk ((pm k).1 hp)
    refine ⟨y1, y2, fun h7' => ?_⟩
    have y := y3 h7'
    unfold zz_cq at *
    rw [Q2 k hk, Q1 12 (by decide)]
    refine ⟨y.1, fun c => ⟨(y.2 c).1, fun x => ?_, fun x => (y.2 c).2.2 (fun w => x (Q3 k hk w).1)⟩⟩
    by_cases z : mm_isT Z k
    · have e := (Q3 k hk z).2 0 (by decide)
      rw [Nat.add_zero] at e
      rw [e]
      exact (y.2 c).2.1 z
    · have e := (Q4 k hk x z).2 0 1 (by omega) (y.2 c).1 (by omega)
      rw [Nat.add_zero] at e
      rw [e]
      exact (y.2 c).2.2 z
  · rw [Q1 8 (by decide)] at z
    exact h2 k k' hk hk' ((pm k).1 hp) ((pm k').1 hp') z
  · obtain ⟨k, hk, hp, ek⟩ := h3 j hj hj'
    exact ⟨k, hk, (pm k).2 hp, ek⟩
