/-! ## bits; the rows up to zb_bp are a family of kit/laws/BITS.to-paste, renamed -/
def zb_t (x : Int32) (i : Nat) : Bool := x.toBitVec.getLsbD i
theorem zb_ext {x y : Int32} (h : ∀ i, i < 32 → zb_t x i = zb_t y i) : x = y := Int32.toBitVec_inj.mp (BitVec.eq_of_getLsbD_eq (fun i hi => h i hi))
theorem zb_or (x y : Int32) (i : Nat) : zb_t (x ||| y) i = (zb_t x i || zb_t y i) := by unfold zb_t; rw [Int32.toBitVec_or, BitVec.getLsbD_or]
theorem zb_and (x y : Int32) (i : Nat) : zb_t (x &&& y) i = (zb_t x i && zb_t y i) := by unfold zb_t; rw [Int32.toBitVec_and, BitVec.getLsbD_and]
theorem zb_xor (x y : Int32) (i : Nat) : zb_t (x ^^^ y) i = (zb_t x i ^^ zb_t y i) := by unfold zb_t; rw [Int32.toBitVec_xor, BitVec.getLsbD_xor]
theorem zb_255 : ∀ i, i < 32 → zb_t 255 i = decide (i < 8) := by decide +kernel
theorem zb_m1 : ∀ i, i < 32 → zb_t (-1) i = true := by decide +kernel
theorem zb_1 : ∀ i, i < 32 → zb_t 1 i = decide (i = 0) := by decide +kernel
theorem zb_0 (i : Nat) : zb_t 0 i = false := BitVec.getLsbD_zero
theorem zb_sl : ∀ n, n < 32 → ((nI n &&& 31).toBitVec.smod 32).toNat = n := by decide +kernel
theorem zb_shl (n : Nat) (hn : n < 32) (x : Int32) {i : Nat} (hi : i < 32) : zb_t (x <<< (nI n &&& 31)) i = (decide (n ≤ i) && zb_t x (i - n)) := by
  unfold zb_t
  rw [Int32.toBitVec_shiftLeft]
  show (x.toBitVec <<< ((nI n &&& 31).toBitVec.smod 32).toNat).getLsbD i = _
  rw [zb_sl n hn, BitVec.getLsbD_shiftLeft]
  rcases Nat.lt_or_ge i n with h | h
  · simp [h, Nat.not_le.mpr h]
  · simp [hi, h, Nat.not_lt.mpr h]
theorem zb_sshr (n : Nat) (hn : n < 32) (x : Int32) {i : Nat} (hi : i < 32) : zb_t (x >>> (nI n &&& 31)) i = if n + i < 32 then zb_t x (n + i) else zb_t x 31 := by
  unfold zb_t
  rw [Int32.toBitVec_shiftRight]
  show (x.toBitVec.sshiftRight ((nI n &&& 31).toBitVec.smod 32).toNat).getLsbD i = _
  rw [zb_sl n hn, BitVec.getLsbD_sshiftRight, BitVec.msb_eq_getLsbD_last]
  simp [hi]
theorem zb_bp {x : Int32} {i : Nat} (h : i < 8) : zb_t x.toInt8.toInt32 i = zb_t x i := by
  unfold zb_t
  rw [Int8.toBitVec_toInt32, Int32.toBitVec_toInt8, BitVec.getLsbD_signExtend, BitVec.getLsbD_signExtend, if_pos h, if_pos (show i < 32 by omega)]
  simp [h, show i < 32 by omega]
/-- a bit of a mask, as the class reads it -/
theorem zb_b {x : Int32} {k : Nat} (hk : k < 32) : zz_b x k ↔ zb_t x k = true := by
  unfold zz_b
  constructor
  · intro h
    cases e : zb_t x k with
    | true => rfl
    | false =>
      refine absurd (zb_ext (fun i hi => ?_)) h
      rw [zb_and, zb_0, zb_1 i hi]
      by_cases c : i = 0
      · rw [zb_sshr k hk x hi, c, if_pos (show k + 0 < 32 by omega), Nat.add_zero, e]
        rfl
      · rw [decide_eq_false c, Bool.and_false]
  · intro h z
    have e := congrArg (fun y => zb_t y 0) z
    rw [zb_and, zb_0, zb_1 0 (by decide), zb_sshr k hk x (by decide), if_pos (show k + 0 < 32 by omega), Nat.add_zero, h] at e
    exact absurd e (by decide)
theorem zb_bor {x y : Int32} {k : Nat} (hk : k < 32) : zz_b (x ||| y) k ↔ zz_b x k ∨ zz_b y k := by
  rw [zb_b hk, zb_b hk, zb_b hk, zb_or, Bool.or_eq_true]
theorem zb_b0 {k : Nat} (hk : k < 32) : ¬ zz_b 0 k := by
  rw [zb_b hk, zb_0]
  decide
theorem zb_b255 {x : Int32} {k : Nat} (hk : k < 8) : zz_b (x &&& 255) k ↔ zz_b x k := by
  rw [zb_b (by omega), zb_b (by omega), zb_and, zb_255 k (by omega), decide_eq_true hk, Bool.and_true]
theorem zb_b1 {a k : Nat} (ha : a < 32) (hk : k < 32) : zz_b ((1 : Int32) <<< (nI a &&& 31)) k ↔ k = a := by
  rw [zb_b hk, zb_shl a ha 1 hk, Bool.and_eq_true, decide_eq_true_iff]
  constructor
  · intro h
    have := h.2
    rw [zb_1 (k - a) (by omega), decide_eq_true_iff] at this
    omega
  · intro h
    rw [h, Nat.sub_self]
    exact ⟨Nat.le_refl a, by decide⟩
theorem zb_bclr {x : Int32} {a k : Nat} (ha : a < 32) (hk : k < 32) : zz_b (x &&& (((1 : Int32) <<< (nI a &&& 31)) ^^^ (-1))) k ↔ zz_b x k ∧ k ≠ a := by
  rw [zb_b hk, zb_b hk, zb_and, zb_xor, zb_m1 k hk, Bool.and_eq_true]
  have h1 := zb_b1 ha hk
  rw [zb_b hk] at h1
  constructor
  · intro h
    refine ⟨h.1, fun e => ?_⟩
    have h2 := h.2
    rw [h1.2 e] at h2
    exact absurd h2 (by decide)
  · intro h
    refine ⟨h.1, ?_⟩
    cases e : zb_t ((1 : Int32) <<< (nI a &&& 31)) k with
    | true => exact absurd (h1.1 e) h.2
    | false => rfl
theorem zb_b8 {x : Int32} {k : Nat} (hk : k < 8) : zz_b x.toInt8.toInt32 k ↔ zz_b x k := by
  rw [zb_b (by omega), zb_b (by omega), zb_bp hk]
/-! ## links -/
/-- links go both ways, and from no station to itself -/
def zz_lk (S : zz_T) : Prop := ∀ a b, a < 8 → b < 8 → (zz_b (S 6 a) b → zz_b (S 6 b) a) ∧ ¬ zz_b (S 6 a) a
theorem zz_lkv {x up : Int32} {b k : Nat} (hb : b < 8) (hk : k < 8) : zz_b (mm_lkv x b up).toInt8.toInt32 k ↔ (k = b ∧ ¬ up = 0) ∨ (k ≠ b ∧ zz_b x k) := by
  rw [zb_b8 hk]
  unfold mm_lkv
  by_cases c : up = 0
  · rw [if_pos c, zb_bclr (by omega) (by omega)]
    exact ⟨fun h => Or.inr ⟨h.2, h.1⟩, fun h => h.elim (fun z => absurd c z.2) (fun z => ⟨z.2, z.1⟩)⟩
  · rw [if_neg c, zb_bor (by omega), zb_b1 (by omega) (by omega)]
    constructor
    · intro h
      by_cases e : k = b
      · exact Or.inl ⟨e, c⟩
      · exact Or.inr ⟨e, h.resolve_right e⟩
    · intro h
      exact h.elim (fun z => Or.inr z.1) (fun z => Or.inl z.2)
theorem zz_lkb {S : zz_T} {a b : Nat} {up : Int32} (ha : a < 8) (hb : b < 8) (hab : a ≠ b) {x y : Nat} (hy : y < 8) :
    zz_b (mm_link a b up S 6 x) y ↔ ((x = a ∧ y = b ∨ x = b ∧ y = a) ∧ ¬ up = 0) ∨ (¬ (x = a ∧ y = b ∨ x = b ∧ y = a) ∧ zz_b (S 6 x) y) := by
  unfold mm_link mm_link1
  rw [zz_se]
  by_cases c : x = b
  · subst c
    rw [pk_us, zz_lkv ha hy, zz_se, pk_un (Ne.symm hab)]
    constructor
    · rintro (⟨h1, h2⟩ | ⟨h1, h2⟩)
      · exact Or.inl ⟨Or.inr ⟨rfl, h1⟩, h2⟩
      · exact Or.inr ⟨fun z => z.elim (fun q => hab q.1.symm) (fun q => h1 q.2), h2⟩
    · rintro (⟨h1, h2⟩ | ⟨h1, h2⟩)
      · exact Or.inl ⟨h1.elim (fun q => absurd q.1.symm hab) (fun q => q.2), h2⟩
      · exact Or.inr ⟨fun z => h1 (Or.inr ⟨rfl, z⟩), h2⟩
  · rw [pk_un c, zz_se]
    by_cases d : x = a
    · subst d
      rw [pk_us, zz_lkv hb hy]
      constructor
      · rintro (⟨h1, h2⟩ | ⟨h1, h2⟩)
        · exact Or.inl ⟨Or.inl ⟨rfl, h1⟩, h2⟩
        · exact Or.inr ⟨fun z => z.elim (fun q => h1 q.2) (fun q => c q.1), h2⟩
      · rintro (⟨h1, h2⟩ | ⟨h1, h2⟩)
        · exact Or.inl ⟨h1.elim (fun q => q.2) (fun q => absurd q.1 c), h2⟩
        · exact Or.inr ⟨fun z => h1 (Or.inl ⟨rfl, z⟩), h2⟩
    · rw [pk_un d]
      constructor
      · intro h
        exact Or.inr ⟨fun z => z.elim (fun q => d q.1) (fun q => c q.1), h⟩
      · rintro (⟨h1, _⟩ | ⟨_, h2⟩)
        · exact h1.elim (fun q => absurd q.1 d) (fun q => absurd q.1 c)
        · exact h2
theorem zz_lkl {S : zz_T} {a b : Nat} {up : Int32} (ha : a < 8) (hb : b < 8) (hab : a ≠ b) (h : zz_lk S) : zz_lk (mm_link a b up S) := by
  intro x y hx hy
  obtain ⟨h1, h2⟩ := h x y hx hy
  refine ⟨fun z => ?_, fun z => ?_⟩
  · rw [zz_lkb ha hb hab hy] at z
    rw [zz_lkb ha hb hab hx]
    rcases z with ⟨z1, z2⟩ | ⟨z1, z2⟩
    · exact Or.inl ⟨z1.elim (fun q => Or.inr ⟨q.2, q.1⟩) (fun q => Or.inl ⟨q.2, q.1⟩), z2⟩
    · exact Or.inr ⟨fun q => z1 (q.elim (fun r => Or.inr ⟨r.2, r.1⟩) (fun r => Or.inl ⟨r.2, r.1⟩)), h1 z2⟩
  · rw [zz_lkb ha hb hab hx] at z
    rcases z with ⟨z1, _⟩ | ⟨_, z2⟩
    · exact z1.elim (fun q => hab (q.1.symm.trans q.2)) (fun q => hab (q.2.symm.trans q.1))
    · exact h2 z2
/-! ## reach -/
theorem zz_widb {S : zz_T} {r : Int32} {k : Nat} (hk : k < 8) : zz_b (mm_wid S r) k ↔ zz_b r k ∨ ∃ s, s < 8 ∧ zz_b r s ∧ zz_b (S 6 s) k := by
  have key : ∀ n, n ≤ 8 → (zz_b (zz_it (mm_wid1 S r) n r) k ↔ zz_b r k ∨ ∃ s, s < n ∧ zz_b r s ∧ zz_b (S 6 s) k) := by
    intro n
    induction n with
    | zero =>
      intro _
      exact ⟨fun h => Or.inl h, fun h => h.elim id (fun ⟨s, hs, _⟩ => absurd hs (by omega))⟩
    | succ n ih =>
      intro hn
      have ih' := ih (by omega)
      show zz_b (mm_wid1 S r n (zz_it (mm_wid1 S r) n r)) k ↔ _
      unfold mm_wid1 at ih' ⊢
      by_cases c : zz_b r n
      · rw [if_pos c, zb_bor (by omega), zb_b255 hk, ih']
        constructor
        · rintro ((h | ⟨s, h1, h2⟩) | h)
          · exact Or.inl h
          · exact Or.inr ⟨s, by omega, h2⟩
          · exact Or.inr ⟨n, by omega, c, h⟩
        · rintro (h | ⟨s, h1, h2, h3⟩)
          · exact Or.inl (Or.inl h)
          · by_cases e : s = n
            · rw [e] at h3
              exact Or.inr h3
            · exact Or.inl (Or.inr ⟨s, by omega, h2, h3⟩)
      · rw [if_neg c, zb_bor (by omega), ih']
        constructor
        · rintro ((h | ⟨s, h1, h2⟩) | h)
          · exact Or.inl h
          · exact Or.inr ⟨s, by omega, h2⟩
          · exact absurd h (zb_b0 (by omega))
        · rintro (h | ⟨s, h1, h2, h3⟩)
          · exact Or.inl (Or.inl h)
          · by_cases e : s = n
            · rw [e] at h2
              exact absurd h2 c
            · exact Or.inl (Or.inr ⟨s, by omega, h2, h3⟩)
  exact key 8 (Nat.le_refl 8)
/-- b is at most n links from a -/
def zz_R (S : zz_T) (a n b : Nat) : Prop := zz_b (mm_rch S a n) b
theorem zz_R0 {S : zz_T} {a b : Nat} (ha : a < 8) (hb : b < 8) : zz_R S a 0 b ↔ b = a := zb_b1 (by omega) (by omega)
theorem zz_Rs {S : zz_T} {a n b : Nat} (hb : b < 8) : zz_R S a (n + 1) b ↔ zz_R S a n b ∨ ∃ s, s < 8 ∧ zz_R S a n s ∧ zz_b (S 6 s) b := zz_widb hb
theorem zz_Rm {S : zz_T} {a b : Nat} (hb : b < 8) : ∀ {n m}, n ≤ m → zz_R S a n b → zz_R S a m b := by
  intro n m h
  induction h with
  | refl => exact id
  | step _ ih => exact fun z => (zz_Rs hb).2 (Or.inl (ih z))
theorem zz_Rp {S : zz_T} {a b : Nat} (ha : a < 8) (hb : b < 8) (h : zz_b (S 6 b) a) : ∀ n x, x < 8 → zz_R S a n x → zz_R S b (n + 1) x := by
  intro n
  induction n with
  | zero =>
    intro x hx z
    rw [zz_R0 ha hx] at z
    rw [z]
    exact (zz_Rs ha).2 (Or.inr ⟨b, hb, (zz_R0 hb hb).2 rfl, h⟩)
  | succ n ih =>
    intro x hx z
    rcases (zz_Rs hx).1 z with z | ⟨s, hs, z1, z2⟩
    · exact (zz_Rs hx).2 (Or.inl (ih x hx z))
    · exact (zz_Rs hx).2 (Or.inr ⟨s, hs, ih s hs z1, z2⟩)
theorem zz_Ry {S : zz_T} (hl : zz_lk S) {a : Nat} (ha : a < 8) : ∀ n b, b < 8 → zz_R S a n b → zz_R S b n a := by
  intro n
  induction n with
  | zero =>
    intro b hb z
    rw [zz_R0 ha hb] at z
    exact (zz_R0 hb ha).2 z.symm
  | succ n ih =>
    intro b hb z
    rcases (zz_Rs hb).1 z with z | ⟨s, hs, z1, z2⟩
    · exact zz_Rm ha (by omega) (ih b hb z)
    · exact zz_Rp hs hb ((hl s b hs hb).1 z2) n a ha (ih s hs z1)
theorem zz_cntm {P Q : Nat → Prop} : ∀ n, (∀ k, k < n → P k → Q k) → zz_cnt P n ≤ zz_cnt Q n
  | 0, _ => Nat.le_refl 0
  | n + 1, h => by
    have ih := zz_cntm n (fun k hk => h k (by omega))
    unfold zz_cnt
    by_cases c : P n
    · rw [if_pos c, if_pos (h n (by omega) c)]
      omega
    · rw [if_neg c]
      omega
theorem zz_cnts {P Q : Nat → Prop} : ∀ n, (∀ k, k < n → P k → Q k) → ∀ j, j < n → Q j → ¬ P j → zz_cnt P n + 1 ≤ zz_cnt Q n
  | 0, _, j, hj, _, _ => absurd hj (by omega)
  | n + 1, h, j, hj, hq, hp => by
    by_cases e : j = n
    · have ih := zz_cntm n (fun k hk => h k (by omega))
      unfold zz_cnt
      rw [e] at hq hp
      rw [if_neg hp, if_pos hq]
      omega
    · have ih := zz_cnts n (fun k hk => h k (by omega)) j (by omega) hq hp
      unfold zz_cnt
      by_cases c : P n
      · rw [if_pos c, if_pos (h n (by omega) c)]
        omega
      · rw [if_neg c]
        omega
/-- nothing new is reached with 8 links -/
theorem zz_R7 {S : zz_T} {a : Nat} (ha : a < 8) : ∀ n b, b < 8 → zz_R S a n b → zz_R S a 7 b := by
  have st : ∀ n, (∀ b, b < 8 → zz_R S a (n + 1) b → zz_R S a n b) → ∀ b, b < 8 → zz_R S a (n + 2) b → zz_R S a (n + 1) b := by
    intro n h b hb z
    rcases (zz_Rs hb).1 z with z | ⟨s, hs, z1, z2⟩
    · exact z
    · exact (zz_Rs hb).2 (Or.inr ⟨s, hs, h s hs z1, z2⟩)
  have gr : ∀ n, (∀ b, b < 8 → zz_R S a (n + 1) b → zz_R S a n b) ∨ n + 2 ≤ zz_cnt (zz_R S a (n + 1)) 8 := by
    intro n
    induction n with
    | zero =>
      by_cases c : ∀ b, b < 8 → zz_R S a 1 b → zz_R S a 0 b
      · exact Or.inl c
      · right
        obtain ⟨b, hb⟩ := Classical.not_forall.1 c
        obtain ⟨hb, hb'⟩ := Classical.not_imp.1 hb
        obtain ⟨hb1, hb2⟩ := Classical.not_imp.1 hb'
        have h1 := zz_cnts (P := zz_R S a 0) (Q := zz_R S a (0 + 1)) 8 (fun k hk => zz_Rm hk (by omega)) b hb hb1 hb2
        have h0 := zz_cnts (P := fun _ => False) (Q := zz_R S a 0) 8 (fun k _ z => z.elim) a ha ((zz_R0 ha ha).2 rfl) id
        omega
    | succ n ih =>
      rcases ih with ih | ih
      · exact Or.inl (st n ih)
      · by_cases c : ∀ b, b < 8 → zz_R S a (n + 2) b → zz_R S a (n + 1) b
        · exact Or.inl c
        · right
          obtain ⟨b, hb⟩ := Classical.not_forall.1 c
          obtain ⟨hb, hb'⟩ := Classical.not_imp.1 hb
          obtain ⟨hb1, hb2⟩ := Classical.not_imp.1 hb'
          have h1 := zz_cnts (P := zz_R S a (n + 1)) (Q := zz_R S a (n + 1 + 1)) 8 (fun k hk => zz_Rm hk (by omega)) b hb hb1 hb2
          omega
  have p7 : ∀ b, b < 8 → zz_R S a 8 b → zz_R S a 7 b := by
    rcases gr 7 with h | h
    · exact h
    · have := zz_cntle (P := zz_R S a (7 + 1)) 8
      omega
  have pn : ∀ n b, b < 8 → zz_R S a (n + 7) b → zz_R S a 7 b := by
    intro n
    induction n with
    | zero => exact fun b _ z => z
    | succ n ih =>
      intro b hb z
      rcases (zz_Rs hb).1 (show zz_R S a (n + 7 + 1) b by rw [show n + 7 + 1 = n + 1 + 7 by omega]; exact z) with z | ⟨s, hs, z1, z2⟩
      · exact ih b hb z
      · exact p7 b hb ((zz_Rs hb).2 (Or.inr ⟨s, hs, ih s hs z1, z2⟩))
  intro n b hb z
  exact pn n b hb (zz_Rm hb (by omega) z)
/-- b can be reached from a -/
def zz_con (S : zz_T) (a b : Nat) : Prop := zz_R S a 7 b
theorem zz_con0 {S : zz_T} {a : Nat} (ha : a < 8) : zz_con S a a := zz_Rm ha (by omega) ((zz_R0 ha ha).2 rfl)
theorem zz_cons {S : zz_T} {a s b : Nat} (ha : a < 8) (hs : s < 8) (hb : b < 8) (h : zz_con S a s) (hu : zz_b (S 6 s) b) : zz_con S a b :=
  zz_R7 ha 8 b hb ((zz_Rs hb).2 (Or.inr ⟨s, hs, h, hu⟩))
theorem zz_cond {S : zz_T} {a b : Nat} (hb : b < 8) : zz_con S a b ↔ ∃ n, mm_dist S a b = some n := by
  constructor
  · intro h
    cases e : mm_dist S a b with
    | none => exact absurd h (zz_fst_none 8 0 e 7 (by omega) (by omega))
    | some n => exact ⟨n, rfl⟩
  · rintro ⟨n, h⟩
    have := zz_fst_some 8 0 n h
    exact zz_Rm hb (by omega) this.2.2.1
theorem zz_fstc {P Q : Nat → Prop} (h : ∀ n, P n ↔ Q n) (k i : Nat) : zz_fst P k i = zz_fst Q k i := by
  rw [show P = Q from funext (fun n => propext (h n))]
theorem zz_dsym {S : zz_T} (hl : zz_lk S) {a b : Nat} (ha : a < 8) (hb : b < 8) : mm_dist S a b = mm_dist S b a :=
  zz_fstc (fun n => ⟨fun z => zz_Ry hl ha n b hb z, fun z => zz_Ry hl hb n a ha z⟩) 8 0
theorem zz_d0 {S : zz_T} {a : Nat} (ha : a < 8) : mm_dist S a a = some 0 := by
  unfold mm_dist zz_fst
  rw [if_pos (show zz_b (mm_rch S a 0) a from (zz_R0 ha ha).2 rfl)]
theorem zz_d1 {S : zz_T} {a b : Nat} (ha : a < 8) (hb : b < 8) (hab : a ≠ b) : mm_dist S a b = some 1 ↔ ((S 6 a &&& 255) >>> (nI b &&& 31)) &&& 1 = 1 := by
  have hn : ¬ zz_b (mm_rch S a 0) b := fun z => hab ((zz_R0 ha hb).1 z).symm
  have h1 : zz_b (mm_rch S a 1) b ↔ zz_b (S 6 a) b := by
    constructor
    · intro z
      rcases (zz_Rs (n := 0) hb).1 z with z | ⟨s, hs, z1, z2⟩
      · exact absurd z hn
      · rw [(zz_R0 ha hs).1 z1] at z2
        exact z2
    · intro z
      exact (zz_Rs (n := 0) hb).2 (Or.inr ⟨a, ha, (zz_R0 ha ha).2 rfl, z⟩)
  have hx : ∀ x : Int32, x &&& 1 = 1 ↔ ¬ x &&& 1 = 0 := by
    intro x
    obtain ⟨j, hj, e⟩ := pk_andE x (m := 1) 1 (by decide)
    rw [e]
    have : j = 0 ∨ j = 1 := by omega
    rcases this with rfl | rfl
    · decide
    · decide
  rw [hx]
  show _ ↔ zz_b (S 6 a &&& 255) b
  rw [zb_b255 hb, ← h1]
  constructor
  · intro h
    exact (zz_fst_some 8 0 1 h).2.2.1
  · intro h
    unfold mm_dist zz_fst
    rw [if_neg hn]
    unfold zz_fst
    rw [if_pos h]
