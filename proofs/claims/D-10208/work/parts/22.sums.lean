/-! ## counting -/
theorem zz_cntc {P Q : Nat → Prop} : ∀ n, (∀ k, k < n → (P k ↔ Q k)) → zz_cnt P n = zz_cnt Q n := by
  intro n h
  have h1 := zz_cntm n (fun k hk => (h k hk).1)
  have h2 := zz_cntm (P := Q) (Q := P) n (fun k hk => (h k hk).2)
  omega
theorem zz_cnta {P Q R : Nat → Prop} : ∀ n, (∀ k, k < n → (R k ↔ P k ∨ Q k)) → (∀ k, k < n → P k → ¬ Q k) → zz_cnt R n = zz_cnt P n + zz_cnt Q n
  | 0, _, _ => rfl
  | n + 1, h, hd => by
    have ih := zz_cnta n (fun k hk => h k (by omega)) (fun k hk => hd k (by omega))
    have hn := h n (by omega)
    unfold zz_cnt
    by_cases c : P n
    · rw [if_pos c, if_neg (hd n (by omega) c), if_pos (hn.2 (Or.inl c))]
      omega
    · by_cases d : Q n
      · rw [if_neg c, if_pos d, if_pos (hn.2 (Or.inr d))]
        omega
      · rw [if_neg c, if_neg d, if_neg (fun z => (hn.1 z).elim c d)]
        omega
theorem zz_cnt1e {P : Nat → Prop} : ∀ n j, j < n → P j → (∀ k, k < n → P k → k = j) → zz_cnt P n = 1
  | 0, j, hj, _, _ => absurd hj (by omega)
  | n + 1, j, hj, hp, hu => by
    unfold zz_cnt
    by_cases e : j = n
    · subst e
      have : zz_cnt P j = 0 := by
        refine Nat.eq_zero_of_not_pos (fun z => ?_)
        obtain ⟨i, hi, hpi⟩ := zz_cnt1 (P := P) j (by omega)
        have := hu i (by omega) hpi
        omega
      rw [if_pos hp, this]
    · have ih := zz_cnt1e n j (by omega) hp (fun k hk => hu k (by omega))
      rw [if_neg (fun z => e (hu n (by omega) z).symm), ih]
/-- numbered one by one from lo to hi -/
theorem zz_cntq {P : Nat → Prop} {q : Nat → Nat} {n lo : Nat} : ∀ d, (∀ m, m < n → P m → lo ≤ q m ∧ q m < lo + d) → (∀ m m', m < n → m' < n → P m → P m' → q m = q m' → m = m') → (∀ j, lo ≤ j → j < lo + d → ∃ m, m < n ∧ P m ∧ q m = j) → zz_cnt P n = d := by
  intro d
  induction d generalizing P with
  | zero =>
    intro h1 _ _
    refine Nat.eq_zero_of_not_pos (fun z => ?_)
    obtain ⟨i, hi, hp⟩ := zz_cnt1 (P := P) n (by omega)
    have := h1 i hi hp
    omega
  | succ d ih =>
    intro h1 h2 h3
    obtain ⟨x, hx, hpx, ex⟩ := h3 (lo + d) (by omega) (by omega)
    have e1 : zz_cnt (fun m => P m ∧ q m ≠ lo + d) n = d := by
      refine ih (fun m hm hp => ?_) (fun m m' hm hm' hp hp' => h2 m m' hm hm' hp.1 hp'.1) (fun j hj hj' => ?_)
      · have := h1 m hm hp.1
        have := hp.2
        omega
      · obtain ⟨m, hm, hp, e⟩ := h3 j hj (by omega)
        exact ⟨m, hm, ⟨hp, by omega⟩, e⟩
    have e2 : zz_cnt (fun m => P m ∧ q m = lo + d) n = 1 := zz_cnt1e n x hx ⟨hpx, ex⟩ (fun k hk hp => h2 k x hk hx hp.1 hpx (hp.2.trans ex.symm))
    rw [zz_cnta (P := fun m => P m ∧ q m ≠ lo + d) (Q := fun m => P m ∧ q m = lo + d) n (fun k _ => ?_) (fun k _ hp hq => hp.2 hq.2), e1, e2]
    constructor
    · intro hp
      by_cases c : q k = lo + d
      · exact Or.inr ⟨hp, c⟩
      · exact Or.inl ⟨hp, c⟩
    · exact fun z => z.elim (fun y => y.1) (fun y => y.1)
/-! ## sums -/
theorem zz_sum {S : zz_T} (h9 : zz_910 S) : zz_it (mm_sum1 S) 64 0 = zz_cnt (mm_has S) 16 := by
  have key : zz_it (mm_sum1 S) 64 0 = zz_cnt (fun m => mm_has S m ∧ (S 9 m).toNatClampNeg + 8 * (S 10 m).toNatClampNeg < 64) 16 := by
    refine zz_itI (fun (n : Nat) (r : Nat) => r = zz_cnt (fun m => mm_has S m ∧ (S 9 m).toNatClampNeg + 8 * (S 10 m).toNatClampNeg < n) 16) ?_ ?_
    · refine (Nat.eq_zero_of_not_pos (fun z => ?_)).symm
      obtain ⟨i, _, hp⟩ := zz_cnt1 16 (by omega : zz_cnt (fun m => mm_has S m ∧ (S 9 m).toNatClampNeg + 8 * (S 10 m).toNatClampNeg < 0) 16 ≠ 0)
      exact absurd hp.2 (by omega)
    · intro n r hn hr
      have en : ∀ m, m < 16 → (S 9 m = nI (n % 8) ∧ S 10 m = nI (n / 8) ↔ (S 9 m).toNatClampNeg + 8 * (S 10 m).toNatClampNeg = n) := by
        intro m hm
        obtain ⟨⟨a, ha, ea⟩, ⟨b, hb, eb⟩⟩ := h9 m hm
        rw [ea, eb, nI_clamp (show a < 2 ^ 31 by omega), nI_clamp (show b < 2 ^ 31 by omega), nI_eq (by omega) (by omega), nI_eq (by omega) (by omega)]
        omega
      have e1 : zz_cnt (fun m => mm_has S m ∧ (S 9 m).toNatClampNeg + 8 * (S 10 m).toNatClampNeg = n) 16 = zz_cnt (mm_wt S (nI (n % 8)) (nI (n / 8))) 16 + zz_cnt (mm_at S (nI (n % 8)) (nI (n / 8))) 16 := by
        refine zz_cnta 16 (fun m hm => ?_) (fun m _ hp hq => hp.2.1 hq.2.1)
        rw [← en m hm]
        unfold mm_wt mm_at
        constructor
        · rintro ⟨z1, z2, z3⟩
          by_cases c : mm_isT S m
          · exact Or.inr ⟨z1, c, z2, z3⟩
          · exact Or.inl ⟨z1, c, z2, z3⟩
        · rintro (⟨z1, _, z2, z3⟩ | ⟨z1, _, z2, z3⟩)
          · exact ⟨z1, z2, z3⟩
          · exact ⟨z1, z2, z3⟩
      have e2 : zz_cnt (fun m => mm_has S m ∧ (S 9 m).toNatClampNeg + 8 * (S 10 m).toNatClampNeg < n + 1) 16 = zz_cnt (fun m => mm_has S m ∧ (S 9 m).toNatClampNeg + 8 * (S 10 m).toNatClampNeg < n) 16 + zz_cnt (fun m => mm_has S m ∧ (S 9 m).toNatClampNeg + 8 * (S 10 m).toNatClampNeg = n) 16 := by
        refine zz_cnta 16 (fun m _ => ?_) (fun m _ hp hq => by omega)
        constructor
        · rintro ⟨z1, z2⟩
          by_cases c : (S 9 m).toNatClampNeg + 8 * (S 10 m).toNatClampNeg = n
          · exact Or.inr ⟨z1, c⟩
          · exact Or.inl ⟨z1, by omega⟩
        · rintro (⟨z1, z2⟩ | ⟨z1, z2⟩)
          · exact ⟨z1, by omega⟩
          · exact ⟨z1, by omega⟩
      rw [e2, e1, ← hr]
      unfold mm_sum1
      omega
  rw [key]
  refine zz_cntc 16 (fun m hm => ⟨fun z => z.1, fun z => ⟨z, ?_⟩⟩)
  obtain ⟨⟨a, ha, ea⟩, ⟨b, hb, eb⟩⟩ := h9 m hm
  rw [ea, eb, nI_clamp (show a < 2 ^ 31 by omega), nI_clamp (show b < 2 ^ 31 by omega)]
  omega
/-! ## the messages of the law's own pair -/
def zz_pm (so go : Nat) (S : zz_T) (m : Nat) : Prop := mm_has S m ∧ S 9 m = nI so ∧ S 10 m = nI go
def zz_cq (S : zz_T) (m : Nat) (d : Int32) : Prop :=
  (d = 0 → S 11 m = 0) ∧ (¬ d = 0 → S 11 m = 1 ∧ (mm_isT S m → S 13 (m * 8) &&& 255 = d - 1) ∧ (¬ mm_isT S m → S 12 (m * 8) &&& 255 = d - 1))
/-- the messages of the pair are those that were posted as number tk, .., sent - 1, in the order of their serials, and say what the row says -/
def zz_D (so go : Nat) (row : Int64) (sent tk : Nat) (S : zz_T) : Prop := tk ≤ sent ∧ ∃ q : Nat → Nat,
  (∀ m, m < 16 → zz_pm so go S m → tk ≤ q m ∧ q m < sent ∧ (q m < 7 → zz_cq S m (mm_due row (q m)))) ∧
  (∀ m m', m < 16 → m' < 16 → zz_pm so go S m → zz_pm so go S m' → S 8 m < S 8 m' → q m < q m') ∧
  (∀ j, tk ≤ j → j < sent → ∃ m, m < 16 ∧ zz_pm so go S m ∧ q m = j)
theorem zz_Dinj {N so go : Nat} {S : zz_T} {q : Nat → Nat} (hK : zz_K N S) (h2 : ∀ m m', m < 16 → m' < 16 → zz_pm so go S m → zz_pm so go S m' → S 8 m < S 8 m' → q m < q m') :
    ∀ m m', m < 16 → m' < 16 → zz_pm so go S m → zz_pm so go S m' → q m = q m' → m = m' := by
  intro m m' hm hm' hp hp' e
  by_cases c : m = m'
  · exact c
  · have hne := (hK.2.2.2.2.2 m m' hm hm' c hp.1 hp'.1).1
    rcases Int32.lt_or_le (S 8 m) (S 8 m') with z | z
    · have := h2 m m' hm hm' hp hp' z
      omega
    · have := h2 m' m hm' hm hp' hp (Int32.lt_of_le_of_ne z (Ne.symm hne))
      omega
theorem zz_row {N so go sent tk : Nat} {row : Int64} {S : zz_T} (hK : zz_K N S) (hD : zz_D so go row sent tk S) :
    zz_cnt (mm_at S (nI so) (nI go)) 16 + tk + zz_cnt (mm_wt S (nI so) (nI go)) 16 = sent ∧
    ∀ i, i < zz_cnt (mm_at S (nI so) (nI go)) 16 → ∃ m, m < 16 ∧ mm_find S (nI so) (nI go) i = some m ∧ (tk + i < 7 → zz_ct S m (mm_due row (tk + i))) := by
  obtain ⟨hle, q, h1, h2, h3⟩ := hD
  have hinj := zz_Dinj hK h2
  have ht : zz_cnt (zz_pm so go S) 16 = sent - tk := by
    refine zz_cntq (lo := tk) (sent - tk) (fun m hm hp => ?_) hinj (fun j z1 z2 => h3 j z1 (by omega))
    obtain ⟨z1, z2, _⟩ := h1 m hm hp
    omega
  have hs : zz_cnt (zz_pm so go S) 16 = zz_cnt (mm_at S (nI so) (nI go)) 16 + zz_cnt (mm_wt S (nI so) (nI go)) 16 := by
    refine zz_cnta 16 (fun m _ => ?_) (fun m _ hp hq => hq.2.1 hp.2.1)
    unfold zz_pm mm_wt mm_at
    constructor
    · rintro ⟨z1, z2, z3⟩
      by_cases c : mm_isT S m
      · exact Or.inl ⟨z1, c, z2, z3⟩
      · exact Or.inr ⟨z1, c, z2, z3⟩
    · rintro (⟨z1, _, z2, z3⟩ | ⟨z1, _, z2, z3⟩)
      · exact ⟨z1, z2, z3⟩
      · exact ⟨z1, z2, z3⟩
  have pmA : ∀ m, mm_at S (nI so) (nI go) m → zz_pm so go S m := fun m z => ⟨z.1, z.2.2.1, z.2.2.2⟩
  have ord : ∀ m m', m < 16 → m' < 16 → zz_pm so go S m → zz_pm so go S m' → q m < q m' → S 8 m < S 8 m' := by
    intro m m' hm hm' hp hp' z
    rcases Int32.lt_or_le (S 8 m) (S 8 m') with y | y
    · exact y
    · have hne : m ≠ m' := fun e => by rw [e] at z; omega
      have := h2 m' m hm' hm hp' hp (Int32.lt_of_le_of_ne y (Ne.symm (hK.2.2.2.2.2 m m' hm hm' hne hp.1 hp'.1).1))
      omega
  -- those that are there come first
  have down : ∀ m m', m < 16 → m' < 16 → mm_at S (nI so) (nI go) m → zz_pm so go S m' → q m' < q m → mm_at S (nI so) (nI go) m' := by
    intro m m' hm hm' hp hp' z
    refine ⟨hp'.1, Classical.byContradiction (fun c => ?_), hp'.2.1, hp'.2.2⟩
    have hne : m ≠ m' := fun e => by rw [e] at z; omega
    have z1 := (hK.2.2.2.2.2 m m' hm hm' hne hp.1 hp'.1).2 (hp.2.2.1.trans hp'.2.1.symm) (hp.2.2.2.trans hp'.2.2.symm) hp.2.1 c
    have := h2 m m' hm hm' (pmA m hp) hp' z1
    omega
  have erl : ∀ m, m < 16 → mm_at S (nI so) (nI go) m → mm_erl S (nI so) (nI go) m = q m - tk := by
    intro m hm hp
    obtain ⟨z1, z2, _⟩ := h1 m hm (pmA m hp)
    unfold mm_erl
    refine zz_cntq (q := q) (lo := tk) (q m - tk) (fun m' hm' hp' => ?_) (fun m' m'' hm' hm'' hp' hp'' => hinj m' m'' hm' hm'' (pmA m' hp'.1) (pmA m'' hp''.1)) (fun j y1 y2 => ?_)
    · have y := h2 m' m hm' hm (pmA m' hp'.1) (pmA m hp) (Int32.not_le.1 hp'.2)
      obtain ⟨x1, _⟩ := h1 m' hm' (pmA m' hp'.1)
      omega
    · obtain ⟨m', hm', hp', e⟩ := h3 j y1 (by omega)
      refine ⟨m', hm', ⟨down m m' hm hm' hp hp' (by omega), Int32.not_le.2 (ord m' m hm' hm hp' (pmA m hp) (by omega))⟩, e⟩
  refine ⟨by omega, fun i hi => ?_⟩
  obtain ⟨m, hm, hp, e⟩ := h3 (tk + i) (by omega) (by omega)
  -- it is there: else those that are there are numbered below it
  have hat : mm_at S (nI so) (nI go) m := by
    refine ⟨hp.1, Classical.byContradiction (fun c => ?_), hp.2.1, hp.2.2⟩
    have hlt : ∀ m', m' < 16 → mm_at S (nI so) (nI go) m' → q m' < tk + i := by
      intro m' hm' hp'
      rcases Nat.lt_or_ge (q m') (tk + i) with y | y
      · exact y
      · by_cases e2 : q m' = q m
        · have := hinj m' m hm' hm (pmA m' hp') hp e2
          rw [this] at hp'
          exact absurd hp'.2.1 c
        · exact absurd (down m' m hm' hm hp' hp (by omega)).2.1 c
    have hc : zz_cnt (mm_at S (nI so) (nI go)) 16 ≤ zz_cnt (fun m' => zz_pm so go S m' ∧ q m' < tk + i) 16 := zz_cntm 16 (fun k hk z => ⟨pmA k z, hlt k hk z⟩)
    have hc2 : zz_cnt (fun m' => zz_pm so go S m' ∧ q m' < tk + i) 16 = i := by
      refine zz_cntq (q := q) (lo := tk) i (fun m' hm' hp' => ?_) (fun m' m'' hm' hm'' hp' hp'' => hinj m' m'' hm' hm'' hp'.1 hp''.1) (fun j y1 y2 => ?_)
      · have := (h1 m' hm' hp'.1).1
        have := hp'.2
        omega
      · obtain ⟨m', hm', hp', e'⟩ := h3 j y1 (by omega)
        exact ⟨m', hm', ⟨hp', by omega⟩, e'⟩
    omega
  refine ⟨m, hm, ?_, fun h7 => ?_⟩
  · unfold mm_find
    cases hf : zz_fst (fun m => mm_at S (nI so) (nI go) m ∧ mm_erl S (nI so) (nI go) m = i) 16 0 with
    | none =>
      have ee := erl m hm hat
      exact absurd ⟨hat, by omega⟩ (zz_fst_none 16 0 hf m (by omega) (by omega))
    | some m' =>
      obtain ⟨_, y1, ⟨y2, y3⟩, _⟩ := zz_fst_some 16 0 m' hf
      have y4 := erl m' (by omega) y2
      have y5 := (h1 m' (by omega) (pmA m' y2)).1
      rw [hinj m' m (by omega) hm (pmA m' y2) hp (by omega)]
  · have := (h1 m hm hp).2.2 (by omega)
    rw [e] at this
    exact ⟨this.1, fun z => ⟨(this.2 z).1, (this.2 z).2.1 hat.2.1⟩⟩
