/-! ## a settling -/
theorem zz_calmo {f : Nat} {S : zz_T} (h : f ≠ 32) : mm_calm S f = S f := zz_itn (fun k V => zz_sn h) 1024 S
theorem zz_calm32 {S : zz_T} : ∀ i, i < 1024 → mm_calm S 32 i = 0 := by
  unfold mm_calm
  refine zz_itI (fun (n : Nat) (V : zz_T) => ∀ i, i < n → V 32 i = 0) (fun i hi => absurd hi (by omega)) ?_
  intro n V _ hV i hi
  show zz_s V 32 n 0 32 i = 0
  rw [zz_se]
  by_cases e : i = n
  · rw [e, pk_us]
  · rw [pk_un e]
    exact hV i (by omega)
theorem zz_J0 {ns : Nat} {S : zz_T} (h : zz_I ns S) : ∀ Z : zz_T, Z = mm_calm S → zz_J ns Z Z := by
  intro Z hZ
  have ho : ∀ f, f ≠ 32 → Z f = S f := fun f hf => by rw [hZ]; exact zz_calmo hf
  have h32 : ∀ i, i < 1024 → Z 32 i = 0 := by
    rw [hZ]
    exact zz_calm32
  clear hZ
  obtain ⟨k1, k2, k3, k4, k5, k6, k7⟩ := h
  refine ⟨⟨zz_5of (ho 5 (by decide)) k2, zz_24of (ho 24 (by decide)) k3, zz_18of (ho 18 (by decide)) k4, fun i hi hu => absurd (h32 i hi) hu⟩, zz_Kc (fun f hf => ho f (by omega)) k5, fun f _ => rfl, fun m _ => rfl, fun m _ z => ⟨z, fun k _ => rfl⟩, fun m _ z1 z2 => absurd z1 z2⟩
theorem zz_Jrun {ns : Nat} {Z : zz_T} (hN : ns < 2 ^ 30) : ∀ n T, zz_J ns Z T → zz_J ns Z (mm_run n T) := by
  intro n
  induction n with
  | zero => exact fun T h => h
  | succ n ih =>
    intro T h
    unfold mm_run
    split
    · exact h
    · exact ih _ (zz_Jmom hN h)
theorem zz_IJ {ns : Nat} {S Z U : zz_T} (h : zz_I ns S) (ho : ∀ f, f ≠ 32 → Z f = S f) (hJ : zz_J ns Z U) : zz_I ns U := by
  obtain ⟨k1, k2, k3, k4, k5, k6, k7⟩ := h
  obtain ⟨hB, hK, Q1, _⟩ := hJ
  have e : ∀ f, f = 1 ∨ f = 3 ∨ f = 6 ∨ f = 8 → U f = S f := fun f hf => (Q1 f (by omega)).trans (ho f (by omega))
  refine ⟨zz_lkc (e 6 (by decide)) k1, hB.1, hB.2.1, hB.2.2.1, hK, ?_, ?_⟩
  · rw [e 3 (by decide)]
    exact k6
  · unfold mm_has at *
    rw [e 1 (by decide), e 8 (by decide)]
    exact k7
theorem zz_bits {x : Int32} : mm_bits x = nI (zz_cnt (fun m => zz_b x m) 16) := by
  unfold mm_bits
  refine zz_itI (fun (n : Nat) (r : Int32) => r = nI (zz_cnt (fun m => zz_b x m) n)) rfl ?_
  intro n r _ hr
  show r + ((x >>> (nI n &&& 31)) &&& 1) = nI (zz_cnt (fun m => zz_b x m) n + @ite _ (zz_b x n) (Classical.propDecidable _) (1) (0))
  obtain ⟨j, hj, e⟩ := pk_andE (x >>> (nI n &&& 31)) (m := 1) 1 (by decide)
  by_cases c : zz_b x n
  · rw [if_pos c]
    have : j = 1 := by
      have : j = 0 ∨ j = 1 := by omega
      rcases this with h | h
      · rw [h] at e
        exact absurd e c
      · exact h
    rw [e, this, hr, nI_add]
  · rw [if_neg c]
    have : (x >>> (nI n &&& 31)) &&& 1 = 0 := Classical.byContradiction c
    rw [this, hr, show (0 : Int32) = nI 0 from rfl, nI_add]
theorem wk_setl {post : Int32 → St1 → Prop} {ns : Nat} {S : zz_T} (hns : ns < 2 ^ 30) (h : zz_I ns S) (hl : ∀ U, U = mm_run 60000 (mm_calm S) → zz_cnt (mm_rd U) 16 = 0)
    (H : ∀ U, U = mm_run 60000 (mm_calm S) → zz_I ns U → (∀ Z, (∀ f, f ≠ 32 → Z f = S f) → zz_Q (mm_calm S) U → zz_Q Z U) → zz_Q (mm_calm S) U → U 0 = S 0 → post 1 (zz_u U)) : wpL_settles post (zz_u S) := by
  have h910 : zz_910 S := h.2.2.2.2.1.2.2.1
  refine wk_settles h910 (zz_J ns (mm_calm S)) (fun T hT => ⟨hT.2.1.2.2.1, fun _ => ⟨zz_JM hns hT, zz_Jmom hns hT⟩⟩) (zz_J0 h _ rfl) (fun U hU => ?_)
  have hl' := hl U hU
  have H' := H U hU
  have hJ : zz_J ns (mm_calm S) U := by
    rw [hU]
    exact zz_Jrun hns 60000 _ (zz_J0 h _ rfl)
  have ho : ∀ f, f ≠ 32 → mm_calm S f = S f := fun f hf => zz_calmo hf
  clear hU H hl
  generalize mm_calm S = Z at hJ ho H'
  have hI := zz_IJ h ho hJ
  obtain ⟨hB, hK, hQ⟩ := hJ
  obtain ⟨Q1, Q2, Q3, Q4⟩ := id hQ
  have e : ∀ f, f = 0 ∨ f = 1 ∨ f = 6 ∨ f = 9 ∨ f = 10 → U f = S f := fun f hf => (Q1 f (by omega)).trans (ho f (by omega))
  refine ⟨?_, hK.2.2.1, hl', H' hI (fun Z' hZ' hq => ?_) hQ (e 0 (by decide))⟩
  · rw [zz_bits]
    refine congrArg nI (zz_cntc 16 (fun m hm => ?_))
    obtain ⟨⟨a, ha, ea⟩, ⟨b, hb, eb⟩⟩ := h910 m hm
    have hd : mm_dist U a b = mm_dist S a b := by
      unfold mm_dist
      exact zz_fstc (fun n => by rw [zz_rchc (e 6 (by decide))]) 8 0
    have hb1 : zz_b (U 2 0 &&& (S 2 0 ^^^ (-1))) m ↔ mm_isT U m ∧ ¬ mm_isT S m := by
      show _ ↔ zz_b (U 2 0) m ∧ ¬ zz_b (S 2 0) m
      rw [zb_b (by omega), zb_b (by omega), zb_b (by omega), zb_and, zb_xor, zb_m1 m (by omega)]
      cases zb_t (U 2 0) m <;> cases zb_t (S 2 0) m <;> decide
    have hST : mm_isT S m ↔ mm_isT Z m := by
      unfold mm_isT
      rw [ho 2 (by decide)]
    have hhas : mm_has U m ↔ mm_has S m := by
      unfold mm_has
      rw [e 1 (by decide)]
    rw [hb1]
    unfold mm_rd
    rw [ea, eb, nI_clamp (show a < 2 ^ 31 by omega), nI_clamp (show b < 2 ^ 31 by omega)]
    constructor
    · rintro ⟨z1, z2⟩
      refine ⟨hhas.1 (hK.2.2.2.1 m hm z1), z2, ?_⟩
      obtain ⟨⟨a', b', ha', hb', ea', eb', hc⟩, _⟩ := Q4 m hm z1 (fun y => z2 (hST.2 y))
      have e1 : a' = a := (nI_eq (by omega) (by omega)).1 (ea'.symm.trans ((by rw [ho 9 (by decide)] : Z 9 m = S 9 m).trans ea))
      have e2 : b' = b := (nI_eq (by omega) (by omega)).1 (eb'.symm.trans ((by rw [ho 10 (by decide)] : Z 10 m = S 10 m).trans eb))
      rw [e1, e2] at hc
      exact (zz_cond hb).1 ((zz_conc (ho 6 (by decide)) a b).1 hc)
    · rintro ⟨z1, z2, z3⟩
      refine ⟨Classical.byContradiction (fun c => ?_), z2⟩
      refine zz_cnt0 16 hl' m hm ⟨hhas.2 z1, c, ?_⟩
      rw [e 9 (by decide), e 10 (by decide), ea, eb, nI_clamp (show a < 2 ^ 31 by omega), nI_clamp (show b < 2 ^ 31 by omega), hd]
      exact z3
  · obtain ⟨q1, q2, q3, q4⟩ := hq
    have f : ∀ f, f ≠ 32 → Z f = Z' f := fun f hf => (ho f hf).trans (hZ' f hf).symm
    unfold zz_Q mm_isT at *
    rw [← f 2 (by decide), ← f 9 (by decide), ← f 10 (by decide), ← f 11 (by decide), ← f 12 (by decide), ← f 13 (by decide)]
    refine ⟨fun g hg => (q1 g hg).trans (f g (by omega)), q2, q3, fun m hm z1 z2 => ?_⟩
    obtain ⟨⟨a, b, y1, y2, y3, y4, y5⟩, y6⟩ := q4 m hm z1 z2
    exact ⟨⟨a, b, y1, y2, y3, y4, (zz_conc (f 6 (by decide)).symm a b).2 y5⟩, y6⟩
