/-! ## the ring: frames that a step puts into the air -/
noncomputable def rf_sl (S : zz_T) (i : Nat) : ab_F :=
  ab_pt (rf_c (S 35 i) - 1) (rf_c (S 33 i)) (rf_c (S 34 i)) (ab_fr (rf_c (S 36 (i * 12))) (rf_c (S 36 (i * 12 + 1))) (rf_c (S 36 (i * 12 + 2))) (rf_c (S 36 (i * 12 + 3))) (rf_c (S 36 (i * 12 + 4))) (rf_c (S 36 (i * 12 + 5))))
noncomputable def rf_wr (S : zz_T) : ab_F := ab_fr (rf_c (S 42 0)) (rf_c (S 42 1)) (rf_c (S 42 2)) (rf_c (S 42 3)) (rf_c (S 42 4)) (rf_c (S 42 5))
def rf_ss (S T : zz_T) (i : Nat) : Prop := T 32 i = S 32 i ∧ T 33 i = S 33 i ∧ T 34 i = S 34 i ∧ T 35 i = S 35 i ∧ ∀ k, k < 12 → T 36 (i * 12 + k) = S 36 (i * 12 + k)
theorem rf_sss {S T : zz_T} {i : Nat} (h : rf_ss S T i) : rf_sl T i = rf_sl S i := by
  obtain ⟨_, h2, h3, h4, h5⟩ := h
  have h0 := h5 0 (by omega)
  rw [Nat.add_zero] at h0
  unfold rf_sl
  rw [h2, h3, h4, h0, h5 1 (by omega), h5 2 (by omega), h5 3 (by omega), h5 4 (by omega), h5 5 (by omega)]
/-- a word that is a number -/
def rf_nn (x : Int32) : Prop := x = nI (rf_c x) ∧ rf_c x < 2 ^ 30
theorem rf_nI {n : Nat} (h : n < 2 ^ 30) : rf_nn (nI n) := by
  unfold rf_nn
  rw [rf_cn (by omega)]
  exact ⟨rfl, h⟩
theorem rf_nx {x : Int32} {n : Nat} (e : x = nI n) (h : n < 2 ^ 30) : rf_nn x := e ▸ rf_nI h
/-- the words of a slot are numbers -/
def rf_sm (S : zz_T) (i : Nat) : Prop := rf_nn (S 33 i) ∧ rf_nn (S 34 i) ∧ rf_nn (S 35 i) ∧ ∀ k, k < 6 → rf_nn (S 36 (i * 12 + k))
def rf_wn (S : zz_T) : Prop := ∀ k, k < 6 → rf_nn (S 42 k)
theorem rf_wn6 {S : zz_T} (h0 : rf_nn (S 42 0)) (h1 : rf_nn (S 42 1)) (h2 : rf_nn (S 42 2)) (h3 : rf_nn (S 42 3)) (h4 : rf_nn (S 42 4)) (h5 : rf_nn (S 42 5)) : rf_wn S := by
  intro k hk
  match k, hk with
  | 0, _ => exact h0
  | 1, _ => exact h1
  | 2, _ => exact h2
  | 3, _ => exact h3
  | 4, _ => exact h4
  | 5, _ => exact h5
theorem rf_wnc {S T : zz_T} (h : T 42 = S 42) (k : rf_wn S) : rf_wn T := by
  unfold rf_wn
  rw [h]
  exact k
theorem rf_smc {S T : zz_T} {i : Nat} (h : rf_ss S T i) (k : rf_sm S i) : rf_sm T i := by
  obtain ⟨_, h2, h3, h4, h5⟩ := h
  unfold rf_sm
  rw [h2, h3, h4]
  refine ⟨k.1, k.2.1, k.2.2.1, fun q hq => ?_⟩
  rw [h5 q (by omega)]
  exact k.2.2.2 q hq
/-- m frames are put into the air between S and T, those of O -/
def rf_rg (S T : zz_T) (m : Nat) (O : ab_F → Prop) : Prop := ∃ j, j < 1024 ∧ S 5 0 = nI j ∧ T 5 0 = nI ((j + m) % 1024) ∧ m ≤ 1024 ∧ T 4 = S 4 ∧
  (∀ i, i < 1024 → (∃ k, k < m ∧ i = (j + k) % 1024 ∧ ¬ T 32 i = 0 ∧ T 35 i = S 4 0 + 1 ∧ O (rf_sl T i) ∧ rf_sm T i) ∨ ((∀ k, k < m → i ≠ (j + k) % 1024) ∧ rf_ss S T i)) ∧
  (∀ w, O w → ∃ k, k < m ∧ rf_sl T ((j + k) % 1024) = w)
theorem rf_rg0 {S T : zz_T} (h5 : zz_5 S) (e5 : T 5 = S 5) (e4 : T 4 = S 4) (h : ∀ f, f = 32 ∨ f = 33 ∨ f = 34 ∨ f = 35 ∨ f = 36 → T f = S f) : rf_rg S T 0 (fun _ => False) := by
  obtain ⟨j, hj, ej⟩ := h5
  refine ⟨j, hj, ej, ?_, by omega, e4, fun i hi => Or.inr ⟨fun k hk => absurd hk (by omega), ?_⟩, fun w hw => absurd hw (fun z => z)⟩
  · rw [e5, ej, show (j + 0) % 1024 = j by omega]
  · refine ⟨?_, ?_, ?_, ?_, fun k _ => ?_⟩
    · rw [h 32 (by omega)]
    · rw [h 33 (by omega)]
    · rw [h 34 (by omega)]
    · rw [h 35 (by omega)]
    · rw [h 36 (by omega)]
theorem rf_rgc {S T U : zz_T} {m n : Nat} {O P : ab_F → Prop} (h : rf_rg S T m O) (g : rf_rg T U n P) (hmn : m + n ≤ 1024) : rf_rg S U (m + n) (fun w => O w ∨ P w) := by
  obtain ⟨j, hj, a1, a2, a3, a4, a5, a6⟩ := h
  obtain ⟨j', hj', b1, b2, b3, b4, b5, b6⟩ := g
  have ejj : j' = (j + m) % 1024 := by
    rw [a2] at b1
    exact ((nI_eq (show (j + m) % 1024 < 2 ^ 31 by omega) (show j' < 2 ^ 31 by omega)).1 b1).symm
  refine ⟨j, hj, a1, ?_, hmn, b4.trans a4, fun i hi => ?_, fun w hw => ?_⟩
  · rw [b2, ejj, show ((j + m) % 1024 + n) % 1024 = (j + (m + n)) % 1024 by omega]
  · rcases b5 i hi with ⟨k, k1, k2, k3, k4, k5, k6⟩ | ⟨k1, k2⟩
    · refine Or.inl ⟨m + k, by omega, by omega, k3, ?_, Or.inr k5, k6⟩
      rw [k4, a4]
    · rcases a5 i hi with ⟨k, c1, c2, c3, c4, c5, c6⟩ | ⟨c1, c2⟩
      · refine Or.inl ⟨k, by omega, c2, ?_, ?_, Or.inl ?_, rf_smc k2 c6⟩
        · rw [k2.1]; exact c3
        · rw [k2.2.2.2.1]; exact c4
        · rw [rf_sss k2]; exact c5
      · refine Or.inr ⟨fun k hk => ?_, k2.1.trans c2.1, k2.2.1.trans c2.2.1, k2.2.2.1.trans c2.2.2.1, k2.2.2.2.1.trans c2.2.2.2.1, fun q hq => (k2.2.2.2.2 q hq).trans (c2.2.2.2.2 q hq)⟩
        by_cases e : k < m
        · exact c1 k e
        · have := k1 (k - m) (by omega)
          rw [ejj] at this
          intro z
          apply this
          omega
  · rcases hw with y | y
    · obtain ⟨k, k1, k2⟩ := a6 w y
      refine ⟨k, by omega, ?_⟩
      rcases b5 ((j + k) % 1024) (by omega) with ⟨q, q1, q2, _⟩ | ⟨_, q2⟩
      · exfalso
        rw [ejj] at q2
        omega
      · rw [rf_sss q2]; exact k2
    · obtain ⟨k, k1, k2⟩ := b6 w y
      refine ⟨m + k, by omega, ?_⟩
      rw [← k2, ejj, show (j + (m + k)) % 1024 = ((j + m) % 1024 + k) % 1024 by omega]
theorem rf_rgw {S T : zz_T} {m : Nat} {O P : ab_F → Prop} (h : rf_rg S T m O) (e : ∀ w, O w ↔ P w) : rf_rg S T m P := by
  rw [show P = O from funext (fun w => propext (e w).symm)]
  exact h
/-- one frame -/
theorem rf_fly {s r : Nat} {S : zz_T} (hs : s < 8) (hr : r < 8) (h5 : zz_5 S) (hk : ∃ t, t < 2 ^ 29 ∧ S 4 0 = nI t) (hw : rf_wn S) : rf_rg S (mm_fly (nI s) (nI r) (S 4 0 + 1) S) 1 (fun w => w = ab_pt (rf_c (S 4 0)) s r (rf_wr S)) := by
  obtain ⟨j, hj, ej⟩ := h5
  obtain ⟨t, ht, e4⟩ := hk
  have ec : (S 5 0).toNatClampNeg = j := zz_cl (by omega) ej
  have hF : ∀ F : zz_T, F = mm_fly (nI s) (nI r) (S 4 0 + 1) S → F 5 0 = nI ((j + 1) % 1024) ∧ F 4 = S 4 ∧ F 32 = upd (S 32) j 1 ∧ F 33 = upd (S 33) j (nI s) ∧ F 34 = upd (S 34) j (nI r) ∧ F 35 = upd (S 35) j (S 4 0 + 1) ∧
      (∀ k, k < 12 → F 36 (j * 12 + k) = S 42 k) ∧ ∀ q, (∀ k, k < 12 → q ≠ j * 12 + k) → F 36 q = S 36 q := by
    intro F hF
    rw [hF]
    unfold mm_fly
    rw [ec]
    have hit : ∀ g, g ≠ 36 → ∀ B : zz_T, zz_it (fun k T => zz_s T 36 (j * 12 + k) (T 42 k)) 12 B g = B g := fun g hg B => zz_itn (fun k T => zz_sn hg) 12 B
    refine ⟨?_, ?_, ?_, ?_, ?_, ?_, ?_, ?_⟩
    · rw [hit 5 (by decide), zz_sn (by decide), zz_sn (by decide), zz_sn (by decide), zz_sn (by decide), zz_se, pk_us]
    · rw [hit 4 (by decide), zz_sn (by decide), zz_sn (by decide), zz_sn (by decide), zz_sn (by decide), zz_sn (by decide)]
    · rw [hit 32 (by decide), zz_sn (by decide), zz_sn (by decide), zz_sn (by decide), zz_se, zz_sn (by decide)]
    · rw [hit 33 (by decide), zz_sn (by decide), zz_sn (by decide), zz_se, zz_sn (by decide), zz_sn (by decide), zz_8 s (by omega)]
    · rw [hit 34 (by decide), zz_sn (by decide), zz_se, zz_sn (by decide), zz_sn (by decide), zz_sn (by decide), zz_8 r (by omega)]
    · rw [hit 35 (by decide), zz_se, zz_sn (by decide), zz_sn (by decide), zz_sn (by decide), zz_sn (by decide)]
    · have : ∀ n, n ≤ 12 → ∀ B : zz_T, B 42 = S 42 → ∀ k, k < n → zz_it (fun k T => zz_s T 36 (j * 12 + k) (T 42 k)) n B 36 (j * 12 + k) = S 42 k := by
        intro n
        induction n with
        | zero => intro _ B _ k hk; omega
        | succ n ih =>
          intro hn B hB k hk
          show zz_s (zz_it (fun k T => zz_s T 36 (j * 12 + k) (T 42 k)) n B) 36 (j * 12 + n) _ 36 (j * 12 + k) = _
          rw [zz_se]
          by_cases e : k = n
          · rw [e, pk_us, zz_itn (fun k T => zz_sn (by decide)) n B, hB]
          · rw [pk_un (by omega)]
            exact ih (by omega) B hB k (by omega)
      intro k hk
      refine this 12 (by omega) _ ?_ k hk
      rw [zz_sn (by decide), zz_sn (by decide), zz_sn (by decide), zz_sn (by decide), zz_sn (by decide)]
    · intro q hq
      have : ∀ n, n ≤ 12 → ∀ B : zz_T, zz_it (fun k T => zz_s T 36 (j * 12 + k) (T 42 k)) n B 36 q = B 36 q := by
        intro n
        induction n with
        | zero => intro _ B; rfl
        | succ n ih =>
          intro hn B
          show zz_s (zz_it (fun k T => zz_s T 36 (j * 12 + k) (T 42 k)) n B) 36 (j * 12 + n) _ 36 q = _
          rw [zz_se, pk_un (hq n (by omega))]
          exact ih (by omega) B
      rw [this 12 (by omega)]
      rw [zz_sn (by decide), zz_sn (by decide), zz_sn (by decide), zz_sn (by decide), zz_sn (by decide)]
  obtain ⟨f5, f4, f32, f33, f34, f35, f36, f36'⟩ := hF _ rfl
  have hsl : rf_sl (mm_fly (nI s) (nI r) (S 4 0 + 1) S) j = ab_pt (rf_c (S 4 0)) s r (rf_wr S) := by
    unfold rf_sl rf_wr
    have g0 := f36 0 (by omega)
    rw [Nat.add_zero] at g0
    rw [f33, f34, f35, pk_us, pk_us, pk_us, g0, f36 1 (by omega), f36 2 (by omega), f36 3 (by omega), f36 4 (by omega), f36 5 (by omega), e4, nI_1, rf_cn (by omega), rf_cn (by omega), rf_cn (by omega), rf_cn (by omega)]
    rfl
  refine ⟨j, hj, ej, f5, by omega, f4, fun i hi => ?_, fun w hw => ⟨0, by omega, ?_⟩⟩
  · by_cases e : i = j
    · subst e
      refine Or.inl ⟨0, by omega, by omega, ?_, ?_, hsl, ?_, ?_, ?_, fun k hk => ?_⟩
      · rw [f32, pk_us]; decide
      · rw [f35, pk_us]
      · rw [f33, pk_us]; exact rf_nI (by omega)
      · rw [f34, pk_us]; exact rf_nI (by omega)
      · rw [f35, pk_us, e4, nI_1]; exact rf_nI (by omega)
      · rw [f36 k (by omega)]; exact hw k hk
    · refine Or.inr ⟨fun k hk => by omega, ?_, ?_, ?_, ?_, fun k hk => f36' _ (fun k' hk' => by omega)⟩
      · rw [f32, pk_un e]
      · rw [f33, pk_un e]
      · rw [f34, pk_un e]
      · rw [f35, pk_un e]
  · rw [show (j + 0) % 1024 = j by omega, hsl]
    exact hw.symm
/-! ## sending while no order is used up -/
def rf_m38 (S T : zz_T) : Prop := ∀ i, T 38 i = S 38 i ∨ T 38 i = 0
theorem rf_m38e {S T : zz_T} (h : T 38 = S 38) : rf_m38 S T := fun i => Or.inl (by rw [h])
theorem rf_m38t {S T U : zz_T} (h : rf_m38 S T) (g : rf_m38 T U) : rf_m38 S U := by
  intro i
  rcases g i with e | e
  · rw [e]; exact h i
  · exact Or.inr e
theorem rf_m38q {S T U : zz_T} (h : rf_m38 S T) (g : rf_m38 T U) (e : U 38 = S 38) : T 38 = S 38 ∧ U 38 = T 38 := by
  have : T 38 = S 38 := by
    funext i
    rcases h i with z | z
    · exact z
    · rcases g i with y | y
      · rw [← y, e]
      · rw [z, ← y, e]
  exact ⟨this, by rw [this, e]⟩
theorem rf_fly38 {s to due : Int32} {S : zz_T} : mm_fly s to due S 38 = S 38 := by
  unfold mm_fly
  rw [zz_itn (fun k T => zz_sn (by decide)) 12, zz_sn (by decide), zz_sn (by decide), zz_sn (by decide), zz_sn (by decide), zz_sn (by decide)]
theorem rf_ordn (s num : Int32) (B : zz_T) : ∀ n, (zz_it (mm_ord s num) n (1, 1, B) = (1, 1, B)) ∨ (∃ i, ¬ B 38 i = 0 ∧ (zz_it (mm_ord s num) n (1, 1, B)).2.2 38 i = 0) ∧ rf_m38 B (zz_it (mm_ord s num) n (1, 1, B)).2.2 := by
  intro n
  induction n with
  | zero => exact Or.inl rfl
  | succ n ih =>
    show mm_ord s num n (zz_it (mm_ord s num) n (1, 1, B)) = _ ∨ (∃ i, _ ∧ (mm_ord s num n (zz_it (mm_ord s num) n (1, 1, B))).2.2 38 i = 0) ∧ rf_m38 B (mm_ord s num n (zz_it (mm_ord s num) n (1, 1, B))).2.2
    rcases ih with e | ⟨⟨i, h1, h2⟩, h3⟩
    · rw [e]
      by_cases c : mm_oc s num n B
      · rw [mm_ordP (x := (1, 1, B)) c]
        refine Or.inr ⟨⟨n, c.1, ?_⟩, fun i => ?_⟩
        · show zz_s B 38 n 0 38 n = 0
          rw [zz_se, pk_us]
        · show zz_s B 38 n 0 38 i = _ ∨ zz_s B 38 n 0 38 i = 0
          rw [zz_se]
          by_cases e : i = n
          · rw [e, pk_us]; exact Or.inr rfl
          · rw [pk_un e]; exact Or.inl rfl
      · rw [mm_ordN (x := (1, 1, B)) c]
        exact Or.inl rfl
    · refine Or.inr ?_
      generalize zz_it (mm_ord s num) n (1, 1, B) = x at h2 h3
      by_cases c : mm_oc s num n x.2.2
      · rw [mm_ordP c]
        refine ⟨⟨i, h1, ?_⟩, fun q => ?_⟩
        · show zz_s x.2.2 38 n 0 38 i = 0
          rw [zz_se]
          by_cases e : i = n
          · rw [e, pk_us]
          · rw [pk_un e]; exact h2
        · show zz_s x.2.2 38 n 0 38 q = _ ∨ zz_s x.2.2 38 n 0 38 q = 0
          rw [zz_se]
          by_cases e : q = n
          · rw [e, pk_us]; exact Or.inr rfl
          · rw [pk_un e]; exact h3 q
      · rw [mm_ordN c]
        exact ⟨⟨i, h1, h2⟩, h3⟩
theorem rf_send38 {s : Nat} {to : Int32} {S : zz_T} : mm_send s to S 38 = (mm_ords s S).2.2 38 := by
  unfold mm_send
  exact zz_itn (fun k T => rf_fly38) _ _
theorem rf_sendm {s : Nat} {to : Int32} {S : zz_T} : rf_m38 S (mm_send s to S) := by
  intro i
  rw [rf_send38]
  unfold mm_ords
  have e38 : zz_s S 37 s (S 37 s + 1) 38 = S 38 := zz_sn (by decide)
  rcases rf_ordn (nI s) (S 37 s) (zz_s S 37 s (S 37 s + 1)) 16 with e | ⟨_, h⟩
  · rw [e]
    exact Or.inl (by show zz_s S 37 s (S 37 s + 1) 38 i = _; rw [e38])
  · rcases h i with y | y
    · exact Or.inl (by rw [y, e38])
    · exact Or.inr y
theorem rf_sende {s : Nat} {to : Int32} {S : zz_T} (h : mm_send s to S 38 = S 38) : mm_send s to S = mm_fly (nI s) to (S 4 0 + 1) (zz_s S 37 s (S 37 s + 1)) := by
  have e38 : zz_s S 37 s (S 37 s + 1) 38 = S 38 := zz_sn (by decide)
  have e : mm_ords s S = (1, 1, zz_s S 37 s (S 37 s + 1)) := by
    unfold mm_ords
    rcases rf_ordn (nI s) (S 37 s) (zz_s S 37 s (S 37 s + 1)) 16 with e | ⟨⟨i, h1, h2⟩, _⟩
    · exact e
    · exfalso
      rw [rf_send38] at h
      unfold mm_ords at h
      rw [h] at h2
      rw [e38] at h1
      exact h1 h2
  unfold mm_send
  rw [e]
  show mm_fly (nI s) to (zz_s S 37 s (S 37 s + 1) 4 0 + 1 + nI 0) (zz_s S 37 s (S 37 s + 1)) = _
  rw [zz_sn (by decide), show nI 0 = 0 from rfl]
  simp
abbrev rf_nw (S : zz_T) : Prop := ∃ t, t < 2 ^ 29 ∧ S 4 0 = nI t
theorem rf_nwc {S T : zz_T} (h : T 4 = S 4) (k : rf_nw S) : rf_nw T := by
  unfold rf_nw
  rw [h]
  exact k
theorem rf_sendg {s r : Nat} {S : zz_T} (hs : s < 8) (hr : r < 8) (h5 : zz_5 S) (hk : rf_nw S) (hw : rf_wn S) (h : mm_send s (nI r) S 38 = S 38) : rf_rg S (mm_send s (nI r) S) 1 (fun w => w = ab_pt (rf_c (S 4 0)) s r (rf_wr S)) := by
  rw [rf_sende h]
  have e4 : zz_s S 37 s (S 37 s + 1) 4 = S 4 := zz_sn (by decide)
  have g0 : rf_rg S (zz_s S 37 s (S 37 s + 1)) 0 (fun _ => False) := rf_rg0 h5 (zz_sn (by decide)) e4 (fun f hf => zz_sn (by omega))
  have g1 := rf_fly (S := zz_s S 37 s (S 37 s + 1)) hs hr (zz_5s (by decide) h5) (by rw [e4]; exact hk) (rf_wnc (zz_sn (by decide)) hw)
  rw [e4] at g1
  have := rf_rgc g0 g1 (by omega)
  rw [Nat.zero_add] at this
  refine rf_rgw this (fun w => ?_)
  have ew : rf_wr (zz_s S 37 s (S 37 s + 1)) = rf_wr S := by
    unfold rf_wr
    rw [zz_sn (f := 37) (g := 42) (by decide)]
  rw [ew]
  exact ⟨fun z => z.elim (fun y => absurd y (fun y => y)) (fun y => y), fun z => Or.inr z⟩
theorem rf_wrc {S T : zz_T} (h : T 42 = S 42) : rf_wr T = rf_wr S := by
  unfold rf_wr
  rw [h]
theorem rf_tlm {s k : Nat} {S : zz_T} : rf_m38 S (mm_tl s k S) := by
  unfold mm_tl
  split
  · exact rf_sendm
  · exact rf_m38e rfl
theorem rf_tln {s : Nat} (S : zz_T) : ∀ n, rf_m38 S (zz_it (mm_tl s) n S) := by
  intro n
  induction n with
  | zero => exact rf_m38e rfl
  | succ n ih => exact rf_m38t ih rf_tlm
theorem rf_tellm {s : Nat} {S : zz_T} : rf_m38 S (mm_tell s S) := rf_tln S 8
theorem rf_tlf {s f : Nat} {S : zz_T} (h : (f ≠ 5 ∧ f < 32) ∨ 38 < f) : ∀ n, zz_it (mm_tl s) n S f = S f := by
  intro n
  refine zz_itn (fun k T => ?_) n S
  unfold mm_tl
  split
  · exact zz_sendo h
  · rfl
theorem rf_tellg {s : Nat} {S : zz_T} (hs : s < 8) (h5 : zz_5 S) (hk : rf_nw S) (hw : rf_wn S) (h : mm_tell s S 38 = S 38) : ∃ m, m ≤ 8 ∧ rf_rg S (mm_tell s S) m (fun w => ∃ k, k < 8 ∧ rf_u S s k ∧ w = ab_pt (rf_c (S 4 0)) s k (rf_wr S)) := by
  have main : ∀ n, n ≤ 8 → (zz_it (mm_tl s) n S) 38 = S 38 → ∃ m, m ≤ n ∧ rf_rg S (zz_it (mm_tl s) n S) m (fun w => ∃ k, k < n ∧ rf_u S s k ∧ w = ab_pt (rf_c (S 4 0)) s k (rf_wr S)) := by
    intro n
    induction n with
    | zero =>
      intro _ _
      refine ⟨0, by omega, rf_rgw (rf_rg0 h5 rfl rfl (fun f _ => rfl)) (fun w => ⟨fun z => absurd z (fun z => z), ?_⟩)⟩
      rintro ⟨k, hk, _⟩
      omega
    | succ n ih =>
      intro hn h38
      have q := rf_m38q (rf_tln (s := s) S n) (rf_tlm (s := s) (k := n)) h38
      obtain ⟨m, hm, g⟩ := ih (by omega) q.1
      have e42 : zz_it (mm_tl s) n S 42 = S 42 := rf_tlf (by decide) n
      have e6 : zz_it (mm_tl s) n S 6 = S 6 := rf_tlf (by decide) n
      have e4 : zz_it (mm_tl s) n S 4 = S 4 := rf_tlf (by decide) n
      have e5 : zz_5 (zz_it (mm_tl s) n S) := zz_itI (fun _ T => zz_5 T) h5 (fun _ _ _ hT => zz_5tl hT)
      have hu : mm_up (zz_it (mm_tl s) n S) s (nI n) ↔ rf_u S s n := by
        unfold rf_u mm_up
        rw [e6]
        exact ⟨fun z => ⟨hs, by omega, z⟩, fun z => z.2.2⟩
      show ∃ m, m ≤ n + 1 ∧ rf_rg S (mm_tl s n (zz_it (mm_tl s) n S)) m _
      have q2 : mm_tl s n (zz_it (mm_tl s) n S) 38 = zz_it (mm_tl s) n S 38 := q.2
      by_cases c : mm_up (zz_it (mm_tl s) n S) s (nI n)
      · have et : mm_tl s n (zz_it (mm_tl s) n S) = mm_send s (nI n) (zz_it (mm_tl s) n S) := if_pos c
        rw [et] at q2 ⊢
        have g1 := rf_sendg (r := n) hs (by omega) e5 (rf_nwc e4 hk) (rf_wnc e42 hw) q2
        rw [e4, rf_wrc e42] at g1
        refine ⟨m + 1, by omega, rf_rgw (rf_rgc g g1 (by omega)) (fun w => ?_)⟩
        constructor
        · rintro (⟨k, k1, k2, k3⟩ | z)
          · exact ⟨k, by omega, k2, k3⟩
          · exact ⟨n, by omega, hu.1 c, z⟩
        · rintro ⟨k, k1, k2, k3⟩
          by_cases e : k = n
          · subst e; exact Or.inr k3
          · exact Or.inl ⟨k, by omega, k2, k3⟩
      · have et : mm_tl s n (zz_it (mm_tl s) n S) = zz_it (mm_tl s) n S := if_neg c
        rw [et]
        refine ⟨m, by omega, rf_rgw g (fun w => ?_)⟩
        constructor
        · rintro ⟨k, k1, k2, k3⟩
          exact ⟨k, by omega, k2, k3⟩
        · rintro ⟨k, k1, k2, k3⟩
          have : k ≠ n := fun e => c (hu.2 (e ▸ k2))
          exact ⟨k, by omega, k2, k3⟩
  exact main 8 (by omega) h
/-- changes beside the ring -/
theorem rf_rgl {S T U : zz_T} {m : Nat} {O : ab_F → Prop} (h5 : zz_5 S) (e : ∀ f, f = 4 ∨ f = 5 ∨ (31 < f ∧ f < 37) → T f = S f) (g : rf_rg T U m O) (hm : m ≤ 1024) : rf_rg S U m O := by
  have g0 : rf_rg S T 0 (fun _ => False) := rf_rg0 h5 (e 5 (by omega)) (e 4 (by omega)) (fun f hf => e f (by omega))
  have := rf_rgc g0 g (by omega)
  rw [Nat.zero_add] at this
  exact rf_rgw this (fun w => ⟨fun z => z.elim (fun y => absurd y (fun y => y)) (fun y => y), fun z => Or.inr z⟩)
theorem rf_lossm {s g : Nat} {S : zz_T} : mm_lossW s g S 38 = S 38 := by
  unfold mm_lossW
  rw [zz_sn (by decide), zz_bego (by decide), zz_sn (by decide)]
theorem rf_givem {s g : Nat} {S : zz_T} : rf_m38 S (mm_give s g S) := rf_m38t (rf_m38e rf_lossm) rf_tellm
theorem rf_giveg {s g : Nat} {S : zz_T} (hs : s < 8) (hg : g < 8) (h5 : zz_5 S) (hk : rf_nw S) (h20 : rf_nn (S 20 (s * 8 + g))) (h : mm_give s g S 38 = S 38) : ∃ m, m ≤ 8 ∧ rf_rg S (mm_give s g S) m (ab_gv (rf_u S) s g (rf_a S)).2 := by
  have hlo : ∀ f, f ≠ 18 → f ≠ 42 → mm_lossW s g S f = S f := by
    intro f a b
    unfold mm_lossW
    rw [zz_sn b, zz_bego b, zz_sn a]
  have h' : mm_tell s (mm_lossW s g S) 38 = mm_lossW s g S 38 := by rw [rf_lossm]; exact h
  obtain ⟨b0, b1, b2, b3⟩ := zz_begw (k := 2) (f := nI s) (g := nI g) (S := zz_s S 18 (s * 8 + g) (-1))
  have w0 : mm_lossW s g S 42 0 = nI 2 := by
    unfold mm_lossW
    rw [zz_se, pk_un (by decide), b0]
    rfl
  have w1 : mm_lossW s g S 42 1 = nI s := by
    unfold mm_lossW
    rw [zz_se, pk_un (by decide), b1]
  have w2 : mm_lossW s g S 42 2 = nI g := by
    unfold mm_lossW
    rw [zz_se, pk_un (by decide), b2]
  have w3 : mm_lossW s g S 42 3 = S 20 (s * 8 + g) := by
    unfold mm_lossW
    rw [zz_se, pk_us, zz_bego (by decide), zz_sn (by decide)]
  have w4 : mm_lossW s g S 42 4 = nI 0 := by
    unfold mm_lossW
    rw [zz_se, pk_un (by decide), b3 4 (by omega) (by omega)]
    rfl
  have w5 : mm_lossW s g S 42 5 = nI 0 := by
    unfold mm_lossW
    rw [zz_se, pk_un (by decide), b3 5 (by omega) (by omega)]
    rfl
  obtain ⟨m, hm, gg⟩ := rf_tellg (S := mm_lossW s g S) hs (zz_5lossW h5) (rf_nwc (hlo 4 (by decide) (by decide)) hk) (rf_wn6 (rf_nx w0 (by omega)) (rf_nx w1 (by omega)) (rf_nx w2 (by omega)) (by rw [w3]; exact h20) (rf_nx w4 (by omega)) (rf_nx w5 (by omega))) h'
  have ew : rf_wr (mm_lossW s g S) = ab_fr 2 s g (rf_c (S 20 (s * 8 + g))) 0 0 := by
    unfold rf_wr
    rw [w0, w1, w2, w3, w4, w5, rf_cn (by omega), rf_cn (by omega), rf_cn (by omega), rf_cn (by omega)]
  refine ⟨m, hm, rf_rgw (rf_rgl h5 (fun f hf => hlo f (by omega) (by omega)) gg (by omega)) (fun w => ?_)⟩
  rw [hlo 4 (by decide) (by decide), rf_uc (hlo 6 (by decide) (by decide)), ew]
  show _ ↔ ∃ k, k < 8 ∧ rf_u S s k ∧ w = ab_pt (ab_w (rf_a S) 1 s g 8 0 0 0) s k (ab_fr 2 s g (rf_a S 3 s g) 0 0)
  rw [ab_wf (by decide), rf_0r, rf_3r hs hg]
theorem rf_passm {s : Nat} {S : zz_T} : rf_m38 S (mm_pass s S) := by
  unfold mm_pass
  split
  · exact rf_m38e rfl
  · split
    · exact rf_sendm
    · exact rf_givem
/-- a step that sends a TELL puts one frame -/
def rf_t1 (O : ab_F → Prop) (m : Nat) : Prop := ∀ v, O v → v 3 = 1 → m = 1
theorem rf_passg1 {s g : Nat} {S : zz_T} {w : ab_F} (hs : s < 8) (hg : g < 8) (h5 : zz_5 S) (hk : rf_nw S) (h18 : zz_18 S) (h20 : rf_nn (S 20 (s * 8 + g))) (hwn : rf_wn S) (e2 : S 42 2 = nI g) (hw : rf_wr S = w) (h : mm_pass s S 38 = S 38) : ∃ m, m ≤ 8 ∧ rf_t1 (ab_ps (rf_u S) s w (rf_a S)).2 m ∧ rf_rg S (mm_pass s S) m (ab_ps (rf_u S) s w (rf_a S)).2 := by
  have hst : rf_st (S 18 (s * 8 + g)) := h18 _ (by omega)
  have hw5 : w 5 = g := by
    rw [← hw]
    show rf_c (S 42 2) = g
    rw [e2, rf_cn (by omega)]
  unfold mm_pass at h ⊢
  unfold ab_ps
  rw [zz_cl (show g < 2 ^ 31 by omega) e2] at h ⊢
  rw [hw5, rf_1r hs hg]
  by_cases c : S 18 (s * 8 + g) = -1
  · rw [if_pos c, ab_ip ((rf_m8 hst).2 c)]
    exact ⟨0, by omega, fun v hv => False.elim hv, rf_rg0 h5 rfl rfl (fun f _ => rfl)⟩
  · rw [if_neg c] at h ⊢
    rw [ab_in (fun z => c ((rf_m8 hst).1 z))]
    obtain ⟨e, hr⟩ := rf_mc hst c
    by_cases d : mm_up S s (S 18 (s * 8 + g))
    · rw [if_pos d] at h ⊢
      rw [ab_ip ⟨hs, hr, by rw [← e]; exact d⟩]
      refine ⟨1, by omega, fun _ _ _ => rfl, ?_⟩
      rw [e] at h ⊢
      rw [rf_mn (show rf_m (S 18 (s * 8 + g)) < 2 ^ 31 by omega)]
      refine rf_rgw (rf_sendg hs hr h5 hk hwn h) (fun v => ?_)
      show _ ↔ v = ab_pt (rf_a S 0 0 0) s (rf_m (S 18 (s * 8 + g))) w
      rw [rf_0r, hw]
    · rw [if_neg d] at h ⊢
      rw [ab_in (fun z => d (by rw [e]; exact z.2.2))]
      obtain ⟨m, hm, g⟩ := rf_giveg hs hg h5 hk h20 h
      refine ⟨m, hm, fun v hv h3 => ?_, g⟩
      obtain ⟨k, _, _, e⟩ := hv
      rw [e] at h3
      exact absurd (show (2 : Nat) = 1 from h3) (by decide)
theorem rf_passg {s g : Nat} {S : zz_T} {w : ab_F} (hs : s < 8) (hg : g < 8) (h5 : zz_5 S) (hk : rf_nw S) (h18 : zz_18 S) (h20 : rf_nn (S 20 (s * 8 + g))) (hwn : rf_wn S) (e2 : S 42 2 = nI g) (hw : rf_wr S = w) (h : mm_pass s S 38 = S 38) : ∃ m, m ≤ 8 ∧ rf_rg S (mm_pass s S) m (ab_ps (rf_u S) s w (rf_a S)).2 :=
  match rf_passg1 hs hg h5 hk h18 h20 hwn e2 hw h with
  | ⟨m, a, _, b⟩ => ⟨m, a, b⟩
/-! ## the ring: asking, hearing -/
theorem rf_ask3o {s g f : Nat} {S : zz_T} (h : f ≠ 16 ∧ f ≠ 17 ∧ f ≠ 21 ∧ f ≠ 22 ∧ f ≠ 23 ∧ f ≠ 24 ∧ f ≠ 42) : mm_ask3 s g S f = S f := by
  obtain ⟨h1, h2, h3, h4, h5, h6, h7⟩ := h
  unfold mm_ask3 mm_ask2 mm_ask0
  rw [zz_sn h7, zz_sn h7, zz_sn h7, zz_bego h7, zz_seeo h4 h5 h6, zz_sn h2, zz_sn h1, zz_sn h3]
theorem rf_askm {s g : Nat} {S : zz_T} : rf_m38 S (mm_ask s g S) := by
  unfold mm_ask
  split
  · exact rf_m38t (rf_m38e (rf_ask3o (by decide))) rf_tellm
  · exact rf_m38e rfl
theorem rf_askg {s g : Nat} {S : zz_T} (hs : s < 8) (hg : g < 8) (h5 : zz_5 S) (hk : rf_k S) (h : mm_ask s g S 38 = S 38) : ∃ m, m ≤ 8 ∧ rf_rg S (mm_ask s g S) m (ab_k (rf_u S) s g (rf_a S)).2 := by
  obtain ⟨⟨t, ht, e4⟩, k16, k17, k18, k20, k21, kt, k24, _⟩ := id hk
  obtain ⟨n, hn, e16⟩ := k16 s hs
  obtain ⟨q, hq, e17⟩ := k17 s hs
  obtain ⟨a, ha, e21⟩ := k21 (s * 8 + g) (by omega)
  have hc : (24 ≤ S 4 0 - S 21 (s * 8 + g)) ↔ ¬ rf_a S 0 0 0 < rf_a S 6 s g := by
    rw [rf_0r, rf_6r hs hg, e21, e4, rf_cn (by omega), rf_cn (by omega)]
    exact rf_24c ht ha e21
  unfold mm_ask at h ⊢
  by_cases c : 24 ≤ S 4 0 - S 21 (s * 8 + g)
  · rw [if_pos c] at h ⊢
    rw [ab_ky (hc.1 c)]
    have e38 : mm_ask3 s g S 38 = S 38 := rf_ask3o (by decide)
    have a16 : mm_ask2 s g S 16 s = nI (n + 1) := by
      unfold mm_ask2
      rw [zz_bego (by decide), zz_seeo (by decide) (by decide) (by decide)]
      unfold mm_ask0
      rw [zz_sn (by decide), zz_se, pk_us, e16, nI_1]
    have a17 : mm_ask2 s g S 17 s = nI (q + 1) := by
      unfold mm_ask2
      rw [zz_bego (by decide), zz_seeo (by decide) (by decide) (by decide)]
      unfold mm_ask0
      rw [zz_se, pk_us, e17, nI_1]
    obtain ⟨b0, b1, b2, b3⟩ := zz_begw (k := 0) (f := nI s) (g := nI g) (S := mm_see s (nI s) (mm_ask0 s g S 17 s) (mm_ask0 s g S))
    have b0' : mm_ask2 s g S 42 0 = nI 0 := b0
    have b1' : mm_ask2 s g S 42 1 = nI s := b1
    have b2' : mm_ask2 s g S 42 2 = nI g := b2
    have w0 : mm_ask3 s g S 42 0 = nI 0 := by
      unfold mm_ask3
      rw [zz_se, pk_un (by decide), zz_se, pk_un (by decide), zz_se, pk_un (by decide), b0']
    have w1 : mm_ask3 s g S 42 1 = nI s := by
      unfold mm_ask3
      rw [zz_se, pk_un (by decide), zz_se, pk_un (by decide), zz_se, pk_un (by decide), b1']
    have w2 : mm_ask3 s g S 42 2 = nI g := by
      unfold mm_ask3
      rw [zz_se, pk_un (by decide), zz_se, pk_un (by decide), zz_se, pk_un (by decide), b2']
    have w3 : mm_ask3 s g S 42 3 = nI (n + 1) := by
      unfold mm_ask3
      rw [zz_se, pk_un (by decide), zz_se, pk_un (by decide), zz_se, pk_us, a16]
    have w4 : mm_ask3 s g S 42 4 = nI 0 := by
      unfold mm_ask3
      rw [zz_se, pk_un (by decide), zz_se, pk_us]
      rfl
    have w5 : mm_ask3 s g S 42 5 = nI (q + 1) := by
      unfold mm_ask3
      rw [zz_se, pk_us, a17]
    obtain ⟨m, hm, gg⟩ := rf_tellg (S := mm_ask3 s g S) hs (zz_5ask3 h5) (rf_nwc (rf_ask3o (by decide)) ⟨t, ht, e4⟩) (rf_wn6 (rf_nx w0 (by omega)) (rf_nx w1 (by omega)) (rf_nx w2 (by omega)) (rf_nx w3 (by omega)) (rf_nx w4 (by omega)) (rf_nx w5 (by omega))) (by rw [e38]; exact h)
    have ew : rf_wr (mm_ask3 s g S) = ab_fr 0 s g (n + 1) 0 (q + 1) := by
      unfold rf_wr
      rw [w0, w1, w2, w3, w4, w5, rf_cn (by omega), rf_cn (by omega), rf_cn (by omega), rf_cn (by omega), rf_cn (by omega)]
    refine ⟨m, hm, rf_rgw (rf_rgl h5 (fun f hf => rf_ask3o (by omega)) gg (by omega)) (fun w => ?_)⟩
    rw [rf_ask3o (f := 4) (by decide), rf_uc (rf_ask3o (by decide)), ew]
    show _ ↔ ∃ k, k < 8 ∧ rf_u S s k ∧ w = ab_pt (ab_k1 s g (rf_a S) 0 0 0) s k (ab_fr 0 s g (rf_a S 4 s 0 + 1) 0 (rf_a S 5 s 0 + 1))
    rw [ab_k1f (by decide), rf_0r, rf_4r hs, rf_5r hs, e16, e17, rf_cn (n := n) (by omega), rf_cn (n := q) (by omega)]
  · rw [if_neg c, ab_kn (by
      by_cases z : rf_a S 0 0 0 < rf_a S 6 s g
      · exact z
      · exact absurd (hc.2 z) c)]
    exact ⟨0, by omega, rf_rg0 h5 rfl rfl (fun f _ => rfl)⟩
theorem rf_20l {s g p l n q : Nat} {S : zz_T} (hn : n < 2 ^ 30) (h : ∀ q, q < 64 → ∃ m, m < 2 ^ 30 ∧ S 20 q = nI m) (hq : q < 64) : rf_nn (mm_learn s g (nI p) (nI l) (nI n) S 20 q) := by
  obtain ⟨m, hm, e⟩ := h q hq
  unfold mm_learn
  split
  · unfold mm_lnS
    rw [zz_se, zz_sn (by decide), zz_sn (by decide)]
    by_cases c : q = s * 8 + g
    · rw [c, pk_us]; exact rf_nI hn
    · rw [pk_un c]; exact rf_nx e hm
  · exact rf_nx e hm
theorem rf_haTo {s f : Nat} {b : Int32} {S : zz_T} (h : f ≠ 16 ∧ f ≠ 18 ∧ f ≠ 19 ∧ f ≠ 20 ∧ f ≠ 22 ∧ f ≠ 23 ∧ f ≠ 24 ∧ f ≠ 42) : zz_s (mm_haT s b S) 42 3 (mm_haT s b S 16 s) f = S f := by
  obtain ⟨h0, h1, h2, h3, h4, h5, h6, h7⟩ := h
  unfold mm_haT
  rw [zz_sn h7, zz_bego h7, zz_sn h0, rf_ha2o ⟨h1, h2, h3, h4, h5, h6⟩]
theorem rf_hearAskm {s : Nat} {b : Int32} {S : zz_T} : rf_m38 S (mm_hearAsk s b S) := by
  unfold mm_hearAsk
  split
  · exact rf_m38e rfl
  · split
    · exact rf_m38t (rf_m38e (rf_haTo (by decide))) rf_passm
    · refine rf_m38t (rf_m38e ?_) rf_tellm
      rw [zz_sn (by decide), zz_cpyo (by decide), rf_ha2o (by decide)]
theorem rf_hearAskg1 {s p f g n l q : Nat} {S : zz_T} (hs : s < 8) (hp : p < 8) (h5 : zz_5 S) (hk : rf_k S) (hr : rf_r S 0 f g n l q) (h : mm_hearAsk s (nI p) S 38 = S 38) : ∃ m, m ≤ 8 ∧ rf_t1 (ab_hA (rf_u S) s p (ab_fr 0 f g n l q) (rf_a S)).2 m ∧ rf_rg S (mm_hearAsk s (nI p) S) m (ab_hA (rf_u S) s p (ab_fr 0 f g n l q) (rf_a S)).2 := by
  have hA := rf_ha2 hs hp hk hr
  obtain ⟨_, hf, hg, hn, hl, hq, e0, e1, e2, e3, e4, e5⟩ := hr
  obtain ⟨know, k16, k17, k18, k20, k21, kt, k24, _⟩ := id hk
  have hsn : mm_seenP s (S 43 1) (S 43 5) S ↔ ab_sn s f q (rf_a S) := by
    rw [e1, e5]; exact rf_seen hs hf (by omega) kt
  unfold mm_hearAsk at h ⊢
  unfold ab_hA
  show ∃ m, m ≤ 8 ∧ rf_t1 (ab_if (ab_sn s f q (rf_a S)) (ab_nil (rf_a S)) (ab_if (g = s) (ab_ps (rf_u S) s (ab_fr 1 s f (ab_hA1 s p (ab_fr 0 f g n l q) (rf_a S) 4 s 0 + 1) 0 0) (ab_w (ab_hA1 s p (ab_fr 0 f g n l q) (rf_a S)) 4 s 0 (ab_hA1 s p (ab_fr 0 f g n l q) (rf_a S) 4 s 0 + 1)))
      (ab_tl (rf_u S) s (ab_fr 0 f g n (l + 1) q) (ab_hA1 s p (ab_fr 0 f g n l q) (rf_a S))))).2 m ∧ rf_rg S _ m (ab_if (ab_sn s f q (rf_a S)) (ab_nil (rf_a S)) (ab_if (g = s) (ab_ps (rf_u S) s (ab_fr 1 s f (ab_hA1 s p (ab_fr 0 f g n l q) (rf_a S) 4 s 0 + 1) 0 0) (ab_w (ab_hA1 s p (ab_fr 0 f g n l q) (rf_a S)) 4 s 0 (ab_hA1 s p (ab_fr 0 f g n l q) (rf_a S) 4 s 0 + 1)))
      (ab_tl (rf_u S) s (ab_fr 0 f g n (l + 1) q) (ab_hA1 s p (ab_fr 0 f g n l q) (rf_a S))))).2
  by_cases c : mm_seenP s (S 43 1) (S 43 5) S
  · rw [if_pos c, ab_ip (hsn.1 c)]
    exact ⟨0, by omega, fun v hv => False.elim hv, rf_rg0 h5 rfl rfl (fun f _ => rfl)⟩
  · rw [if_neg c] at h ⊢
    rw [ab_in (fun z => c (hsn.2 z))]
    by_cases d : S 43 2 = nI s
    · have egs : g = s := by rw [e2] at d; exact (nI_eq (by omega) (by omega)).1 d
      rw [if_pos d] at h ⊢
      rw [ab_ip egs]
      obtain ⟨m, hm, e16⟩ := k16 s hs
      have e16' : mm_ha2 s (nI p) S 16 s = nI m := by rw [rf_ha2o (by decide)]; exact e16
      have h16 : ab_hA1 s p (ab_fr 0 f g n l q) (rf_a S) 4 s 0 = m := by
        rw [ab_hA1n (by decide), rf_4r hs, e16, rf_cn (by omega)]
      have hT : rf_a (zz_s (mm_haT s (nI p) S) 42 3 (mm_haT s (nI p) S 16 s)) = ab_w (ab_hA1 s p (ab_fr 0 f g n l q) (rf_a S)) 4 s 0 (m + 1) := by
        unfold mm_haT
        rw [rf_n (by decide), rf_beg, rf_16 hs, hA, e16', nI_1, rf_cn (by omega)]
      have h18 : zz_18 (zz_s (mm_haT s (nI p) S) 42 3 (mm_haT s (nI p) S 16 s)) := by
        refine zz_18of (S := mm_ha2 s (nI p) S) ?_ (rf_18a hp k18)
        unfold mm_haT
        rw [zz_sn (by decide), zz_bego (by decide), zz_sn (by decide)]
      have h42 : zz_s (mm_haT s (nI p) S) 42 3 (mm_haT s (nI p) S 16 s) 42 2 = nI f := by
        rw [zz_se, pk_un (by decide)]
        unfold mm_haT
        rw [zz_beg2, e1]
      have t16 : mm_haT s (nI p) S 16 s = nI (m + 1) := by
        unfold mm_haT
        rw [zz_bego (by decide), zz_se, pk_us, e16', nI_1]
      obtain ⟨b0, b1, b2, b3⟩ := zz_begw (k := 1) (f := nI s) (g := S 43 1) (S := zz_s (mm_ha2 s (nI p) S) 16 s (mm_ha2 s (nI p) S 16 s + 1))
      have w0 : zz_s (mm_haT s (nI p) S) 42 3 (mm_haT s (nI p) S 16 s) 42 0 = nI 1 := by rw [zz_se, pk_un (by decide)]; exact b0
      have w1 : zz_s (mm_haT s (nI p) S) 42 3 (mm_haT s (nI p) S 16 s) 42 1 = nI s := by rw [zz_se, pk_un (by decide)]; exact b1
      have w2 : zz_s (mm_haT s (nI p) S) 42 3 (mm_haT s (nI p) S 16 s) 42 2 = nI f := h42
      have w3 : zz_s (mm_haT s (nI p) S) 42 3 (mm_haT s (nI p) S 16 s) 42 3 = nI (m + 1) := by rw [zz_se, pk_us]; exact t16
      have w4 : zz_s (mm_haT s (nI p) S) 42 3 (mm_haT s (nI p) S 16 s) 42 4 = nI 0 := by rw [zz_se, pk_un (by decide)]; exact b3 4 (by omega) (by omega)
      have w5 : zz_s (mm_haT s (nI p) S) 42 3 (mm_haT s (nI p) S 16 s) 42 5 = nI 0 := by rw [zz_se, pk_un (by decide)]; exact b3 5 (by omega) (by omega)
      have ew : rf_wr (zz_s (mm_haT s (nI p) S) 42 3 (mm_haT s (nI p) S 16 s)) = ab_fr 1 s f (m + 1) 0 0 := by
        unfold rf_wr
        rw [w0, w1, w2, w3, w4, w5, rf_cn (by omega), rf_cn (by omega), rf_cn (by omega), rf_cn (by omega), rf_cn (by omega)]
      have h20 : rf_nn (zz_s (mm_haT s (nI p) S) 42 3 (mm_haT s (nI p) S 16 s) 20 (s * 8 + f)) := by
        unfold mm_haT
        rw [zz_sn (by decide), zz_bego (by decide), zz_sn (by decide)]
        unfold mm_ha2 mm_ha1
        rw [e1, e3, e4, nI_1]
        refine rf_20l (by omega) (fun r hr => ?_) (by omega)
        rw [zz_seeo (by decide) (by decide) (by decide)]
        exact k20 r hr
      have e38 : zz_s (mm_haT s (nI p) S) 42 3 (mm_haT s (nI p) S 16 s) 38 = S 38 := rf_haTo (by decide)
      obtain ⟨j, hj, ht, gg⟩ := rf_passg1 (w := ab_fr 1 s f (m + 1) 0 0) hs hf (zz_5of (rf_haTo (by decide)) h5) (rf_nwc (rf_haTo (by decide)) know) h18 h20 (rf_wn6 (rf_nx w0 (by omega)) (rf_nx w1 (by omega)) (rf_nx w2 (by omega)) (rf_nx w3 (by omega)) (rf_nx w4 (by omega)) (rf_nx w5 (by omega))) h42 ew (by rw [e38]; exact h)
      rw [hT, rf_uc (rf_haTo (by decide))] at gg ht
      rw [h16]
      exact ⟨j, hj, ht, rf_rgl h5 (fun f hf => rf_haTo (by omega)) gg (by omega)⟩
    · have egs : ¬ g = s := fun z => d (by rw [e2, z])
      rw [if_neg d] at h ⊢
      rw [ab_in egs]
      have hlo : ∀ F, F ≠ 18 ∧ F ≠ 19 ∧ F ≠ 20 ∧ F ≠ 22 ∧ F ≠ 23 ∧ F ≠ 24 → F ≠ 42 → zz_s (mm_cpy (mm_ha2 s (nI p) S)) 42 4 (mm_cpy (mm_ha2 s (nI p) S) 42 4 + 1) F = S F := by
        intro F a b
        rw [zz_sn b, zz_cpyo b, rf_ha2o a]
      have w43 : ∀ k, k < 12 → mm_cpy (mm_ha2 s (nI p) S) 42 k = S 43 k := fun k hk => by rw [zz_cpyw hk, rf_ha2o (by decide)]
      have w0 : zz_s (mm_cpy (mm_ha2 s (nI p) S)) 42 4 (mm_cpy (mm_ha2 s (nI p) S) 42 4 + 1) 42 0 = nI 0 := by rw [zz_se, pk_un (by decide), w43 0 (by omega), e0]
      have w1 : zz_s (mm_cpy (mm_ha2 s (nI p) S)) 42 4 (mm_cpy (mm_ha2 s (nI p) S) 42 4 + 1) 42 1 = nI f := by rw [zz_se, pk_un (by decide), w43 1 (by omega), e1]
      have w2 : zz_s (mm_cpy (mm_ha2 s (nI p) S)) 42 4 (mm_cpy (mm_ha2 s (nI p) S) 42 4 + 1) 42 2 = nI g := by rw [zz_se, pk_un (by decide), w43 2 (by omega), e2]
      have w3 : zz_s (mm_cpy (mm_ha2 s (nI p) S)) 42 4 (mm_cpy (mm_ha2 s (nI p) S) 42 4 + 1) 42 3 = nI n := by rw [zz_se, pk_un (by decide), w43 3 (by omega), e3]
      have w4 : zz_s (mm_cpy (mm_ha2 s (nI p) S)) 42 4 (mm_cpy (mm_ha2 s (nI p) S) 42 4 + 1) 42 4 = nI (l + 1) := by rw [zz_se, pk_us, w43 4 (by omega), e4, nI_1]
      have w5 : zz_s (mm_cpy (mm_ha2 s (nI p) S)) 42 4 (mm_cpy (mm_ha2 s (nI p) S) 42 4 + 1) 42 5 = nI q := by rw [zz_se, pk_un (by decide), w43 5 (by omega), e5]
      have ew : rf_wr (zz_s (mm_cpy (mm_ha2 s (nI p) S)) 42 4 (mm_cpy (mm_ha2 s (nI p) S) 42 4 + 1)) = ab_fr 0 f g n (l + 1) q := by
        unfold rf_wr
        rw [w0, w1, w2, w3, w4, w5, rf_cn (by omega), rf_cn (by omega), rf_cn (by omega), rf_cn (by omega), rf_cn (by omega), rf_cn (by omega)]
      have e38 := hlo 38 (by decide) (by decide)
      obtain ⟨j, hj, gg⟩ := rf_tellg (S := zz_s (mm_cpy (mm_ha2 s (nI p) S)) 42 4 (mm_cpy (mm_ha2 s (nI p) S) 42 4 + 1)) hs (zz_5of (hlo 5 (by decide) (by decide)) h5) (rf_nwc (hlo 4 (by decide) (by decide)) know) (rf_wn6 (rf_nx w0 (by omega)) (rf_nx w1 (by omega)) (rf_nx w2 (by omega)) (rf_nx w3 (by omega)) (rf_nx w4 (by omega)) (rf_nx w5 (by omega))) (by rw [e38]; exact h)
      refine ⟨j, hj, fun v hv h3 => ?_, rf_rgw (rf_rgl h5 (fun f hf => hlo f (by omega) (by omega)) gg (by omega)) (fun w => ?_)⟩
      · obtain ⟨k, _, _, e⟩ := hv
        rw [e] at h3
        exact absurd (show (0 : Nat) = 1 from h3) (by decide)
      rw [hlo 4 (by decide) (by decide), rf_uc (hlo 6 (by decide) (by decide)), ew]
      show _ ↔ ∃ k, k < 8 ∧ rf_u S s k ∧ w = ab_pt (ab_hA1 s p (ab_fr 0 f g n l q) (rf_a S) 0 0 0) s k (ab_fr 0 f g n (l + 1) q)
      rw [ab_hA1n (by decide), rf_0r]
theorem rf_hearAskg {s p f g n l q : Nat} {S : zz_T} (hs : s < 8) (hp : p < 8) (h5 : zz_5 S) (hk : rf_k S) (hr : rf_r S 0 f g n l q) (h : mm_hearAsk s (nI p) S 38 = S 38) : ∃ m, m ≤ 8 ∧ rf_rg S (mm_hearAsk s (nI p) S) m (ab_hA (rf_u S) s p (ab_fr 0 f g n l q) (rf_a S)).2 :=
  match rf_hearAskg1 hs hp h5 hk hr h with
  | ⟨m, a, _, b⟩ => ⟨m, a, b⟩
theorem rf_ht2o {s f : Nat} {b : Int32} {S : zz_T} (h : f ≠ 18 ∧ f ≠ 19 ∧ f ≠ 20 ∧ f ≠ 42) : mm_ht2 s b S f = S f := by
  unfold mm_ht2 mm_ht1
  rw [zz_sn h.2.2.2, zz_cpyo h.2.2.2, zz_lno h.1 h.2.1 h.2.2.1]
theorem rf_hearTellm {s : Nat} {b : Int32} {S : zz_T} : rf_m38 S (mm_hearTell s b S) := by
  unfold mm_hearTell
  split
  · unfold mm_ht1
    exact rf_m38e (zz_lno (by decide) (by decide) (by decide))
  · exact rf_m38t (rf_m38e (rf_ht2o (by decide))) rf_passm
theorem rf_hearTellg1 {s p f g n l q : Nat} {S : zz_T} (hs : s < 8) (hp : p < 8) (h5 : zz_5 S) (hk : rf_k S) (hr : rf_r S 1 f g n l q) (hq0 : q = 0) (h : mm_hearTell s (nI p) S 38 = S 38) : ∃ m, m ≤ 8 ∧ rf_t1 (ab_hT (rf_u S) s p (ab_fr 1 f g n l q) (rf_a S)).2 m ∧ rf_rg S (mm_hearTell s (nI p) S) m (ab_hT (rf_u S) s p (ab_fr 1 f g n l q) (rf_a S)).2 := by
  obtain ⟨_, hf, hg, hn, hl, hq, e0, e1, e2, e3, e4, e5⟩ := hr
  obtain ⟨know, k16, k17, k18, k20, k21, kt, k24, _⟩ := id hk
  obtain ⟨m, hm, e20⟩ := k20 (s * 8 + f) (by omega)
  have h1 : rf_a (mm_ht1 s (nI p) S) = ab_ln s f p (l + 1) n (rf_a S) := by
    unfold mm_ht1
    rw [e1, e3, e4, nI_clamp (show f < 2 ^ 31 by omega), nI_1]
    exact rf_learn hs hf hp (by omega) (by omega) k18 hm e20
  unfold mm_hearTell at h ⊢
  unfold ab_hT
  show ∃ m, m ≤ 8 ∧ rf_t1 (ab_if (g = s) (ab_nil (ab_ln s f p (l + 1) n (rf_a S))) (ab_ps (rf_u S) s (ab_fr 1 f g n (l + 1) 0) (ab_ln s f p (l + 1) n (rf_a S)))).2 m ∧ rf_rg S _ m (ab_if (g = s) (ab_nil (ab_ln s f p (l + 1) n (rf_a S))) (ab_ps (rf_u S) s (ab_fr 1 f g n (l + 1) 0) (ab_ln s f p (l + 1) n (rf_a S)))).2
  by_cases d : S 43 2 = nI s
  · have egs : g = s := by rw [e2] at d; exact (nI_eq (by omega) (by omega)).1 d
    rw [if_pos d, ab_ip egs]
    unfold mm_ht1
    exact ⟨0, by omega, fun v hv => False.elim hv, rf_rg0 h5 (zz_lno (by decide) (by decide) (by decide)) (zz_lno (by decide) (by decide) (by decide)) (fun f hf => zz_lno (by omega) (by omega) (by omega))⟩
  · have egs : ¬ g = s := fun z => d (by rw [e2, z])
    rw [if_neg d] at h ⊢
    rw [ab_in egs]
    have hT : rf_a (mm_ht2 s (nI p) S) = ab_ln s f p (l + 1) n (rf_a S) := by
      unfold mm_ht2
      rw [rf_n (by decide), rf_cpy, h1]
    have h18 : zz_18 (mm_ht2 s (nI p) S) := by
      refine zz_18of (S := mm_ht1 s (nI p) S) ?_ (rf_18l hp k18)
      unfold mm_ht2
      rw [zz_sn (by decide), zz_cpyo (by decide)]
    have w43 : ∀ k, k < 12 → mm_cpy (mm_ht1 s (nI p) S) 42 k = S 43 k := fun k hk => by
      rw [zz_cpyw hk]
      unfold mm_ht1
      rw [zz_lno (by decide) (by decide) (by decide)]
    have h42 : mm_ht2 s (nI p) S 42 2 = nI g := by
      unfold mm_ht2
      rw [zz_se, pk_un (by decide), w43 2 (by omega), e2]
    have w0 : mm_ht2 s (nI p) S 42 0 = nI 1 := by
      unfold mm_ht2
      rw [zz_se, pk_un (by decide), w43 0 (by omega), e0]
    have w1 : mm_ht2 s (nI p) S 42 1 = nI f := by
      unfold mm_ht2
      rw [zz_se, pk_un (by decide), w43 1 (by omega), e1]
    have w2 : mm_ht2 s (nI p) S 42 2 = nI g := by
      unfold mm_ht2
      rw [zz_se, pk_un (by decide), w43 2 (by omega), e2]
    have w3 : mm_ht2 s (nI p) S 42 3 = nI n := by
      unfold mm_ht2
      rw [zz_se, pk_un (by decide), w43 3 (by omega), e3]
    have w4 : mm_ht2 s (nI p) S 42 4 = nI (l + 1) := by
      unfold mm_ht2
      rw [zz_se, pk_us, w43 4 (by omega), e4, nI_1]
    have w5 : mm_ht2 s (nI p) S 42 5 = nI q := by
      unfold mm_ht2
      rw [zz_se, pk_un (by decide), w43 5 (by omega), e5]
    have ew : rf_wr (mm_ht2 s (nI p) S) = ab_fr 1 f g n (l + 1) 0 := by
      unfold rf_wr
      rw [w0, w1, w2, w3, w4, w5, rf_cn (by omega), rf_cn (by omega), rf_cn (by omega), rf_cn (by omega), rf_cn (by omega), rf_cn (by omega), hq0]
    have h20 : rf_nn (mm_ht2 s (nI p) S 20 (s * 8 + g)) := by
      unfold mm_ht2 mm_ht1
      rw [zz_sn (by decide), zz_cpyo (by decide), e1, e3, e4, nI_1]
      exact rf_20l (by omega) k20 (by omega)
    have e38 : mm_ht2 s (nI p) S 38 = S 38 := rf_ht2o (by decide)
    obtain ⟨j, hj, ht, gg⟩ := rf_passg1 (w := ab_fr 1 f g n (l + 1) 0) hs hg (zz_5of (rf_ht2o (by decide)) h5) (rf_nwc (rf_ht2o (by decide)) know) h18 h20 (rf_wn6 (rf_nx w0 (by omega)) (rf_nx w1 (by omega)) (rf_nx w2 (by omega)) (rf_nx w3 (by omega)) (rf_nx w4 (by omega)) (rf_nx w5 (by omega))) h42 ew (by rw [e38]; exact h)
    rw [hT, rf_uc (rf_ht2o (by decide))] at gg ht
    exact ⟨j, hj, ht, rf_rgl h5 (fun f hf => rf_ht2o (by omega)) gg (by omega)⟩
theorem rf_hearTellg {s p f g n l q : Nat} {S : zz_T} (hs : s < 8) (hp : p < 8) (h5 : zz_5 S) (hk : rf_k S) (hr : rf_r S 1 f g n l q) (hq0 : q = 0) (h : mm_hearTell s (nI p) S 38 = S 38) : ∃ m, m ≤ 8 ∧ rf_rg S (mm_hearTell s (nI p) S) m (ab_hT (rf_u S) s p (ab_fr 1 f g n l q) (rf_a S)).2 :=
  match rf_hearTellg1 hs hp h5 hk hr hq0 h with
  | ⟨m, a, _, b⟩ => ⟨m, a, b⟩
theorem rf_hearLossm {s : Nat} {b : Int32} {S : zz_T} : rf_m38 S (mm_hearLoss s b S) := by
  unfold mm_hearLoss
  split
  · exact rf_givem
  · exact rf_m38e rfl
theorem rf_hearLossg {s p f g n l q : Nat} {S : zz_T} (hs : s < 8) (hp : p < 8) (h5 : zz_5 S) (hk : rf_k S) (hr : rf_r S 2 f g n l q) (h : mm_hearLoss s (nI p) S 38 = S 38) : ∃ m, m ≤ 8 ∧ rf_rg S (mm_hearLoss s (nI p) S) m (ab_hL (rf_u S) s p (ab_fr 2 f g n l q) (rf_a S)).2 := by
  obtain ⟨_, hf, hg, hn, hl, hq, e0, e1, e2, e3, e4, e5⟩ := hr
  obtain ⟨know, k16, k17, k18, k20, k21, kt, k24, _⟩ := hk
  obtain ⟨m, hm, e20⟩ := k20 (s * 8 + g) (by omega)
  have hst : rf_st (S 18 (s * 8 + g)) := k18 _ (by omega)
  unfold mm_hearLoss at h ⊢
  unfold ab_hL
  rw [e2, nI_clamp (show g < 2 ^ 31 by omega), e3, e20] at h ⊢
  show ∃ m, m ≤ 8 ∧ rf_rg S _ m (ab_if (s ≠ g ∧ rf_a S 1 s g = p ∧ rf_a S 3 s g ≤ n) (ab_gv (rf_u S) s g (rf_a S)) (ab_nil (rf_a S))).2
  have hc : (¬ nI s = nI g ∧ S 18 (s * 8 + g) = nI p ∧ ¬ nI n < nI m) ↔ (s ≠ g ∧ rf_a S 1 s g = p ∧ rf_a S 3 s g ≤ n) := by
    rw [nI_eq (by omega) (by omega), rf_1r hs hg, rf_3r hs hg, e20, rf_cn (by omega)]
    have h1 : S 18 (s * 8 + g) = nI p ↔ rf_m (S 18 (s * 8 + g)) = p := by
      rcases hst with e | ⟨r, hr, e⟩
      · rw [e, rf_m1]
        exact ⟨fun z => absurd z.symm (rf_n1 (by omega)), fun z => by omega⟩
      · rw [e, rf_mn (by omega)]
        exact nI_eq (by omega) (by omega)
    have h2 : ¬ nI n < nI m ↔ m ≤ n := by
      rw [Int32.lt_iff_toInt_lt, nI_toInt (by omega), nI_toInt (by omega)]
      omega
    rw [h1, h2]
  by_cases c : ¬ nI s = nI g ∧ S 18 (s * 8 + g) = nI p ∧ ¬ nI n < nI m
  · rw [if_pos c] at h ⊢
    rw [ab_ip (hc.1 c)]
    exact rf_giveg hs hg h5 know (rf_nx e20 hm) h
  · rw [if_neg c, ab_in (fun z => c (hc.2 z))]
    exact ⟨0, by omega, rf_rg0 h5 rfl rfl (fun f _ => rfl)⟩
theorem rf_lifeo {f : Nat} {S : zz_T} (h : f ≠ 42) : mm_lifeW S f = S f := by
  unfold mm_lifeW
  rw [zz_sn h, zz_cpyo h]
theorem rf_carrym {s : Nat} {S : zz_T} : rf_m38 S (mm_carry s S) := by
  unfold mm_carry
  split
  · exact rf_m38e (rf_lifeo (by decide))
  · exact rf_m38t (rf_m38e (rf_lifeo (by decide))) rf_passm
theorem rf_sub1 {q : Nat} (h : q < 2 ^ 29) (h1 : 1 ≤ q) : nI q - 1 = nI (q - 1) := by
  have : nI q = nI (q - 1) + 1 := by rw [nI_1, show q - 1 + 1 = q by omega]
  rw [this]
  simp
theorem rf_carryg {s k f g n l q : Nat} {S : zz_T} (hs : s < 8) (h5 : zz_5 S) (hk : rf_k S) (hr : rf_r S k f g n l q) (h : mm_carry s S 38 = S 38) : ∃ m, m ≤ 8 ∧ rf_rg S (mm_carry s S) m (ab_cy (rf_u S) s (ab_fr k f g n l q) (rf_a S)).2 := by
  obtain ⟨hk5, hf, hg, hn, hl, hq, e0, e1, e2, e3, e4, e5⟩ := hr
  obtain ⟨know, k16, k17, k18, k20, k21, kt, k24, _⟩ := hk
  unfold mm_carry at h ⊢
  unfold ab_cy
  show ∃ m, m ≤ 8 ∧ rf_rg S _ m (ab_if (q ≤ 1) (ab_nil (rf_a S)) (ab_ps (rf_u S) s (ab_fr k f g n l (q - 1)) (rf_a S))).2
  have hT : rf_a (mm_lifeW S) = rf_a S := by
    unfold mm_lifeW
    rw [rf_n (by decide), rf_cpy]
  have h5' : mm_lifeW S 42 5 = nI q - 1 := by
    unfold mm_lifeW
    rw [zz_se, pk_us, zz_cpyw (by decide), e5]
  have hc : mm_lifeW S 42 5 ≤ 0 ↔ q ≤ 1 := by
    rw [h5', Int32.le_iff_toInt_le, Int32.toInt_sub, nI_toInt (by omega)]
    have e1 : ((1 : Int32)).toInt = 1 := by decide
    have e0 : ((0 : Int32)).toInt = 0 := by decide
    rw [e1, e0, Int.bmod_eq_of_le (by omega) (by omega)]
    omega
  by_cases c : mm_lifeW S 42 5 ≤ 0
  · rw [if_pos c, ab_ip (hc.1 c)]
    exact ⟨0, by omega, rf_rg0 h5 (rf_lifeo (by decide)) (rf_lifeo (by decide)) (fun f hf => rf_lifeo (by omega))⟩
  · rw [if_neg c] at h ⊢
    have c' : ¬ q ≤ 1 := fun z => c (hc.2 z)
    rw [ab_in c']
    have w43 : ∀ k, k < 12 → k ≠ 5 → mm_lifeW S 42 k = S 43 k := fun k hk hk5 => by
      unfold mm_lifeW
      rw [zz_se, pk_un hk5, zz_cpyw hk]
    have w0 : mm_lifeW S 42 0 = nI k := by rw [w43 0 (by omega) (by omega), e0]
    have w1 : mm_lifeW S 42 1 = nI f := by rw [w43 1 (by omega) (by omega), e1]
    have w2 : mm_lifeW S 42 2 = nI g := by rw [w43 2 (by omega) (by omega), e2]
    have w3 : mm_lifeW S 42 3 = nI n := by rw [w43 3 (by omega) (by omega), e3]
    have w4 : mm_lifeW S 42 4 = nI l := by rw [w43 4 (by omega) (by omega), e4]
    have w5 : mm_lifeW S 42 5 = nI (q - 1) := by rw [h5', rf_sub1 hq (by omega)]
    have ew : rf_wr (mm_lifeW S) = ab_fr k f g n l (q - 1) := by
      unfold rf_wr
      rw [w0, w1, w2, w3, w4, w5, rf_cn (by omega), rf_cn (by omega), rf_cn (by omega), rf_cn (by omega), rf_cn (by omega), rf_cn (by omega)]
    obtain ⟨m20, hm20, e20⟩ := k20 (s * 8 + g) (by omega)
    have e38 : mm_lifeW S 38 = S 38 := rf_lifeo (by decide)
    obtain ⟨j, hj, gg⟩ := rf_passg (w := ab_fr k f g n l (q - 1)) hs hg (zz_5of (rf_lifeo (by decide)) h5) (rf_nwc (rf_lifeo (by decide)) know) (zz_18of (rf_lifeo (by decide)) k18) (by rw [rf_lifeo (by decide)]; exact rf_nx e20 hm20) (rf_wn6 (rf_nx w0 (by omega)) (rf_nx w1 (by omega)) (rf_nx w2 (by omega)) (rf_nx w3 (by omega)) (rf_nx w4 (by omega)) (rf_nx w5 (by omega))) w2 ew (by rw [e38]; exact h)
    rw [hT, rf_uc (rf_lifeo (by decide))] at gg
    exact ⟨j, hj, rf_rgl h5 (fun f hf => rf_lifeo (by omega)) gg (by omega)⟩
theorem rf_anWo {s f p F : Nat} {S : zz_T} (h : F ≠ 42) : mm_anW s f p S F = S F := by
  unfold mm_anW
  rw [zz_sn h, zz_sn h, zz_sn h, zz_bego h]
theorem rf_hearPieceg {s f g n l q c : Nat} {S : zz_T} {ac : Nat → Nat → Nat} (hs : s < 8) (h5 : zz_5 S) (hk : rf_k S) (hr : rf_r S 3 f g n l q) (hnp : g = s → ¬ (S 43 3 = S 15 (f + 8 * s) ∧ S 43 4 = S 29 (f + 8 * s))) (hac : S 15 (f + 8 * s) = nI c ∧ c < 2 ^ 30 ∧ ac f s = c) (h29 : S 29 (f + 8 * s) = nI 0)
    (h : mm_hearPiece s S 38 = S 38) : ∃ m, m ≤ 8 ∧ rf_rg S (mm_hearPiece s S) m (ab_hP (rf_u S) ac s (ab_fr 3 f g n l q) (rf_a S)).2 := by
  have hcy := rf_carryg hs h5 hk hr
  obtain ⟨_, hf, hg, hn, hl, hq, e0, e1, e2, e3, e4, e5⟩ := hr
  obtain ⟨know, k16, k17, k18, k20, k21, kt, k24, _⟩ := hk
  unfold mm_hearPiece at h ⊢
  unfold ab_hP
  show ∃ m, m ≤ 8 ∧ rf_rg S _ m (ab_if (g = s) (ab_ps (rf_u S) s (ab_fr 4 s f (ac f s) 0 8) (rf_a S)) (ab_cy (rf_u S) s (ab_fr 3 f g n l q) (rf_a S))).2
  by_cases d : S 43 2 = nI s
  · have egs : g = s := by rw [e2] at d; exact (nI_eq (by omega) (by omega)).1 d
    rw [if_pos d, e1, nI_clamp (show f < 2 ^ 31 by omega)] at h ⊢
    rw [ab_ip egs]
    unfold mm_hp92 mm_hpT at h ⊢
    rw [if_neg (hnp egs)] at h ⊢
    have hT : rf_a (mm_anW s f (f + 8 * s) S) = rf_a S := rf_same (fun F hF => rf_anWo (by unfold rf_F at hF; omega))
    have h42 : mm_anW s f (f + 8 * s) S 42 2 = nI f := by
      unfold mm_anW
      rw [zz_se, pk_un (by decide), zz_se, pk_un (by decide), zz_se, pk_un (by decide), zz_beg2]
    obtain ⟨b0, b1, b2, b3⟩ := zz_begw (k := 4) (f := nI s) (g := nI f) (S := S)
    have w0 : mm_anW s f (f + 8 * s) S 42 0 = nI 4 := by
      unfold mm_anW
      rw [zz_se, pk_un (by decide), zz_se, pk_un (by decide), zz_se, pk_un (by decide), b0]
      rfl
    have w1 : mm_anW s f (f + 8 * s) S 42 1 = nI s := by
      unfold mm_anW
      rw [zz_se, pk_un (by decide), zz_se, pk_un (by decide), zz_se, pk_un (by decide), b1]
    have w3 : mm_anW s f (f + 8 * s) S 42 3 = nI c := by
      unfold mm_anW
      rw [zz_se, pk_un (by decide), zz_se, pk_un (by decide), zz_se, pk_us, zz_bego (by decide), hac.1]
    have w4 : mm_anW s f (f + 8 * s) S 42 4 = nI 0 := by
      unfold mm_anW
      rw [zz_se, pk_un (by decide), zz_se, pk_us, zz_bego (by decide), h29]
    have w5 : mm_anW s f (f + 8 * s) S 42 5 = nI 8 := by
      unfold mm_anW
      rw [zz_se, pk_us]
      rfl
    have w2 := h42
    have ew : rf_wr (mm_anW s f (f + 8 * s) S) = ab_fr 4 s f (ac f s) 0 8 := by
      unfold rf_wr
      rw [w0, w1, w2, w3, w4, w5, rf_cn (by omega), rf_cn (by omega), rf_cn (by omega), rf_cn (by omega), rf_cn (by omega), rf_cn (by omega), hac.2.2]
    obtain ⟨m20, hm20, e20⟩ := k20 (s * 8 + f) (by omega)
    have hc30 := hac.2.1
    have e38 : mm_anW s f (f + 8 * s) S 38 = S 38 := rf_anWo (by decide)
    obtain ⟨j, hj, gg⟩ := rf_passg (w := ab_fr 4 s f (ac f s) 0 8) hs hf (zz_5of (rf_anWo (by decide)) h5) (rf_nwc (rf_anWo (by decide)) know) (zz_18of (rf_anWo (by decide)) k18) (by rw [rf_anWo (by decide)]; exact rf_nx e20 hm20) (rf_wn6 (rf_nx w0 (by omega)) (rf_nx w1 (by omega)) (rf_nx w2 (by omega)) (rf_nx w3 (by omega)) (rf_nx w4 (by omega)) (rf_nx w5 (by omega))) h42 ew (by rw [e38]; exact h)
    rw [hT, rf_uc (rf_anWo (by decide))] at gg
    exact ⟨j, hj, rf_rgl h5 (fun f hf => rf_anWo (by omega)) gg (by omega)⟩
  · have egs : ¬ g = s := fun z => d (by rw [e2, z])
    rw [if_neg d] at h ⊢
    rw [ab_in egs]
    exact hcy h
theorem rf_hearAnswerg {s k f g n l q : Nat} {S : zz_T} (hs : s < 8) (h5 : zz_5 S) (hk : rf_k S) (hr : rf_r S k f g n l q) (hnp : g = s → ¬ mm_anP (s + 8 * f) S) (h : mm_hearAnswer s S 38 = S 38) :
    ∃ m, m ≤ 8 ∧ rf_rg S (mm_hearAnswer s S) m (ab_hW (rf_u S) s (ab_fr k f g n l q) (rf_a S)).2 := by
  have hcy := rf_carryg hs h5 hk hr
  obtain ⟨_, hf, hg, hn, hl, hq, e0, e1, e2, e3, e4, e5⟩ := hr
  unfold mm_hearAnswer at h ⊢
  unfold ab_hW
  show ∃ m, m ≤ 8 ∧ rf_rg S _ m (ab_if (g = s) (ab_nil (rf_a S)) (ab_cy (rf_u S) s (ab_fr k f g n l q) (rf_a S))).2
  by_cases d : S 43 2 = nI s
  · have egs : g = s := by rw [e2] at d; exact (nI_eq (by omega) (by omega)).1 d
    rw [if_pos d, ab_ip egs, e1, nI_clamp (show f < 2 ^ 31 by omega), if_neg (hnp egs)]
    exact ⟨0, by omega, rf_rg0 h5 rfl rfl (fun f _ => rfl)⟩
  · have egs : ¬ g = s := fun z => d (by rw [e2, z])
    rw [if_neg d] at h ⊢
    rw [ab_in egs]
    exact hcy h
theorem rf_hearg {s p k f g n l q c : Nat} {S : zz_T} {ac : Nat → Nat → Nat} (hs : s < 8) (hp : p < 8) (h5 : zz_5 S) (hk : rf_k S) (hr : rf_r S k f g n l q) (hp3 : k = 3 → g = s → ¬ (S 43 3 = S 15 (f + 8 * s) ∧ S 43 4 = S 29 (f + 8 * s))) (hp4 : k = 4 → g = s → ¬ mm_anP (s + 8 * f) S)
    (hac : S 15 (f + 8 * s) = nI c ∧ c < 2 ^ 30 ∧ ac f s = c) (h29 : S 29 (f + 8 * s) = nI 0) (hq0 : k = 1 → q = 0) (h : mm_hear s (nI p) S 38 = S 38) :
    ∃ m, m ≤ 8 ∧ rf_rg S (mm_hear s (nI p) S) m (ab_h (rf_u S) ac s p (ab_fr k f g n l q) (rf_a S)).2 := by
  have e0 : S 43 0 = nI k := hr.2.2.2.2.2.2.1
  have hk5 := hr.1
  have K : ∀ j, j < 5 → (S 43 0 = nI j ↔ k = j) := fun j hj => by rw [e0]; exact nI_eq (by omega) (by omega)
  have K0 : S 43 0 = 0 ↔ k = 0 := by rw [show (0 : Int32) = nI 0 from rfl]; exact K 0 (by omega)
  have K1 : S 43 0 = 1 ↔ k = 1 := by rw [show (1 : Int32) = nI 1 from rfl]; exact K 1 (by omega)
  have K2 : S 43 0 = 2 ↔ k = 2 := by rw [show (2 : Int32) = nI 2 from rfl]; exact K 2 (by omega)
  have K3 : S 43 0 = 3 ↔ k = 3 := by rw [show (3 : Int32) = nI 3 from rfl]; exact K 3 (by omega)
  unfold mm_hear at h ⊢
  unfold ab_h
  show ∃ m, m ≤ 8 ∧ rf_rg S _ m (ab_if (k = 0) (ab_hA (rf_u S) s p (ab_fr k f g n l q) (rf_a S)) (ab_if (k = 1) (ab_hT (rf_u S) s p (ab_fr k f g n l q) (rf_a S)) (ab_if (k = 2) (ab_hL (rf_u S) s p (ab_fr k f g n l q) (rf_a S)) (ab_if (k = 3) (ab_hP (rf_u S) ac s (ab_fr k f g n l q) (rf_a S)) (ab_hW (rf_u S) s (ab_fr k f g n l q) (rf_a S)))))).2
  by_cases c0 : k = 0
  · subst c0
    rw [if_pos (K0.2 rfl)] at h ⊢
    rw [ab_ip rfl]
    exact rf_hearAskg hs hp h5 hk hr h
  · rw [if_neg (fun z => c0 (K0.1 z))] at h ⊢
    rw [ab_in c0]
    by_cases c1 : k = 1
    · subst c1
      rw [if_pos (K1.2 rfl)] at h ⊢
      rw [ab_ip rfl]
      exact rf_hearTellg hs hp h5 hk hr (hq0 rfl) h
    · rw [if_neg (fun z => c1 (K1.1 z))] at h ⊢
      rw [ab_in c1]
      by_cases c2 : k = 2
      · subst c2
        rw [if_pos (K2.2 rfl)] at h ⊢
        rw [ab_ip rfl]
        exact rf_hearLossg hs hp h5 hk hr h
      · rw [if_neg (fun z => c2 (K2.1 z))] at h ⊢
        rw [ab_in c2]
        by_cases c3 : k = 3
        · subst c3
          rw [if_pos (K3.2 rfl)] at h ⊢
          rw [ab_ip rfl]
          exact rf_hearPieceg hs h5 hk hr (hp3 rfl) hac h29 h
        · rw [if_neg (fun z => c3 (K3.1 z))] at h ⊢
          rw [ab_in c3]
          exact rf_hearAnswerg hs h5 hk hr (hp4 (by omega)) h
/-- frames of kind 2 and more never give a TELL -/
theorem rf_no1 {u : Nat → Nat → Prop} {ac : Nat → Nat → Nat} {s p : Nat} {x v : ab_F} {D : ab_D} (hx : 2 ≤ x 3) (h : (ab_h u ac s p x D).2 v) : v 3 ≠ 1 := by
  intro h3
  have h' : (ab_do u (fun _ _ => False) (fun _ _ => 0) ac 1 s p x D).2 v := by rw [ab_do1]; exact h
  rcases (ab_d1 h' (by omega)).2.2.2 with ⟨_, e3, _⟩ | ⟨_, _, _, _, y⟩
  · omega
  · rcases y with ⟨_, y3, _⟩ | ⟨y, _⟩
    · omega
    · exact y
theorem rf_hearg1 {s p k f g n l q c : Nat} {S : zz_T} {ac : Nat → Nat → Nat} (hs : s < 8) (hp : p < 8) (h5 : zz_5 S) (hk : rf_k S) (hr : rf_r S k f g n l q) (hp3 : k = 3 → g = s → ¬ (S 43 3 = S 15 (f + 8 * s) ∧ S 43 4 = S 29 (f + 8 * s))) (hp4 : k = 4 → g = s → ¬ mm_anP (s + 8 * f) S)
    (hac : S 15 (f + 8 * s) = nI c ∧ c < 2 ^ 30 ∧ ac f s = c) (h29 : S 29 (f + 8 * s) = nI 0) (hq0 : k = 1 → q = 0) (h : mm_hear s (nI p) S 38 = S 38) :
    ∃ m, m ≤ 8 ∧ rf_t1 (ab_h (rf_u S) ac s p (ab_fr k f g n l q) (rf_a S)).2 m ∧ rf_rg S (mm_hear s (nI p) S) m (ab_h (rf_u S) ac s p (ab_fr k f g n l q) (rf_a S)).2 := by
  have e0 : S 43 0 = nI k := hr.2.2.2.2.2.2.1
  by_cases c0 : k = 0
  · subst c0
    have e : mm_hear s (nI p) S = mm_hearAsk s (nI p) S := by
      unfold mm_hear
      rw [if_pos (show S 43 0 = 0 from e0)]
    have e' : ab_h (rf_u S) ac s p (ab_fr 0 f g n l q) (rf_a S) = ab_hA (rf_u S) s p (ab_fr 0 f g n l q) (rf_a S) := ab_ip rfl
    rw [e, e']
    exact rf_hearAskg1 hs hp h5 hk hr (by rw [← e]; exact h)
  · by_cases c1 : k = 1
    · subst c1
      have e : mm_hear s (nI p) S = mm_hearTell s (nI p) S := by
        unfold mm_hear
        rw [if_neg (fun z => by rw [e0] at z; exact absurd ((nI_eq (by omega) (by omega)).1 (show nI 1 = nI 0 from z)) (by decide)), if_pos (show S 43 0 = 1 from e0)]
      have e' : ab_h (rf_u S) ac s p (ab_fr 1 f g n l q) (rf_a S) = ab_hT (rf_u S) s p (ab_fr 1 f g n l q) (rf_a S) := (ab_in (by show ¬ (1 : Nat) = 0; decide)).trans (ab_ip rfl)
      rw [e, e']
      exact rf_hearTellg1 hs hp h5 hk hr (hq0 rfl) (by rw [← e]; exact h)
    · obtain ⟨m, hm, g⟩ := rf_hearg hs hp h5 hk hr hp3 hp4 hac h29 hq0 h
      exact ⟨m, hm, fun v hv h3 => absurd h3 (rf_no1 (show 2 ≤ k by omega) hv), g⟩
/-! ## the ring: urging -/
theorem rf_uWw {a b c : Nat} {m : Option Nat} {S : zz_T} {cf : Nat → Nat → Nat} (ha : a < 8) (hb : b < 8) (hc : S 14 (a + 8 * b) = nI c ∧ c < 2 ^ 30 ∧ cf a b = c) : rf_wr (mm_uW a b m S) = ab_fr 3 a b (cf a b) 0 8 ∧ rf_wn (mm_uW a b m S) := by
  obtain ⟨b0, b1, b2, b3⟩ := zz_begw (k := 3) (f := nI a) (g := nI b) (S := S)
  have e14 : mm_beg 3 (nI a) (nI b) S 14 (a + 8 * b) = nI c := by rw [zz_bego (by decide)]; exact hc.1
  have hc30 := hc.2.1
  have fin : ∀ T : zz_T, T 42 0 = nI 3 → T 42 1 = nI a → T 42 2 = nI b → T 42 3 = nI c → T 42 4 = nI 0 → T 42 5 = nI 8 → rf_wr T = ab_fr 3 a b (cf a b) 0 8 ∧ rf_wn T := by
    intro T w0 w1 w2 w3 w4 w5
    refine ⟨?_, rf_wn6 (rf_nx w0 (by omega)) (rf_nx w1 (by omega)) (rf_nx w2 (by omega)) (rf_nx w3 (by omega)) (rf_nx w4 (by omega)) (rf_nx w5 (by omega))⟩
    unfold rf_wr
    rw [w0, w1, w2, w3, w4, w5, rf_cn (by omega), rf_cn (by omega), rf_cn (by omega), rf_cn (by omega), rf_cn (by omega), rf_cn (by omega), hc.2.2]
  cases m with
  | none =>
    show rf_wr (mm_wq a b S) = _ ∧ rf_wn (mm_wq a b S)
    refine fin _ ?_ ?_ ?_ ?_ ?_ ?_
    · unfold mm_wq
      rw [zz_se, pk_un (by decide), zz_se, pk_un (by decide), b0]
      rfl
    · unfold mm_wq
      rw [zz_se, pk_un (by decide), zz_se, pk_un (by decide), b1]
    · unfold mm_wq
      rw [zz_se, pk_un (by decide), zz_se, pk_un (by decide), b2]
    · unfold mm_wq
      rw [zz_se, pk_un (by decide), zz_se, pk_us, e14]
    · unfold mm_wq
      rw [zz_se, pk_un (by decide), zz_se, pk_un (by decide), b3 4 (by omega) (by omega)]
      rfl
    · unfold mm_wq
      rw [zz_se, pk_us]
      rfl
  | some k =>
    show rf_wr (mm_wp a b k S) = _ ∧ rf_wn (mm_wp a b k S)
    have hw : ∀ j, j < 8 → mm_wp a b k S 42 j = mm_wpW a b k S 42 j := by
      intro j hj
      unfold mm_wp
      generalize (S 11 k).toNatClampNeg = n
      induction n with
      | zero => rfl
      | succ n ih =>
        show zz_s _ 42 (8 + n) _ 42 j = _
        rw [zz_se, pk_un (by omega)]
        exact ih
    refine fin _ ?_ ?_ ?_ ?_ ?_ ?_
    · rw [hw 0 (by omega)]
      unfold mm_wpW
      rw [zz_se, pk_un (by decide), zz_se, pk_un (by decide), zz_se, pk_un (by decide), zz_se, pk_un (by decide), zz_se, pk_un (by decide)]
      exact b0
    · rw [hw 1 (by omega)]
      unfold mm_wpW
      rw [zz_se, pk_un (by decide), zz_se, pk_un (by decide), zz_se, pk_un (by decide), zz_se, pk_un (by decide), zz_se, pk_un (by decide)]
      exact b1
    · rw [hw 2 (by omega)]
      unfold mm_wpW
      rw [zz_se, pk_un (by decide), zz_se, pk_un (by decide), zz_se, pk_un (by decide), zz_se, pk_un (by decide), zz_se, pk_un (by decide)]
      exact b2
    · rw [hw 3 (by omega)]
      unfold mm_wpW
      rw [zz_se, pk_un (by decide), zz_se, pk_un (by decide), zz_se, pk_un (by decide), zz_se, pk_un (by decide), zz_se, pk_us]
      exact e14
    · rw [hw 4 (by omega)]
      unfold mm_wpW
      rw [zz_se, pk_un (by decide), zz_se, pk_un (by decide), zz_se, pk_un (by decide), zz_se, pk_us]
      rfl
    · rw [hw 5 (by omega)]
      unfold mm_wpW
      rw [zz_se, pk_un (by decide), zz_se, pk_un (by decide), zz_se, pk_us]
      rfl
theorem rf_hwm {a b : Nat} {S : zz_T} : rf_m38 S (mm_hw a b S) := by
  unfold mm_hw
  split
  · exact rf_m38e rfl
  · split
    · exact rf_m38e rfl
    · exact rf_givem
theorem rf_hwg {a b : Nat} {S : zz_T} (ha : a < 8) (hb : b < 8) (h5 : zz_5 S) (hk : rf_nw S) (h18 : zz_18 S) (h20 : rf_nn (S 20 (a * 8 + b))) (h : mm_hw a b S 38 = S 38) : ∃ m, m ≤ 8 ∧ rf_rg S (mm_hw a b S) m (ab_hs (rf_u S) a b (rf_a S)).2 := by
  have hst : rf_st (S 18 (a * 8 + b)) := h18 _ (by omega)
  have hP := rf_hwP (S := S) ha hb h18
  unfold mm_hwP ab_hw at hP
  unfold mm_hw at h ⊢
  unfold ab_hs
  by_cases c : S 18 (a * 8 + b) = -1
  · rw [if_pos c, ab_in (fun z => z.1 (by rw [rf_1r ha hb]; exact (rf_m8 hst).2 c))]
    exact ⟨0, by omega, rf_rg0 h5 rfl rfl (fun f _ => rfl)⟩
  · rw [if_neg c] at h ⊢
    have c' : ¬ rf_a S 1 a b = 8 := fun z => c (by rw [rf_1r ha hb] at z; exact (rf_m8 hst).1 z)
    by_cases d : mm_up S a (S 18 (a * 8 + b))
    · rw [if_pos d, ab_in (fun z => z.2 (hP.1 ⟨c, d⟩).2)]
      exact ⟨0, by omega, rf_rg0 h5 rfl rfl (fun f _ => rfl)⟩
    · rw [if_neg d] at h ⊢
      rw [ab_ip ⟨c', fun z => d (hP.2 ⟨c', z⟩).2⟩]
      exact rf_giveg ha hb h5 hk h20 h
theorem rf_u142m {a b : Nat} {m : Option Nat} {S : zz_T} : rf_m38 S (mm_u142 a b m S) := by
  unfold mm_u142
  split
  · refine rf_m38t (rf_hwm (a := a) (b := b)) ?_
    unfold mm_u187
    refine rf_m38t (rf_m38e ?_) rf_passm
    rw [zz_sn (by decide), zz_sn (by decide), zz_uWo (by decide)]
  · refine rf_m38t (rf_m38t (rf_hwm (a := a) (b := b)) (rf_m38e ?_)) rf_askm
    exact zz_sn (by decide)
theorem rf_u142g {a b c : Nat} {m : Option Nat} {S : zz_T} {cf : Nat → Nat → Nat} (ha : a < 8) (hb : b < 8) (h5 : zz_5 S) (hk : rf_k S) (hcf : S 14 (a + 8 * b) = nI c ∧ c < 2 ^ 30 ∧ cf a b = c) (h : mm_u142 a b m S 38 = S 38) :
    ∃ n, n ≤ 16 ∧ rf_rg S (mm_u142 a b m S) n (ab_u1 (rf_u S) cf a b (rf_a S)).2 := by
  have h18 := hk.2.2.2.1
  have know := hk.1
  have hP := rf_hwP (S := S) ha hb h18
  unfold mm_u142 at h ⊢
  unfold ab_u1
  by_cases cc : mm_hwP a b S
  · rw [if_pos cc] at h ⊢
    rw [ab_ip (hP.1 cc)]
    have eh : mm_hw a b S = S := by
      unfold mm_hw
      rw [if_neg cc.1, if_pos cc.2]
    rw [eh] at h ⊢
    unfold mm_u187 at h ⊢
    have hlo : ∀ F, F ≠ 42 → F ≠ 28 → F ≠ 26 → zz_s (zz_s (mm_uW a b m S) 28 (a + 8 * b) 1) 26 (a + 8 * b) (mm_uW a b m S 4 0) F = S F := by
      intro F x y z
      rw [zz_sn z, zz_sn y, zz_uWo x]
    have e1 : rf_a (zz_s (zz_s (mm_uW a b m S) 28 (a + 8 * b) 1) 26 (a + 8 * b) (mm_uW a b m S 4 0)) = ab_w (ab_w (rf_a S) 7 a b 1) 8 a b (rf_a S 0 0 0) := by
      rw [rf_26 ha hb, rf_28 ha hb, rf_uW, zz_uWo (by decide), rf_0r]
      rfl
    have ew : rf_wr (zz_s (zz_s (mm_uW a b m S) 28 (a + 8 * b) 1) 26 (a + 8 * b) (mm_uW a b m S 4 0)) = ab_fr 3 a b (cf a b) 0 8 := by
      rw [rf_wrc (S := mm_uW a b m S) (by rw [zz_sn (by decide), zz_sn (by decide)])]
      exact (rf_uWw ha hb hcf).1
    have ewn : rf_wn (zz_s (zz_s (mm_uW a b m S) 28 (a + 8 * b) 1) 26 (a + 8 * b) (mm_uW a b m S 4 0)) := rf_wnc (S := mm_uW a b m S) (by rw [zz_sn (by decide), zz_sn (by decide)]) (rf_uWw ha hb hcf).2
    obtain ⟨m20, hm20, e20⟩ := hk.2.2.2.2.1 (a * 8 + b) (by omega)
    have e38 := hlo 38 (by decide) (by decide) (by decide)
    obtain ⟨n, hn, gg⟩ := rf_passg (g := b) (w := ab_fr 3 a b (cf a b) 0 8) ha hb (zz_5of (hlo 5 (by decide) (by decide) (by decide)) h5) (rf_nwc (hlo 4 (by decide) (by decide) (by decide)) know) (zz_18of (hlo 18 (by decide) (by decide) (by decide)) h18) (by rw [hlo 20 (by decide) (by decide) (by decide)]; exact rf_nx e20 hm20) ewn (by rw [zz_sn (by decide), zz_sn (by decide)]; exact rf_uW2) ew (by rw [e38]; exact h)
    rw [e1, rf_uc (hlo 6 (by decide) (by decide) (by decide))] at gg
    have hh := hP.1 cc
    have hw : ab_hw (rf_u S) a b (ab_w (ab_w (rf_a S) 7 a b 1) 8 a b (rf_a S 0 0 0)) := by
      unfold ab_hw
      rw [ab_wf (by decide), ab_wf (by decide)]
      exact hh
    refine ⟨n, by omega, ?_⟩
    have g2 := rf_rgl h5 (fun f hf => hlo f (by omega) (by omega) (by omega)) gg (by omega)
    rcases ab_psc (u := rf_u S) (s := a) (w := ab_fr 3 a b (cf a b) 0 8) (D := ab_w (ab_w (rf_a S) 7 a b 1) 8 a b (rf_a S 0 0 0)) with ⟨e, _⟩ | ⟨_, _, e⟩ | ⟨_, e, _⟩
    · exact absurd e hw.1
    · rw [e] at g2
      refine rf_rgw g2 (fun w => ?_)
      show w = ab_pt _ a (ab_w (ab_w (rf_a S) 7 a b 1) 8 a b (rf_a S 0 0 0) 1 a b) (ab_fr 3 a b (cf a b) 0 8) ↔ w = ab_pt _ a (rf_a S 1 a b) (ab_fr 3 a b (cf a b) 0 8)
      rw [ab_wf (f := 8) (g := 1) (by decide), ab_wf (f := 7) (g := 1) (by decide)]
    · exact absurd hw.2 e
  · rw [if_neg cc] at h ⊢
    rw [ab_in (fun z => cc (hP.2 z))]
    show ∃ n, n ≤ 16 ∧ rf_rg S _ n (fun w => (ab_hs (rf_u S) a b (rf_a S)).2 w ∨ (ab_k (rf_u S) a b (ab_w (ab_hs (rf_u S) a b (rf_a S)).1 7 a b 0)).2 w)
    have e38 : zz_s (mm_hw a b S) 28 (a + 8 * b) 0 38 = mm_hw a b S 38 := zz_sn (by decide)
    have q := rf_m38q (rf_m38t rf_hwm (rf_m38e e38)) rf_askm h
    have kk : rf_k (zz_s (mm_hw a b S) 28 (a + 8 * b) 0) := rf_k28 (Or.inl rfl) (rf_khw hk)
    obtain ⟨m20, hm20, e20⟩ := hk.2.2.2.2.1 (a * 8 + b) (by omega)
    obtain ⟨n1, h1, g1⟩ := rf_hwg ha hb h5 know h18 (rf_nx e20 hm20) (by rw [← e38]; exact q.1)
    obtain ⟨n2, h2, g2⟩ := rf_askg ha hb (zz_5s (by decide) (zz_5hw h5)) kk q.2
    have g3 := rf_rgl (S := mm_hw a b S) (zz_5hw h5) (fun f hf => zz_sn (by omega)) g2 (by omega)
    rw [rf_28 ha hb, rf_hw ha hb h18, rf_uc (S := mm_hw a b S) (zz_sn (by decide)), rf_uc rf_hw6] at g3
    exact ⟨n1 + n2, by omega, rf_rgc g1 g3 (by omega)⟩
theorem rf_u108m {a b : Nat} {z : Int32} {m : Option Nat} {S : zz_T} : rf_m38 S (mm_u108 a b m z S) := by
  have e : mm_uA (a + 8 * b) z S 38 = S 38 := by
    unfold mm_uA
    exact zz_sn (by decide)
  unfold mm_u108
  split
  · exact rf_m38t (rf_m38e e) rf_u142m
  · split
    · exact rf_m38t (rf_m38t (rf_m38t (rf_m38t (rf_m38e e) rf_hwm) rf_givem) (rf_m38e (zz_sn (by decide)))) rf_u142m
    · exact rf_m38t (rf_m38t (rf_m38e e) rf_hwm) rf_u142m
theorem rf_u108g {a b c z : Nat} {m : Option Nat} {S : zz_T} {cf : Nat → Nat → Nat} (ha : a < 8) (hb : b < 8) (hz2 : z < 3) (h5 : zz_5 S) (hk : rf_k S) (hcf : S 14 (a + 8 * b) = nI c ∧ c < 2 ^ 30 ∧ cf a b = c) (h : mm_u108 a b m (nI z) S 38 = S 38) :
    ∃ n, n ≤ 24 ∧ rf_rg S (mm_u108 a b m (nI z) S) n (ab_u2 (rf_u S) cf a b z (rf_a S)).2 := by
  have eA : mm_uA (a + 8 * b) (nI z) S = zz_s S 27 (a + 8 * b) (nI z) := by
    unfold mm_uA
    rw [zz_8 z (by omega)]
  have rA : rf_a (zz_s S 27 (a + 8 * b) (nI z)) = ab_w (rf_a S) 9 a b z := by
    rw [rf_27 ha hb, rf_cn (by omega)]
  have uA : rf_u (zz_s S 27 (a + 8 * b) (nI z)) = rf_u S := rf_uc (zz_sn (by decide))
  have kA : rf_k (zz_s S 27 (a + 8 * b) (nI z)) := rf_k27 hz2 hk
  have h18 := kA.2.2.2.1
  have hP := rf_hwP (S := zz_s S 27 (a + 8 * b) (nI z)) ha hb h18
  rw [rA, uA] at hP
  have hP' : mm_hwP a b (zz_s S 27 (a + 8 * b) (nI z)) ↔ ab_hw (rf_u S) a b (rf_a S) := by
    rw [hP]
    unfold ab_hw
    rw [ab_wf (by decide)]
  have c14 : zz_s S 27 (a + 8 * b) (nI z) 14 = S 14 := zz_sn (by decide)
  have e38A : zz_s S 27 (a + 8 * b) (nI z) 38 = S 38 := zz_sn (by decide)
  have h5A : zz_5 (zz_s S 27 (a + 8 * b) (nI z)) := zz_5s (by decide) h5
  have lA : ∀ f, f = 4 ∨ f = 5 ∨ (31 < f ∧ f < 37) → zz_s S 27 (a + 8 * b) (nI z) f = S f := fun f hf => zz_sn (by omega)
  obtain ⟨m20, hm20, e20⟩ := kA.2.2.2.2.1 (a * 8 + b) (by omega)
  unfold mm_u108 at h ⊢
  unfold ab_u2
  rw [eA, zz_8 z (by omega)] at h ⊢
  have hc : nI z < 2 ↔ z < 2 := by
    rw [show (2 : Int32) = nI 2 from rfl, Int32.lt_iff_toInt_lt, nI_toInt (by omega), nI_toInt (by omega)]
    omega
  by_cases cz : nI z < 2
  · rw [if_pos cz] at h ⊢
    rw [ab_ip (hc.1 cz)]
    obtain ⟨n, hn, gg⟩ := rf_u142g (cf := cf) ha hb h5A kA (by rw [c14]; exact hcf) (by rw [e38A]; exact h)
    rw [rA, uA] at gg
    exact ⟨n, by omega, rf_rgl h5 lA gg (by omega)⟩
  · rw [if_neg cz] at h ⊢
    rw [ab_in (fun y => cz (hc.2 y))]
    by_cases d : mm_hwP a b (zz_s S 27 (a + 8 * b) (nI z))
    · rw [if_pos d] at h ⊢
      rw [ab_ip (hP'.1 d)]
      show ∃ n, n ≤ 24 ∧ rf_rg S _ n (fun w => (ab_gv (rf_u S) a b (ab_w (rf_a S) 9 a b z)).2 w ∨ (ab_u1 (rf_u S) cf a b (ab_w (ab_gv (rf_u S) a b (ab_w (rf_a S) 9 a b z)).1 9 a b 0)).2 w)
      have eh : mm_hw a b (zz_s S 27 (a + 8 * b) (nI z)) = zz_s S 27 (a + 8 * b) (nI z) := by
        unfold mm_hw
        rw [if_neg d.1, if_pos d.2]
      rw [eh] at h ⊢
      have kG : rf_k (zz_s (mm_give a b (zz_s S 27 (a + 8 * b) (nI z))) 27 (a + 8 * b) (nI 0)) := rf_k27 (by omega) (rf_kgive kA)
      have rG : rf_a (zz_s (mm_give a b (zz_s S 27 (a + 8 * b) (nI z))) 27 (a + 8 * b) (nI 0)) = ab_w (ab_gv (rf_u S) a b (ab_w (rf_a S) 9 a b z)).1 9 a b 0 := by
        rw [rf_27 ha hb, rf_give (u := rf_u S) ha hb, rA]
        rfl
      have uG : rf_u (zz_s (mm_give a b (zz_s S 27 (a + 8 * b) (nI z))) 27 (a + 8 * b) (nI 0)) = rf_u S := by
        rw [rf_uc (S := mm_give a b (zz_s S 27 (a + 8 * b) (nI z))) (zz_sn (by decide)), rf_uc (zz_giveo (by decide) (by decide) (by decide)), uA]
      have e38G : zz_s (mm_give a b (zz_s S 27 (a + 8 * b) (nI z))) 27 (a + 8 * b) (nI 0) 38 = mm_give a b (zz_s S 27 (a + 8 * b) (nI z)) 38 := zz_sn (by decide)
      have q := rf_m38q (S := zz_s S 27 (a + 8 * b) (nI z)) (rf_m38t rf_givem (rf_m38e e38G)) (rf_u142m (m := m)) (by rw [e38A]; exact h)
      have kA4 := kA.1
      obtain ⟨n1, h1, g1⟩ := rf_giveg (S := zz_s S 27 (a + 8 * b) (nI z)) ha hb h5A kA4 (rf_nx e20 hm20) (by rw [← e38G]; exact q.1)
      have g14 : zz_s (mm_give a b (zz_s S 27 (a + 8 * b) (nI z))) 27 (a + 8 * b) (nI 0) 14 = S 14 := by
        rw [zz_sn (by decide), zz_giveo (by decide) (by decide) (by decide), c14]
      obtain ⟨n2, h2, g2⟩ := rf_u142g (m := m) (cf := cf) ha hb (zz_5s (by decide) (zz_5give h5A)) kG (by rw [g14]; exact hcf) q.2
      rw [rG, uG] at g2
      rw [uA, rA] at g1
      have g3 := rf_rgl (S := mm_give a b (zz_s S 27 (a + 8 * b) (nI z))) (zz_5give h5A) (fun f hf => zz_sn (by omega)) g2 (by omega)
      exact ⟨n1 + n2, by omega, rf_rgl h5 lA (rf_rgc g1 g3 (by omega)) (by omega)⟩
    · rw [if_neg d] at h ⊢
      rw [ab_in (fun y => d (hP'.2 y))]
      show ∃ n, n ≤ 24 ∧ rf_rg S _ n (fun w => (ab_hs (rf_u S) a b (ab_w (rf_a S) 9 a b z)).2 w ∨ (ab_u1 (rf_u S) cf a b (ab_hs (rf_u S) a b (ab_w (rf_a S) 9 a b z)).1).2 w)
      have q := rf_m38q (S := zz_s S 27 (a + 8 * b) (nI z)) (rf_hwm (a := a) (b := b)) (rf_u142m (m := m)) (by rw [e38A]; exact h)
      obtain ⟨n1, h1, g1⟩ := rf_hwg (S := zz_s S 27 (a + 8 * b) (nI z)) ha hb h5A kA.1 h18 (rf_nx e20 hm20) q.1
      have g14 : mm_hw a b (zz_s S 27 (a + 8 * b) (nI z)) 14 = S 14 := by
        rw [zz_hwo (by decide) (by decide) (by decide), c14]
      obtain ⟨n2, h2, g2⟩ := rf_u142g (m := m) (cf := cf) ha hb (zz_5hw h5A) (rf_khw kA) (by rw [g14]; exact hcf) q.2
      rw [rf_hw ha hb h18, rA, rf_uc rf_hw6, uA] at g2
      rw [uA, rA] at g1
      exact ⟨n1 + n2, by omega, rf_rgl h5 lA (rf_rgc g1 g2 (by omega)) (by omega)⟩
theorem rf_urgeg {a b c : Nat} {S : zz_T} {cf : Nat → Nat → Nat} (ha : a < 8) (hb : b < 8) (hab : a ≠ b) (h5 : zz_5 S) (hk : rf_k S) (h27 : S 28 (a + 8 * b) = nI 1 → ∃ n, n < 2 ∧ S 27 (a + 8 * b) = nI n) (hcf : S 14 (a + 8 * b) = nI c ∧ c < 2 ^ 30 ∧ cf a b = c) (h : mm_urge a b S 38 = S 38) :
    ∃ n, n ≤ 24 ∧ rf_rg S (mm_urge a b S) n (ab_u (rf_u S) (rf_l S) cf a b (rf_a S)).2 := by
  obtain ⟨⟨t, ht, e4⟩, _, _, _, _, _, _, _, k9⟩ := id hk
  obtain ⟨h28, ⟨n, hn, e26⟩, z, hz, e27⟩ := k9 (a + 8 * b) (by omega)
  have h7 : S 28 (a + 8 * b) = 0 ↔ rf_a S 7 a b = 0 := by
    rw [rf_7r ha hb]
    rcases h28 with e | e
    · rw [e, rf_cn (by omega)]
      exact ⟨fun _ => rfl, fun _ => rfl⟩
    · rw [e, rf_cn (by omega)]
      exact ⟨fun y => absurd y (by decide), fun y => by omega⟩
  have hc : (¬ S 6 a = 0 ∧ (S 28 (a + 8 * b) = 0 ∨ 26 ≤ S 4 0 - S 26 (a + 8 * b))) ↔ (¬ S 6 a = 0 ∧ (rf_a S 7 a b = 0 ∨ rf_a S 8 a b + 26 ≤ rf_a S 0 0 0)) := by
    rw [h7, rf_8r ha hb, rf_0r, e4, e26, rf_cn (by omega), rf_cn (by omega), rf_26c ht hn]
  have none0 : ∃ n, n ≤ 24 ∧ rf_rg S S n (ab_nil (rf_a S)).2 := ⟨0, by omega, rf_rg0 h5 rfl rfl (fun f _ => rfl)⟩
  unfold mm_urge at h ⊢
  unfold ab_u
  by_cases cc : (∃ k, mm_snd a b S = some k) ∨ ¬ S 15 (a + 8 * b) ≤ S 14 (a + 8 * b)
  · rw [if_pos cc] at h ⊢
    unfold mm_u46 at h ⊢
    by_cases d : ¬ S 6 a = 0 ∧ (S 28 (a + 8 * b) = 0 ∨ 26 ≤ S 4 0 - S 26 (a + 8 * b))
    · rw [if_pos d] at h ⊢
      rw [ab_ip ⟨⟨ha, hb, hab, cc, d.1⟩, (hc.1 d).2⟩]
      unfold mm_u82 at h ⊢
      by_cases e : S 28 (a + 8 * b) = 0
      · rw [if_pos e] at h ⊢
        rw [ab_ip (h7.1 e)]
        exact rf_u108g (z := 0) ha hb (by omega) h5 hk hcf h
      · rw [if_neg e] at h ⊢
        rw [ab_in (fun y => e (h7.2 y))]
        obtain ⟨k, hk2, ek⟩ := h27 (by
          rcases h28 with y | y
          · exact absurd y e
          · exact y)
        rw [ek, nI_1] at h ⊢
        rw [rf_9r ha hb, ek, rf_cn (by omega)]
        exact rf_u108g (z := k + 1) ha hb (by omega) h5 hk hcf h
    · rw [if_neg d, ab_in (fun y => d (hc.2 ⟨y.1.2.2.2.2, y.2⟩))]
      exact none0
  · rw [if_neg cc, ab_in (fun y => cc y.1.2.2.2.1)]
    exact none0
