/-! ## the seen table does its work: questions over a whole settling -/
/-- counting -/
noncomputable def aq_cnt (P : Nat → Prop) : Nat → Nat
  | 0 => 0
  | n + 1 => aq_cnt P n + ab_if (P n) 1 0
def aq_sum (f : Nat → Nat) : Nat → Nat
  | 0 => 0
  | n + 1 => aq_sum f n + f n
theorem aq_summ {f : Nat → Nat} {a : Nat} : ∀ b, a ≤ b → aq_sum f a ≤ aq_sum f b := by
  intro b
  induction b with
  | zero => intro h; rw [show a = 0 by omega]; exact Nat.le_refl _
  | succ b ih =>
    intro h
    by_cases e : a = b + 1
    · rw [e]; exact Nat.le_refl _
    · have := ih (by omega)
      show _ ≤ aq_sum f b + f b
      omega
theorem aq_cm {P Q : Nat → Prop} : ∀ n, (∀ k, k < n → P k → Q k) → aq_cnt P n ≤ aq_cnt Q n := by
  intro n
  induction n with
  | zero => exact fun _ => Nat.le_refl _
  | succ n ih =>
    intro h
    have := ih (fun k hk => h k (by omega))
    show aq_cnt P n + ab_if (P n) 1 0 ≤ aq_cnt Q n + ab_if (Q n) 1 0
    by_cases c : P n
    · rw [ab_ip c, ab_ip (h n (by omega) c)]
      omega
    · rw [ab_in c]
      omega
theorem aq_c1 {P : Nat → Prop} {j : Nat} : ∀ n, aq_cnt P n ≤ aq_cnt (fun k => P k ∧ k ≠ j) n + 1 ∧ (n ≤ j → aq_cnt P n ≤ aq_cnt (fun k => P k ∧ k ≠ j) n) := by
  intro n
  induction n with
  | zero => exact ⟨Nat.zero_le _, fun _ => Nat.le_refl _⟩
  | succ n ih =>
    have one : ab_if (P n) 1 0 ≤ 1 := by
      by_cases c : P n
      · rw [ab_ip c]; exact Nat.le_refl _
      · rw [ab_in c]; exact Nat.zero_le _
    show aq_cnt P n + ab_if (P n) 1 0 ≤ aq_cnt (fun k => P k ∧ k ≠ j) n + ab_if (P n ∧ n ≠ j) 1 0 + 1 ∧ (n + 1 ≤ j → aq_cnt P n + ab_if (P n) 1 0 ≤ aq_cnt (fun k => P k ∧ k ≠ j) n + ab_if (P n ∧ n ≠ j) 1 0)
    by_cases e : n = j
    · have := ih.2 (by omega)
      exact ⟨by omega, fun z => by omega⟩
    · have q : ab_if (P n) 1 0 ≤ ab_if (P n ∧ n ≠ j) 1 0 := by
        by_cases c : P n
        · rw [ab_ip c, ab_ip ⟨c, e⟩]; exact Nat.le_refl _
        · rw [ab_in c]; exact Nat.zero_le _
      exact ⟨by have := ih.1; omega, fun z => by have := ih.2 (by omega); omega⟩
theorem aq_c0 {P : Nat → Prop} : ∀ n, (∀ k, k < n → ¬ P k) → aq_cnt P n = 0 := by
  intro n
  induction n with
  | zero => exact fun _ => rfl
  | succ n ih =>
    intro h
    show aq_cnt P n + ab_if (P n) 1 0 = 0
    rw [ih (fun k hk => h k (by omega)), ab_in (h n (by omega))]
theorem aq_pig {n : Nat} {c : Nat → Nat} : ∀ K (P : Nat → Prop), (∀ m, m < n → P m → c m < K) → (∀ m m', m < n → m' < n → P m → P m' → c m = c m' → m = m') → aq_cnt P n ≤ K := by
  intro K
  induction K with
  | zero =>
    intro P h _
    rw [aq_c0 n (fun k hk z => by have := h k hk z; omega)]
    exact Nat.le_refl _
  | succ K ih =>
    intro P h hi
    by_cases e : ∃ m, m < n ∧ P m ∧ c m = K
    · obtain ⟨m, m1, m2, m3⟩ := e
      have h1 := (aq_c1 (P := P) (j := m) n).1
      have h2 := ih (fun k => P k ∧ k ≠ m) (fun k hk z => by
        have := h k hk z.1
        by_cases q : c k = K
        · exact absurd (hi k m hk m1 z.1 m2 (by omega)) z.2
        · omega) (fun k k' a b x y => hi k k' a b x.1 y.1)
      omega
    · have h2 := ih P (fun k hk z => by
        have := h k hk z
        by_cases q : c k = K
        · exact absurd ⟨k, hk, z, q⟩ e
        · omega) hi
      omega
/-- what a step does to the seen table of station v -/
def aq_W (k a b : Nat) (x : ab_F) (lv : Nat → Nat → Prop) (D E : ab_D) (v f q : Nat) : Prop :=
  (k = 1 ∧ x 3 = 0 ∧ a = v ∧ x 4 = f ∧ x 8 = q ∧ ¬ ab_sn v f q D) ∨ (lv a b ∧ ab_asks k a b D E ∧ a = v ∧ f = v ∧ q = E 5 v 0)
def aq_E (D E : ab_D) (v f q : Nat) : Prop := E 13 v (D 15 v 0) = f ∧ E 14 v (D 15 v 0) = q ∧ E 15 v 0 = (D 15 v 0 + 1) % 64 ∧ ∀ i, i ≠ D 15 v 0 → E 13 v i = D 13 v i ∧ E 14 v i = D 14 v i
def aq_S (D E : ab_D) (v : Nat) : Prop := (∀ i, E 13 v i = D 13 v i ∧ E 14 v i = D 14 v i) ∧ E 15 v 0 = D 15 v 0
theorem aq_see {v f q : Nat} {D : ab_D} : aq_E D (ab_se v f q D) v f q := by
  unfold ab_se
  refine ⟨?_, ?_, ab_we, fun i hi => ⟨?_, ?_⟩⟩
  · rw [ab_wf (by decide), ab_wf (by decide), ab_we]
  · rw [ab_wf (by decide), ab_we]
  · rw [ab_wf (by decide), ab_wf (by decide), ab_wj hi]
  · rw [ab_wf (by decide), ab_wj hi, ab_wf (by decide)]
theorem aq_Es {D E F : ab_D} {v f q : Nat} (h : aq_E D E v f q) (g : ∀ i, F 13 v i = E 13 v i ∧ F 14 v i = E 14 v i ∧ F 15 v i = E 15 v i) : aq_E D F v f q := by
  refine ⟨by rw [(g _).1]; exact h.1, by rw [(g _).2.1]; exact h.2.1, by rw [(g _).2.2]; exact h.2.2.1, fun i hi => ?_⟩
  rw [(g i).1, (g i).2.1]
  exact h.2.2.2 i hi
theorem aq_step {u lv : Nat → Nat → Prop} {cf ac : Nat → Nat → Nat} {k a b v : Nat} {x : ab_F} {D : ab_D} :
    (aq_S D (ab_do u lv cf ac k a b x D).1 v ∧ ∀ f q, ¬ aq_W k a b x lv D (ab_do u lv cf ac k a b x D).1 v f q) ∨ (∃ f q, aq_W k a b x lv D (ab_do u lv cf ac k a b x D).1 v f q ∧ aq_E D (ab_do u lv cf ac k a b x D).1 v f q) := by
  by_cases h0 : k = 0
  · subst h0
    rw [ab_do0]
    have o : ∀ f i j, f ≠ 0 → (ab_nil (ab_w D 0 0 0 (D 0 0 0 + 1))).1 f i j = D f i j := fun f i j hf => (show ab_w D 0 0 0 (D 0 0 0 + 1) f i j = D f i j from ab_wf hf)
    refine Or.inl ⟨⟨fun i => ⟨o 13 _ _ (by decide), o 14 _ _ (by decide)⟩, o 15 _ _ (by decide)⟩, fun f q z => ?_⟩
    rcases z with z | z
    · exact absurd z.1 (by decide)
    · exact absurd z.2.1.1 (by decide)
  · by_cases h1 : k = 1
    · subst h1
      rw [ab_do1]
      have na : ∀ E f q, ¬ (aq_W 1 a b x lv D E v f q ∧ ¬ (x 3 = 0 ∧ a = v ∧ ¬ ab_sn v (x 4) (x 8) D)) := by
        intro E f q ⟨z, y⟩
        rcases z with ⟨_, z1, z2, z3, z4, z5⟩ | z
        · refine y ⟨z1, z2, ?_⟩
          rw [z3, z4]
          exact z5
        · exact absurd z.2.1.1 (by decide)
      have same : (∀ f i j, f = 13 ∨ f = 14 ∨ f = 15 → (ab_h u ac a b x D).1 f i j = D f i j) → ¬ (x 3 = 0 ∧ a = v ∧ ¬ ab_sn v (x 4) (x 8) D) → aq_S D (ab_h u ac a b x D).1 v ∧ ∀ f q, ¬ aq_W 1 a b x lv D (ab_h u ac a b x D).1 v f q :=
        fun h y => ⟨⟨fun i => ⟨h 13 _ _ (by omega), h 14 _ _ (by omega)⟩, h 15 _ _ (by omega)⟩, fun f q z => na _ f q ⟨z, y⟩⟩
      unfold ab_h at same ⊢
      by_cases e0 : x 3 = 0
      · rw [ab_ip e0] at same ⊢
        unfold ab_hA at same ⊢
        by_cases hs : ab_sn a (x 4) (x 8) D
        · rw [ab_ip hs] at same ⊢
          exact Or.inl (same (fun _ _ _ _ => rfl) (fun z => z.2.2 (by rw [← z.2.1]; exact hs)))
        · rw [ab_in hs] at same ⊢
          have A1 : ∀ f i j, f = 13 ∨ f = 14 ∨ f = 15 → ab_hA1 a b x D f i j = ab_se a (x 4) (x 8) D f i j := fun f i j hf => ab_lno (Or.inl (by omega))
          have fin : ∀ Y : ab_S, (∀ f i j, f = 13 ∨ f = 14 ∨ f = 15 → Y.1 f i j = ab_hA1 a b x D f i j) → (aq_S D Y.1 v ∧ ∀ f q, ¬ aq_W 1 a b x lv D Y.1 v f q) ∨ ∃ f q, aq_W 1 a b x lv D Y.1 v f q ∧ aq_E D Y.1 v f q := by
            intro Y hY
            by_cases ev : a = v
            · subst ev
              refine Or.inr ⟨x 4, x 8, Or.inl ⟨rfl, e0, rfl, rfl, rfl, hs⟩, aq_Es aq_see (fun i => ⟨?_, ?_, ?_⟩)⟩
              · rw [hY 13 _ _ (by omega), A1 13 _ _ (by omega)]
              · rw [hY 14 _ _ (by omega), A1 14 _ _ (by omega)]
              · rw [hY 15 _ _ (by omega), A1 15 _ _ (by omega)]
            · have o : ∀ f i, f = 13 ∨ f = 14 ∨ f = 15 → Y.1 f v i = D f v i := fun f i hf => by
                rw [hY f v i hf, A1 f v i hf]
                exact ab_seo (Or.inr (fun z => ev z.symm))
              exact Or.inl ⟨⟨fun i => ⟨o 13 i (by omega), o 14 i (by omega)⟩, o 15 0 (by omega)⟩, fun f q z => na _ f q ⟨z, fun y => ev y.2.1⟩⟩
          by_cases g : x 5 = a
          · rw [ab_ip g]
            exact fin _ (fun f i j hf => by rw [ab_psf (by omega), ab_wf (by omega)])
          · rw [ab_in g]
            exact fin _ (fun f i j hf => rfl)
      · rw [ab_in e0] at same ⊢
        refine Or.inl (same (fun f i j hf => ?_) (fun z => e0 z.1))
        by_cases e1 : x 3 = 1
        · rw [ab_ip e1]
          unfold ab_hT
          by_cases g : x 5 = a
          · rw [ab_ip g]
            exact ab_lno (Or.inl (by omega))
          · rw [ab_in g, ab_psf (by omega)]
            exact ab_lno (Or.inl (by omega))
        · rw [ab_in e1]
          by_cases e2 : x 3 = 2
          · rw [ab_ip e2]
            unfold ab_hL
            by_cases g : a ≠ x 5 ∧ D 1 a (x 5) = b ∧ D 3 a (x 5) ≤ x 6
            · rw [ab_ip g]
              show ab_w D 1 a (x 5) 8 f i j = _
              exact ab_wf (by omega)
            · rw [ab_in g]
              rfl
          · rw [ab_in e2]
            by_cases e3 : x 3 = 3
            · rw [ab_ip e3]
              unfold ab_hP
              by_cases g : x 5 = a
              · rw [ab_ip g, ab_psf (by omega)]
              · rw [ab_in g, ab_cyf (by omega)]
            · rw [ab_in e3]
              unfold ab_hW
              by_cases g : x 5 = a
              · rw [ab_ip g]
                rfl
              · rw [ab_in g, ab_cyf (by omega)]
    · by_cases h2 : k = 2
      · subst h2
        rw [ab_do2]
        have na : (ab_u u lv cf a b D).1 5 a 0 = D 5 a 0 → ∀ f q, ¬ aq_W 2 a b x lv D (ab_u u lv cf a b D).1 v f q := by
          intro e f q z
          rcases z with z | z
          · exact absurd z.1 (by decide)
          · have := z.2.1.2.2.2.2.2.1
            omega
        rcases ab_uc (u := u) (lv := lv) (cf := cf) (a := a) (b := b) (D := D) with ⟨z, _⟩ | ⟨hl, _, ⟨z, _, _, _, y⟩ | ⟨_, y⟩⟩
        · rw [z] at na ⊢
          exact Or.inl ⟨⟨fun i => ⟨rfl, rfl⟩, rfl⟩, na rfl⟩
        · rw [y.2] at na ⊢
          have o : ∀ f i j, f ≠ 7 → f ≠ 8 → f ≠ 9 → (ab_sd a (D 1 a b) (ab_fr 3 a b (cf a b) 0 8) (ab_w (ab_w (ab_w D 9 a b z) 7 a b 1) 8 a b (D 0 0 0))).1 f i j = D f i j := fun f i j f7 f8 f9 => by
            show ab_w (ab_w (ab_w D 9 a b z) 7 a b 1) 8 a b (D 0 0 0) f i j = _
            rw [ab_wf f8, ab_wf f7, ab_wf f9]
          exact Or.inl ⟨⟨fun i => ⟨o 13 _ _ (by decide) (by decide) (by decide), o 14 _ _ (by decide) (by decide) (by decide)⟩, o 15 _ _ (by decide) (by decide) (by decide)⟩, na (o 5 _ _ (by decide) (by decide) (by decide))⟩
        · obtain ⟨c1, c7, y | y⟩ := ab_nwc y
          · exact Or.inl ⟨⟨fun i => ⟨(y.2.2.2.2.1 v 0 i).1, (y.2.2.2.2.1 v 0 i).2.1⟩, (y.2.2.2.2.1 v 0 0).2.2⟩, na (y.2.2.1 a)⟩
          · obtain ⟨E, hE, hE2⟩ := y.2.2.2.2.2.2.1
            have e5 := y.2.2.1 a
            rw [if_pos rfl] at e5
            have e4 := y.2.1 a
            rw [if_pos rfl] at e4
            by_cases ev : a = v
            · subst ev
              refine Or.inr ⟨a, D 5 a 0 + 1, Or.inr ⟨hl, ⟨rfl, c1, c7, y.1, y.2.2.2.1, e5, e4⟩, rfl, rfl, e5.symm⟩, ?_⟩
              have q := aq_Es (F := (ab_u u lv cf a b D).1) (aq_see (v := a) (f := a) (q := D 5 a 0 + 1) (D := E)) (fun i => hE2 a i)
              have p0 := (hE a 0).2.2
              unfold aq_E at q ⊢
              rw [p0] at q
              refine ⟨q.1, q.2.1, q.2.2.1, fun i hi => ?_⟩
              rw [← (hE a i).1, ← (hE a i).2.1]
              exact q.2.2.2 i hi
            · have o : ∀ f i, f = 13 ∨ f = 14 ∨ f = 15 → (ab_u u lv cf a b D).1 f v i = D f v i := fun f i hf => by
                have hs : ab_se a a (D 5 a 0 + 1) E f v i = E f v i := ab_seo (Or.inr (fun z => ev z.symm))
                rcases hf with rfl | rfl | rfl
                · rw [(hE2 v i).1, hs, (hE v i).1]
                · rw [(hE2 v i).2.1, hs, (hE v i).2.1]
                · rw [(hE2 v i).2.2, hs, (hE v i).2.2]
              refine Or.inl ⟨⟨fun i => ⟨o 13 i (by omega), o 14 i (by omega)⟩, o 15 0 (by omega)⟩, fun f q z => ?_⟩
              rcases z with z | z
              · exact absurd z.1 (by decide)
              · exact ev z.2.2.1
      · rw [ab_do3 (by omega)]
        refine Or.inl ⟨⟨fun i => ⟨rfl, rfl⟩, rfl⟩, fun f q z => ?_⟩
        rcases z with z | z
        · exact h1 z.1
        · exact h2 z.2.1.1
