/-! ## the abstract machine of a stretch without progress -/
abbrev ab_D : Type := Nat → Nat → Nat → Nat
abbrev ab_F : Type := Nat → Nat
abbrev ab_S : Type := ab_D × (ab_F → Prop)
/-- fields: 0 now (at 0 0), 1 next (8: none), 2 links, 3 number, 4 own number (c 0), 5 questions (c 0), 6 when a question may be put again, 7 open, 8 time of sending, 9 tries, 13 seen from, 14 seen question, 15 seen next (s 0) -/
def ab_w (A : ab_D) (f i j v : Nat) : ab_D := fun g a b => if g = f ∧ a = i ∧ b = j then v else A g a b
theorem ab_we {A : ab_D} {f i j v : Nat} : ab_w A f i j v f i j = v := if_pos ⟨rfl, rfl, rfl⟩
theorem ab_wf {A : ab_D} {f i j v g a b : Nat} (h : g ≠ f) : ab_w A f i j v g a b = A g a b := if_neg (fun z => h z.1)
theorem ab_wi {A : ab_D} {f i j v g a b : Nat} (h : a ≠ i) : ab_w A f i j v g a b = A g a b := if_neg (fun z => h z.2.1)
theorem ab_wj {A : ab_D} {f i j v g a b : Nat} (h : b ≠ j) : ab_w A f i j v g a b = A g a b := if_neg (fun z => h z.2.2)
/-- a frame: 0 when, 1 sender, 2 receiver, 3 kind, 4 from, 5 goal, 6 number or message, 7 links or piece, 8 question or life -/
def ab_fr (k f g n l q : Nat) : ab_F := fun j => if j = 3 then k else if j = 4 then f else if j = 5 then g else if j = 6 then n else if j = 7 then l else q
def ab_pt (t p r : Nat) (w : ab_F) : ab_F := fun j => if j = 0 then t else if j = 1 then p else if j = 2 then r else w j
def ab_nil (D : ab_D) : ab_S := (D, fun _ => False)
def ab_th (x : ab_S) (f : ab_D → ab_S) : ab_S := ((f x.1).1, fun w => x.2 w ∨ (f x.1).2 w)
noncomputable def ab_if (c : Prop) {α : Type} (a b : α) : α := @ite α c (Classical.propDecidable c) a b
theorem ab_ip {c : Prop} {α : Type} {a b : α} (h : c) : ab_if c a b = a := if_pos h
theorem ab_in {c : Prop} {α : Type} {a b : α} (h : ¬ c) : ab_if c a b = b := if_neg h
def ab_tl (u : Nat → Nat → Prop) (s : Nat) (w : ab_F) (D : ab_D) : ab_S := (D, fun x => ∃ k, k < 8 ∧ u s k ∧ x = ab_pt (D 0 0 0) s k w)
def ab_sd (s r : Nat) (w : ab_F) (D : ab_D) : ab_S := (D, fun x => x = ab_pt (D 0 0 0) s r w)
def ab_gv (u : Nat → Nat → Prop) (s c : Nat) (D : ab_D) : ab_S := ab_tl u s (ab_fr 2 s c (D 3 s c) 0 0) (ab_w D 1 s c 8)
noncomputable def ab_ps (u : Nat → Nat → Prop) (s : Nat) (w : ab_F) (D : ab_D) : ab_S :=
  ab_if (D 1 s (w 5) = 8) (ab_nil D) (ab_if (u s (D 1 s (w 5))) (ab_sd s (D 1 s (w 5)) w D) (ab_gv u s (w 5) D))
def ab_c8 (l : Nat) : Nat := if l % 256 < 128 then l % 256 else 0
def ab_lp (s c l n : Nat) (D : ab_D) : Prop := s ≠ c ∧ (D 3 s c < n ∨ (n = D 3 s c ∧ (D 1 s c = 8 ∨ l < D 2 s c)))
noncomputable def ab_ln (s c p l n : Nat) (D : ab_D) : ab_D :=
  ab_if (ab_lp s c l n D) (ab_w (ab_w (ab_w D 1 s c p) 2 s c (ab_c8 l)) 3 s c n) D
def ab_sn (s f q : Nat) (D : ab_D) : Prop := ∃ i, i < 64 ∧ D 13 s i = f ∧ D 14 s i = q
def ab_se (s f q : Nat) (D : ab_D) : ab_D := ab_w (ab_w (ab_w D 13 s (D 15 s 0) f) 14 s (D 15 s 0) q) 15 s 0 ((D 15 s 0 + 1) % 64)
noncomputable def ab_hA1 (s p : Nat) (x : ab_F) (D : ab_D) : ab_D := ab_ln s (x 4) p (x 7 + 1) (x 6) (ab_se s (x 4) (x 8) D)
noncomputable def ab_hA (u : Nat → Nat → Prop) (s p : Nat) (x : ab_F) (D : ab_D) : ab_S :=
  ab_if (ab_sn s (x 4) (x 8) D) (ab_nil D)
    (ab_if (x 5 = s) (ab_ps u s (ab_fr 1 s (x 4) (ab_hA1 s p x D 4 s 0 + 1) 0 0) (ab_w (ab_hA1 s p x D) 4 s 0 (ab_hA1 s p x D 4 s 0 + 1)))
      (ab_tl u s (ab_fr 0 (x 4) (x 5) (x 6) (x 7 + 1) (x 8)) (ab_hA1 s p x D)))
noncomputable def ab_hT (u : Nat → Nat → Prop) (s p : Nat) (x : ab_F) (D : ab_D) : ab_S :=
  ab_if (x 5 = s) (ab_nil (ab_ln s (x 4) p (x 7 + 1) (x 6) D)) (ab_ps u s (ab_fr 1 (x 4) (x 5) (x 6) (x 7 + 1) 0) (ab_ln s (x 4) p (x 7 + 1) (x 6) D))
noncomputable def ab_hL (u : Nat → Nat → Prop) (s p : Nat) (x : ab_F) (D : ab_D) : ab_S :=
  ab_if (s ≠ x 5 ∧ D 1 s (x 5) = p ∧ D 3 s (x 5) ≤ x 6) (ab_gv u s (x 5) D) (ab_nil D)
noncomputable def ab_cy (u : Nat → Nat → Prop) (s : Nat) (x : ab_F) (D : ab_D) : ab_S :=
  ab_if (x 8 ≤ 1) (ab_nil D) (ab_ps u s (ab_fr (x 3) (x 4) (x 5) (x 6) (x 7) (x 8 - 1)) D)
noncomputable def ab_hP (u : Nat → Nat → Prop) (ac : Nat → Nat → Nat) (s : Nat) (x : ab_F) (D : ab_D) : ab_S :=
  ab_if (x 5 = s) (ab_ps u s (ab_fr 4 s (x 4) (ac (x 4) s) 0 8) D) (ab_cy u s x D)
noncomputable def ab_hW (u : Nat → Nat → Prop) (s : Nat) (x : ab_F) (D : ab_D) : ab_S :=
  ab_if (x 5 = s) (ab_nil D) (ab_cy u s x D)
noncomputable def ab_h (u : Nat → Nat → Prop) (ac : Nat → Nat → Nat) (s p : Nat) (x : ab_F) (D : ab_D) : ab_S :=
  ab_if (x 3 = 0) (ab_hA u s p x D) (ab_if (x 3 = 1) (ab_hT u s p x D) (ab_if (x 3 = 2) (ab_hL u s p x D) (ab_if (x 3 = 3) (ab_hP u ac s x D) (ab_hW u s x D))))
def ab_k1 (a b : Nat) (D : ab_D) : ab_D := ab_se a a (D 5 a 0 + 1) (ab_w (ab_w (ab_w D 6 a b (D 0 0 0 + 24)) 4 a 0 (D 4 a 0 + 1)) 5 a 0 (D 5 a 0 + 1))
noncomputable def ab_k (u : Nat → Nat → Prop) (a b : Nat) (D : ab_D) : ab_S :=
  ab_if (D 0 0 0 < D 6 a b) (ab_nil D) (ab_tl u a (ab_fr 0 a b (D 4 a 0 + 1) 0 (D 5 a 0 + 1)) (ab_k1 a b D))
def ab_hw (u : Nat → Nat → Prop) (a b : Nat) (D : ab_D) : Prop := ¬ D 1 a b = 8 ∧ u a (D 1 a b)
noncomputable def ab_hs (u : Nat → Nat → Prop) (a b : Nat) (D : ab_D) : ab_S := ab_if (¬ D 1 a b = 8 ∧ ¬ u a (D 1 a b)) (ab_gv u a b D) (ab_nil D)
noncomputable def ab_u1 (u : Nat → Nat → Prop) (cf : Nat → Nat → Nat) (a b : Nat) (D : ab_D) : ab_S :=
  ab_if (ab_hw u a b D) (ab_sd a (D 1 a b) (ab_fr 3 a b (cf a b) 0 8) (ab_w (ab_w D 7 a b 1) 8 a b (D 0 0 0)))
    (ab_th (ab_hs u a b D) (fun E => ab_k u a b (ab_w E 7 a b 0)))
noncomputable def ab_u2 (u : Nat → Nat → Prop) (cf : Nat → Nat → Nat) (a b z : Nat) (D : ab_D) : ab_S :=
  ab_if (z < 2) (ab_u1 u cf a b (ab_w D 9 a b z))
    (ab_if (ab_hw u a b D) (ab_th (ab_gv u a b (ab_w D 9 a b z)) (fun E => ab_u1 u cf a b (ab_w E 9 a b 0)))
      (ab_th (ab_hs u a b (ab_w D 9 a b z)) (ab_u1 u cf a b)))
noncomputable def ab_u (u : Nat → Nat → Prop) (lv : Nat → Nat → Prop) (cf : Nat → Nat → Nat) (a b : Nat) (D : ab_D) : ab_S :=
  ab_if (lv a b ∧ (D 7 a b = 0 ∨ D 8 a b + 26 ≤ D 0 0 0)) (ab_u2 u cf a b (ab_if (D 7 a b = 0) 0 (D 9 a b + 1)) D) (ab_nil D)
/-- one step: 0 a tick, 1 hearing, 2 urging, else nothing -/
noncomputable def ab_do (u : Nat → Nat → Prop) (lv : Nat → Nat → Prop) (cf ac : Nat → Nat → Nat) (k a b : Nat) (x : ab_F) (D : ab_D) : ab_S :=
  ab_if (k = 0) (ab_nil (ab_w D 0 0 0 (D 0 0 0 + 1))) (ab_if (k = 1) (ab_h u ac a b x D) (ab_if (k = 2) (ab_u u lv cf a b D) (ab_nil D)))
/-! ## what the steps do: cases -/
theorem ab_psc {u : Nat → Nat → Prop} {s : Nat} {w : ab_F} {D : ab_D} :
    (D 1 s (w 5) = 8 ∧ ab_ps u s w D = ab_nil D) ∨ (D 1 s (w 5) ≠ 8 ∧ u s (D 1 s (w 5)) ∧ ab_ps u s w D = ab_sd s (D 1 s (w 5)) w D) ∨
      (D 1 s (w 5) ≠ 8 ∧ ¬ u s (D 1 s (w 5)) ∧ ab_ps u s w D = ab_gv u s (w 5) D) := by
  unfold ab_ps
  by_cases h : D 1 s (w 5) = 8
  · exact Or.inl ⟨h, ab_ip h⟩
  · rw [ab_in h]
    by_cases g : u s (D 1 s (w 5))
    · exact Or.inr (Or.inl ⟨h, g, ab_ip g⟩)
    · exact Or.inr (Or.inr ⟨h, g, ab_in g⟩)
theorem ab_lnc {s c p l n : Nat} {D : ab_D} :
    (ab_lp s c l n D ∧ ab_ln s c p l n D = ab_w (ab_w (ab_w D 1 s c p) 2 s c (ab_c8 l)) 3 s c n) ∨ (¬ ab_lp s c l n D ∧ ab_ln s c p l n D = D) := by
  unfold ab_ln
  by_cases h : ab_lp s c l n D
  · exact Or.inl ⟨h, ab_ip h⟩
  · exact Or.inr ⟨h, ab_in h⟩
/-- learning leaves the other fields, the other entries -/
theorem ab_lno {s c p l n g i j : Nat} {D : ab_D} (h : (g ≠ 1 ∧ g ≠ 2 ∧ g ≠ 3) ∨ i ≠ s ∨ j ≠ c) : ab_ln s c p l n D g i j = D g i j := by
  rcases ab_lnc (s := s) (c := c) (p := p) (l := l) (n := n) (D := D) with ⟨_, e⟩ | ⟨_, e⟩
  · rw [e]
    rcases h with ⟨h1, h2, h3⟩ | h | h
    · rw [ab_wf h3, ab_wf h2, ab_wf h1]
    · rw [ab_wi h, ab_wi h, ab_wi h]
    · rw [ab_wj h, ab_wj h, ab_wj h]
  · rw [e]
theorem ab_seo {s f q g i j : Nat} {D : ab_D} (h : (g ≠ 13 ∧ g ≠ 14 ∧ g ≠ 15) ∨ i ≠ s) : ab_se s f q D g i j = D g i j := by
  unfold ab_se
  rcases h with ⟨h1, h2, h3⟩ | h
  · rw [ab_wf h3, ab_wf h2, ab_wf h1]
  · rw [ab_wi h, ab_wi h, ab_wi h]
/-- what learning leaves -/
theorem ab_lnr {s c p l n : Nat} {D : ab_D} (hn : s ≠ c) : D 3 s c ≤ ab_ln s c p l n D 3 s c ∧ n ≤ ab_ln s c p l n D 3 s c ∧
    (ab_ln s c p l n D 3 s c = n → ab_ln s c p l n D 1 s c = 8 → p = 8) := by
  rcases ab_lnc (s := s) (c := c) (p := p) (l := l) (n := n) (D := D) with ⟨h, e⟩ | ⟨h, e⟩
  · rw [e]
    have e3 : ab_w (ab_w (ab_w D 1 s c p) 2 s c (ab_c8 l)) 3 s c n 3 s c = n := ab_we
    have e1 : ab_w (ab_w (ab_w D 1 s c p) 2 s c (ab_c8 l)) 3 s c n 1 s c = p := by
      rw [ab_wf (by decide), ab_wf (by decide), ab_we]
    rw [e3, e1]
    refine ⟨?_, Nat.le_refl _, fun _ z => z⟩
    rcases h.2 with z | z <;> omega
  · rw [e]
    unfold ab_lp at h
    by_cases z : D 3 s c < n
    · exact absurd ⟨hn, Or.inl z⟩ h
    · refine ⟨Nat.le_refl _, by omega, fun e8 z8 => ?_⟩
      exact absurd ⟨hn, Or.inr ⟨e8.symm, Or.inl z8⟩⟩ h
/-! ## the ways of one step -/
def ab_same (D E : ab_D) (v c : Nat) : Prop := E 1 v c = D 1 v c ∧ E 2 v c = D 2 v c ∧ E 3 v c = D 3 v c
def ab_lrn (p l n : Nat) (D E : ab_D) (v c : Nat) : Prop :=
  ab_lp v c l n D ∧ E 1 v c = p ∧ E 2 v c = ab_c8 l ∧ E 3 v c = n
def ab_lst (u : Nat → Nat → Prop) (D E : ab_D) (O : ab_F → Prop) (v c : Nat) : Prop :=
  D 1 v c ≠ 8 ∧ E 1 v c = 8 ∧ E 2 v c = D 2 v c ∧ E 3 v c = D 3 v c ∧ ∀ r, r < 8 → u v r → O (ab_pt (D 0 0 0) v r (ab_fr 2 v c (D 3 v c) 0 0))
theorem ab_sm {D : ab_D} {v c : Nat} : ab_same D D v c := ⟨rfl, rfl, rfl⟩
theorem ab_smt {D E F : ab_D} {v c : Nat} (h : ab_same D E v c) (g : ab_same E F v c) : ab_same D F v c := ⟨g.1.trans h.1, g.2.1.trans h.2.1, g.2.2.trans h.2.2⟩
theorem ab_smw {D : ab_D} {f i j w v c : Nat} (h : (f ≠ 1 ∧ f ≠ 2 ∧ f ≠ 3) ∨ v ≠ i ∨ c ≠ j) : ab_same D (ab_w D f i j w) v c := by
  rcases h with ⟨h1, h2, h3⟩ | h | h
  · exact ⟨ab_wf (fun z => h1 z.symm), ab_wf (fun z => h2 z.symm), ab_wf (fun z => h3 z.symm)⟩
  · exact ⟨ab_wi h, ab_wi h, ab_wi h⟩
  · exact ⟨ab_wj h, ab_wj h, ab_wj h⟩
theorem ab_lnw {s c p l n v g : Nat} {D : ab_D} : ab_same D (ab_ln s c p l n D) v g ∨ (v = s ∧ g = c ∧ ab_lrn p l n D (ab_ln s c p l n D) v g) := by
  by_cases h : v = s ∧ g = c
  · obtain ⟨rfl, rfl⟩ := h
    rcases ab_lnc (s := v) (c := g) (p := p) (l := l) (n := n) (D := D) with ⟨h, e⟩ | ⟨_, e⟩
    · refine Or.inr ⟨rfl, rfl, h, ?_, ?_, ?_⟩
      · rw [e, ab_wf (by decide), ab_wf (by decide), ab_we]
      · rw [e, ab_wf (by decide), ab_we]
      · rw [e, ab_we]
    · rw [e]
      exact Or.inl ab_sm
  · refine Or.inl ⟨ab_lno ?_, ab_lno ?_, ab_lno ?_⟩ <;> exact Or.inr (by omega)
theorem ab_smse {s f q v c : Nat} {D : ab_D} : ab_same D (ab_se s f q D) v c := ⟨ab_seo (Or.inl (by decide)), ab_seo (Or.inl (by decide)), ab_seo (Or.inl (by decide))⟩
theorem ab_gv1 {u : Nat → Nat → Prop} {s c : Nat} {D : ab_D} : (ab_gv u s c D).1 = ab_w D 1 s c 8 := rfl
theorem ab_gvw {u : Nat → Nat → Prop} {s c v g : Nat} {D : ab_D} : ab_same D (ab_gv u s c D).1 v g ∨ (v = s ∧ g = c ∧ (D 1 s c ≠ 8 → ab_lst u D (ab_gv u s c D).1 (ab_gv u s c D).2 v g)) := by
  by_cases h : v = s ∧ g = c
  · obtain ⟨rfl, rfl⟩ := h
    refine Or.inr ⟨rfl, rfl, fun h8 => ⟨h8, ab_we, ?_, ?_, fun r hr ur => ⟨r, hr, ur, ?_⟩⟩⟩
    · rw [ab_gv1, ab_wf (by decide)]
    · rw [ab_gv1, ab_wf (by decide)]
    · rw [ab_wf (f := 1) (g := 0) (by decide)]
  · exact Or.inl (ab_smw (Or.inr (by omega)))
theorem ab_psw {u : Nat → Nat → Prop} {s : Nat} {w : ab_F} {v g : Nat} {D : ab_D} : ab_same D (ab_ps u s w D).1 v g ∨
    (v = s ∧ g = w 5 ∧ ¬ u s (D 1 s g) ∧ ab_lst u D (ab_ps u s w D).1 (ab_ps u s w D).2 v g) := by
  rcases ab_psc (u := u) (s := s) (w := w) (D := D) with ⟨_, e⟩ | ⟨_, _, e⟩ | ⟨h, hu, e⟩
  · rw [e]; exact Or.inl ab_sm
  · rw [e]; exact Or.inl ab_sm
  · rw [e]
    rcases ab_gvw (u := u) (s := s) (c := w 5) (v := v) (g := g) (D := D) with z | ⟨rfl, rfl, z⟩
    · exact Or.inl z
    · exact Or.inr ⟨rfl, rfl, hu, z h⟩
theorem ab_now0 {u : Nat → Nat → Prop} {s c : Nat} {D : ab_D} : (ab_gv u s c D).1 0 0 0 = D 0 0 0 := by
  rw [ab_gv1, ab_wf (by decide)]
/-- how a way changes by hearing: as it was, learned, or lost -/
def ab_hwy (u : Nat → Nat → Prop) (s p : Nat) (x : ab_F) (D : ab_D) (Y : ab_S) (v c : Nat) : Prop :=
  ab_same D Y.1 v c ∨ (v = s ∧ c = x 4 ∧ (x 3 = 0 ∧ ¬ ab_sn s (x 4) (x 8) D ∨ x 3 = 1) ∧ ab_lrn p (x 7 + 1) (x 6) D Y.1 v c) ∨
    (v = s ∧ ab_lst u D Y.1 Y.2 v c ∧ (¬ u s (D 1 s c) ∨ (x 3 = 2 ∧ c = x 5 ∧ s ≠ c ∧ D 1 s c = p ∧ D 3 s c ≤ x 6)))
theorem ab_same2 {u : Nat → Nat → Prop} {D E : ab_D} {Y : ab_S} {v c : Nat} (h : ab_same D E v c) (e0 : E 0 0 0 = D 0 0 0) (g : ab_lst u E Y.1 Y.2 v c) : ab_lst u D Y.1 Y.2 v c := by
  refine ⟨?_, g.2.1, g.2.2.1.trans h.2.1, g.2.2.2.1.trans h.2.2, ?_⟩
  · rw [← h.1]; exact g.1
  · rw [← h.2.2, ← e0]; exact g.2.2.2.2
theorem ab_lrn2 {p l n : Nat} {D E F : ab_D} {v c : Nat} (h : ab_lrn p l n D E v c) (g : ab_same E F v c) : ab_lrn p l n D F v c :=
  ⟨h.1, g.1.trans h.2.1, g.2.1.trans h.2.2.1, g.2.2.trans h.2.2.2⟩
theorem ab_lrn1 {p l n : Nat} {D E F : ab_D} {v c : Nat} (h : ab_same D E v c) (g : ab_lrn p l n E F v c) : ab_lrn p l n D F v c := by
  refine ⟨?_, g.2⟩
  have := g.1
  unfold ab_lp at this ⊢
  rw [h.1, h.2.1, h.2.2] at this
  exact this
theorem ab_hAw {u : Nat → Nat → Prop} {s p : Nat} {x : ab_F} {D : ab_D} {v c : Nat} (hu : u s p) (h3 : x 3 = 0) : ab_hwy u s p x D (ab_hA u s p x D) v c := by
  unfold ab_hA
  by_cases hs : ab_sn s (x 4) (x 8) D
  · rw [ab_ip hs]
    exact Or.inl ab_sm
  · rw [ab_in hs]
    have h1 : ab_same D (ab_hA1 s p x D) v c ∨ (v = s ∧ c = x 4 ∧ ab_lrn p (x 7 + 1) (x 6) D (ab_hA1 s p x D) v c) := by
      unfold ab_hA1
      rcases ab_lnw (s := s) (c := x 4) (p := p) (l := x 7 + 1) (n := x 6) (v := v) (g := c) (D := ab_se s (x 4) (x 8) D) with z | ⟨a, b, z⟩
      · exact Or.inl (ab_smt ab_smse z)
      · exact Or.inr ⟨a, b, ab_lrn1 ab_smse z⟩
    have e0 : ab_hA1 s p x D 0 0 0 = D 0 0 0 := by
      unfold ab_hA1
      rw [ab_lno (Or.inl (by decide)), ab_seo (Or.inl (by decide))]
    by_cases hg : x 5 = s
    · rw [ab_ip hg]
      have h2 : ab_same (ab_hA1 s p x D) (ab_w (ab_hA1 s p x D) 4 s 0 (ab_hA1 s p x D 4 s 0 + 1)) v c := ab_smw (Or.inl (by decide))
      rcases ab_psw (u := u) (s := s) (w := ab_fr 1 s (x 4) (ab_hA1 s p x D 4 s 0 + 1) 0 0) (v := v) (g := c) (D := ab_w (ab_hA1 s p x D) 4 s 0 (ab_hA1 s p x D 4 s 0 + 1)) with z | ⟨rfl, gc, nu, z⟩
      · rcases h1 with y | ⟨a, b, y⟩
        · exact Or.inl (ab_smt (ab_smt y h2) z)
        · exact Or.inr (Or.inl ⟨a, b, Or.inl ⟨h3, hs⟩, ab_lrn2 (ab_lrn2 y h2) z⟩)
      · rcases h1 with y | ⟨a, b, y⟩
        · refine Or.inr (Or.inr ⟨rfl, ab_same2 (ab_smt y h2) ?_ z, Or.inl ?_⟩)
          · rw [ab_wf (by decide)]; exact e0
          · rw [← y.1, ← h2.1]; exact nu
        · exfalso
          apply nu
          rw [h2.1, y.2.1]
          exact hu
    · rw [ab_in hg]
      rcases h1 with y | ⟨a, b, y⟩
      · exact Or.inl y
      · exact Or.inr (Or.inl ⟨a, b, Or.inl ⟨h3, hs⟩, y⟩)
theorem ab_hTw {u : Nat → Nat → Prop} {s p : Nat} {x : ab_F} {D : ab_D} {v c : Nat} (hu : u s p) (h3 : x 3 = 1) : ab_hwy u s p x D (ab_hT u s p x D) v c := by
  unfold ab_hT
  have h1 := ab_lnw (s := s) (c := x 4) (p := p) (l := x 7 + 1) (n := x 6) (v := v) (g := c) (D := D)
  by_cases hg : x 5 = s
  · rw [ab_ip hg]
    rcases h1 with y | ⟨a, b, y⟩
    · exact Or.inl y
    · exact Or.inr (Or.inl ⟨a, b, Or.inr h3, y⟩)
  · rw [ab_in hg]
    rcases ab_psw (u := u) (s := s) (w := ab_fr 1 (x 4) (x 5) (x 6) (x 7 + 1) 0) (v := v) (g := c) (D := ab_ln s (x 4) p (x 7 + 1) (x 6) D) with z | ⟨rfl, gc, nu, z⟩
    · rcases h1 with y | ⟨a, b, y⟩
      · exact Or.inl (ab_smt y z)
      · exact Or.inr (Or.inl ⟨a, b, Or.inr h3, ab_lrn2 y z⟩)
    · rcases h1 with y | ⟨a, b, y⟩
      · refine Or.inr (Or.inr ⟨rfl, ab_same2 y (ab_lno (Or.inl (by decide))) z, Or.inl ?_⟩)
        rw [← y.1]; exact nu
      · exfalso
        apply nu
        rw [y.2.1]
        exact hu
theorem ab_hLw {u : Nat → Nat → Prop} {s p : Nat} {x : ab_F} {D : ab_D} {v c : Nat} (hp : p ≠ 8) (h3 : x 3 = 2) : ab_hwy u s p x D (ab_hL u s p x D) v c := by
  unfold ab_hL
  by_cases h : s ≠ x 5 ∧ D 1 s (x 5) = p ∧ D 3 s (x 5) ≤ x 6
  · rw [ab_ip h]
    rcases ab_gvw (u := u) (s := s) (c := x 5) (v := v) (g := c) (D := D) with z | ⟨rfl, rfl, z⟩
    · exact Or.inl z
    · exact Or.inr (Or.inr ⟨rfl, z (by rw [h.2.1]; exact hp), Or.inr ⟨h3, rfl, h.1, h.2.1, h.2.2⟩⟩)
  · rw [ab_in h]
    exact Or.inl ab_sm
theorem ab_psh {u : Nat → Nat → Prop} {s p : Nat} {x w : ab_F} {D : ab_D} {v c : Nat} : ab_hwy u s p x D (ab_ps u s w D) v c := by
  rcases ab_psw (u := u) (s := s) (w := w) (v := v) (g := c) (D := D) with z | ⟨rfl, gc, nu, z⟩
  · exact Or.inl z
  · exact Or.inr (Or.inr ⟨rfl, z, Or.inl nu⟩)
theorem ab_cyh {u : Nat → Nat → Prop} {s p : Nat} {x w : ab_F} {D : ab_D} {v c : Nat} : ab_hwy u s p x D (ab_cy u s w D) v c := by
  unfold ab_cy
  by_cases h : w 8 ≤ 1
  · rw [ab_ip h]; exact Or.inl ab_sm
  · rw [ab_in h]; exact ab_psh
theorem ab_hh {u : Nat → Nat → Prop} {ac : Nat → Nat → Nat} {s p : Nat} {x : ab_F} {D : ab_D} {v c : Nat} (hu : u s p) (hp : p ≠ 8) : ab_hwy u s p x D (ab_h u ac s p x D) v c := by
  unfold ab_h
  by_cases h0 : x 3 = 0
  · rw [ab_ip h0]; exact ab_hAw hu h0
  · rw [ab_in h0]
    by_cases h1 : x 3 = 1
    · rw [ab_ip h1]; exact ab_hTw hu h1
    · rw [ab_in h1]
      by_cases h2 : x 3 = 2
      · rw [ab_ip h2]; exact ab_hLw hp h2
      · rw [ab_in h2]
        by_cases h3 : x 3 = 3
        · rw [ab_ip h3]
          unfold ab_hP
          by_cases g : x 5 = s
          · rw [ab_ip g]; exact ab_psh
          · rw [ab_in g]; exact ab_cyh
        · rw [ab_in h3]
          unfold ab_hW
          by_cases g : x 5 = s
          · rw [ab_ip g]; exact Or.inl ab_sm
          · rw [ab_in g]; exact ab_cyh
/-! ## urging: ways -/
theorem ab_smo {E E' D : ab_D} {v c : Nat} (e : E = E') (h : ab_same D E' v c) : ab_same D E v c := e ▸ h
theorem ab_kw {u : Nat → Nat → Prop} {a b v c : Nat} {D : ab_D} : ab_same D (ab_k u a b D).1 v c := by
  unfold ab_k
  by_cases h : D 0 0 0 < D 6 a b
  · rw [ab_ip h]; exact ab_sm
  · rw [ab_in h]
    show ab_same D (ab_k1 a b D) v c
    unfold ab_k1
    exact ab_smt (ab_smt (ab_smt (ab_smw (Or.inl (by decide))) (ab_smw (Or.inl (by decide)))) (ab_smw (Or.inl (by decide)))) ab_smse
def ab_V (a b : Nat) (D : ab_D) : Prop := D 7 a b ≠ 0 ∧ 1 ≤ D 9 a b ∧ D 8 a b + 26 ≤ D 0 0 0
def ab_uwy (u : Nat → Nat → Prop) (a b : Nat) (P : Prop) (D : ab_D) (Y : ab_S) (v c : Nat) : Prop :=
  ab_same D Y.1 v c ∨ (v = a ∧ c = b ∧ ab_lst u D Y.1 Y.2 v c ∧ (¬ u a (D 1 a b) ∨ P))
theorem ab_hsc {u : Nat → Nat → Prop} {a b : Nat} {D : ab_D} : (ab_hs u a b D = ab_nil D) ∨ (D 1 a b ≠ 8 ∧ ¬ u a (D 1 a b) ∧ ab_hs u a b D = ab_gv u a b D) := by
  unfold ab_hs
  by_cases h : ¬ D 1 a b = 8 ∧ ¬ u a (D 1 a b)
  · exact Or.inr ⟨h.1, h.2, ab_ip h⟩
  · exact Or.inl (ab_in h)
theorem ab_lst2 {u : Nat → Nat → Prop} {D E F : ab_D} {O O' : ab_F → Prop} {v c : Nat} (h : ab_lst u D E O v c) (g : ab_same E F v c) (ho : ∀ w, O w → O' w) : ab_lst u D F O' v c :=
  ⟨h.1, g.1.trans h.2.1, g.2.1.trans h.2.2.1, g.2.2.trans h.2.2.2.1, fun r hr ur => ho _ (h.2.2.2.2 r hr ur)⟩
theorem ab_u1w {u : Nat → Nat → Prop} {cf : Nat → Nat → Nat} {a b v c : Nat} {D : ab_D} {P : Prop} : ab_uwy u a b P D (ab_u1 u cf a b D) v c := by
  unfold ab_u1
  by_cases h : ab_hw u a b D
  · rw [ab_ip h]
    exact Or.inl (ab_smt (ab_smw (Or.inl (by decide))) (ab_smw (Or.inl (by decide))))
  · rw [ab_in h]
    rcases ab_hsc (u := u) (a := a) (b := b) (D := D) with e | ⟨h8, nu, e⟩
    · rw [e]
      exact Or.inl (ab_smt (ab_smw (Or.inl (by decide))) ab_kw)
    · rw [e]
      have hk : ab_same (ab_gv u a b D).1 (ab_th (ab_gv u a b D) (fun E => ab_k u a b (ab_w E 7 a b 0))).1 v c := ab_smt (ab_smw (Or.inl (by decide))) ab_kw
      rcases ab_gvw (u := u) (s := a) (c := b) (v := v) (g := c) (D := D) with z | ⟨e1, e2, z⟩
      · exact Or.inl (ab_smt z hk)
      · exact Or.inr ⟨e1, e2, ab_lst2 (z h8) hk (fun w hw => Or.inl hw), Or.inl nu⟩
theorem ab_uwy1 {u : Nat → Nat → Prop} {a b v c : Nat} {P : Prop} {D E : ab_D} {Y : ab_S} (h : ∀ v c, ab_same D E v c) (h0 : E 0 0 0 = D 0 0 0) (g : ab_uwy u a b P E Y v c) : ab_uwy u a b P D Y v c := by
  rcases g with z | ⟨e1, e2, z, y⟩
  · exact Or.inl (ab_smt (h v c) z)
  · refine Or.inr ⟨e1, e2, ab_same2 (h v c) h0 z, ?_⟩
    rw [(h a b).1] at y
    exact y
theorem ab_u2w {u : Nat → Nat → Prop} {cf : Nat → Nat → Nat} {a b z v c : Nat} {D : ab_D} {P : Prop} (hP : 2 ≤ z → P) : ab_uwy u a b P D (ab_u2 u cf a b z D) v c := by
  unfold ab_u2
  have s9 : ∀ v c, ab_same D (ab_w D 9 a b z) v c := fun v c => ab_smw (Or.inl (by decide))
  have n9 : ab_w D 9 a b z 0 0 0 = D 0 0 0 := ab_wf (by decide)
  have K : ∀ E : ab_D, E 1 a b = 8 → ab_same E (ab_u1 u cf a b E).1 v c := by
    intro E hE
    rcases ab_u1w (u := u) (cf := cf) (a := a) (b := b) (v := v) (c := c) (D := E) (P := False) with y | ⟨rfl, rfl, y, _⟩
    · exact y
    · exact absurd hE y.1
  by_cases h : z < 2
  · rw [ab_ip h]
    exact ab_uwy1 s9 n9 ab_u1w
  · rw [ab_in h]
    have h8 : (ab_gv u a b (ab_w D 9 a b z)).1 1 a b = 8 := ab_we
    by_cases g : ab_hw u a b D
    · rw [ab_ip g]
      have hk : ab_same (ab_gv u a b (ab_w D 9 a b z)).1 (ab_th (ab_gv u a b (ab_w D 9 a b z)) (fun E => ab_u1 u cf a b (ab_w E 9 a b 0))).1 v c := by
        refine ab_smt (E := ab_w (ab_gv u a b (ab_w D 9 a b z)).1 9 a b 0) (ab_smw (Or.inl (by decide))) (K _ ?_)
        rw [ab_wf (by decide)]
        exact h8
      rcases ab_gvw (u := u) (s := a) (c := b) (v := v) (g := c) (D := ab_w D 9 a b z) with y | ⟨e1, e2, y⟩
      · exact Or.inl (ab_smt (ab_smt (s9 v c) y) hk)
      · refine Or.inr ⟨e1, e2, ab_same2 (Y := ab_th (ab_gv u a b (ab_w D 9 a b z)) (fun E => ab_u1 u cf a b (ab_w E 9 a b 0))) (s9 v c) n9 (ab_lst2 (y ?_) hk (fun w hw => Or.inl hw)), Or.inr (hP (by omega))⟩
        rw [ab_wf (by decide)]
        exact g.1
    · rw [ab_in g]
      rcases ab_hsc (u := u) (a := a) (b := b) (D := ab_w D 9 a b z) with e | ⟨n8, nu, e⟩
      · rw [e]
        have := ab_uwy1 (Y := ab_u1 u cf a b (ab_w D 9 a b z)) s9 n9 (ab_u1w (u := u) (cf := cf) (a := a) (b := b) (v := v) (c := c) (P := P))
        rcases this with y | ⟨e1, e2, y, y2⟩
        · exact Or.inl y
        · exact Or.inr ⟨e1, e2, ab_lst2 y ab_sm (fun w hw => Or.inr hw), y2⟩
      · rw [e]
        have hk : ab_same (ab_gv u a b (ab_w D 9 a b z)).1 (ab_th (ab_gv u a b (ab_w D 9 a b z)) (ab_u1 u cf a b)).1 v c := K _ h8
        rcases ab_gvw (u := u) (s := a) (c := b) (v := v) (g := c) (D := ab_w D 9 a b z) with y | ⟨e1, e2, y⟩
        · exact Or.inl (ab_smt (ab_smt (s9 v c) y) hk)
        · refine Or.inr ⟨e1, e2, ab_same2 (Y := ab_th (ab_gv u a b (ab_w D 9 a b z)) (ab_u1 u cf a b)) (s9 v c) n9 (ab_lst2 (y n8) hk (fun w hw => Or.inl hw)), Or.inl ?_⟩
          rw [← (s9 a b).1]
          exact nu
theorem ab_uw {u : Nat → Nat → Prop} {lv : Nat → Nat → Prop} {cf : Nat → Nat → Nat} {a b v c : Nat} {D : ab_D} : ab_uwy u a b (ab_V a b D ∧ lv a b) D (ab_u u lv cf a b D) v c := by
  unfold ab_u
  by_cases h : lv a b ∧ (D 7 a b = 0 ∨ D 8 a b + 26 ≤ D 0 0 0)
  · rw [ab_ip h]
    refine ab_u2w (fun hz => ?_)
    by_cases g : D 7 a b = 0
    · rw [ab_ip g] at hz
      omega
    · rw [ab_in g] at hz
      refine ⟨⟨g, by omega, ?_⟩, h.1⟩
      rcases h.2 with y | y
      · exact absurd y g
      · exact y
  · rw [ab_in h]
    exact Or.inl ab_sm
/-! ## what is sent, and the own numbers -/
theorem ab_frk {k f g n l q : Nat} : ab_fr k f g n l q 3 = k := rfl
/-- a frame of a LOSS behind a step -/
def ab_oL (E : ab_D) (s t : Nat) (w : ab_F) : Prop := ∃ c r, w = ab_pt t s r (ab_fr 2 s c (E 3 s c) 0 0) ∧ E 1 s c = 8
theorem ab_gvo {u : Nat → Nat → Prop} {s c : Nat} {D : ab_D} {w : ab_F} (h : (ab_gv u s c D).2 w) : u s (w 2) ∧ ab_oL (ab_gv u s c D).1 s (D 0 0 0) w := by
  obtain ⟨r, hr, ur, e⟩ := h
  refine ⟨?_, c, r, ?_, ab_we⟩
  · rw [e]; exact ur
  · rw [e, ab_gv1, ab_wf (by decide), ab_wf (by decide)]
theorem ab_pso {u : Nat → Nat → Prop} {s : Nat} {w x : ab_F} {D : ab_D} (h : (ab_ps u s w D).2 x) :
    u s (x 2) ∧ ((x = ab_pt (D 0 0 0) s (x 2) w ∧ x 2 = D 1 s (w 5) ∧ (ab_ps u s w D).1 = D) ∨ ab_oL (ab_ps u s w D).1 s (D 0 0 0) x) := by
  rcases ab_psc (u := u) (s := s) (w := w) (D := D) with ⟨_, e⟩ | ⟨_, hu, e⟩ | ⟨_, hu, e⟩
  · rw [e] at h
    exact absurd h (fun z => z)
  · rw [e] at h ⊢
    have h' : x = ab_pt (D 0 0 0) s (D 1 s (w 5)) w := h
    have e2 : x 2 = D 1 s (w 5) := by rw [h']; rfl
    rw [e2]
    exact ⟨hu, Or.inl ⟨h', rfl, rfl⟩⟩
  · rw [e] at h ⊢
    exact ⟨(ab_gvo h).1, Or.inr (ab_gvo h).2⟩
/-- hearing: what is sent -/
def ab_ho (ac : Nat → Nat → Nat) (s : Nat) (x : ab_F) (D E : ab_D) (w : ab_F) : Prop :=
  (x 3 = 0 ∧ ¬ ab_sn s (x 4) (x 8) D ∧ x 5 ≠ s ∧ w = ab_pt (D 0 0 0) s (w 2) (ab_fr 0 (x 4) (x 5) (x 6) (x 7 + 1) (x 8))) ∨
  (x 3 = 0 ∧ ¬ ab_sn s (x 4) (x 8) D ∧ x 5 = s ∧ w = ab_pt (D 0 0 0) s (w 2) (ab_fr 1 s (x 4) (E 4 s 0) 0 0) ∧ E 4 s 0 = D 4 s 0 + 1 ∧ w 2 = E 1 s (x 4)) ∨
  (x 3 = 1 ∧ x 5 ≠ s ∧ w = ab_pt (D 0 0 0) s (w 2) (ab_fr 1 (x 4) (x 5) (x 6) (x 7 + 1) 0) ∧ w 2 = E 1 s (x 5)) ∨
  (3 ≤ x 3 ∧ x 5 ≠ s ∧ 1 < x 8 ∧ w = ab_pt (D 0 0 0) s (w 2) (ab_fr (x 3) (x 4) (x 5) (x 6) (x 7) (x 8 - 1)) ∧ w 2 = D 1 s (x 5) ∧ E = D) ∨
  (x 3 = 3 ∧ x 5 = s ∧ w = ab_pt (D 0 0 0) s (w 2) (ab_fr 4 s (x 4) (ac (x 4) s) 0 8) ∧ w 2 = D 1 s (x 4) ∧ E = D) ∨
  ab_oL E s (D 0 0 0) w
theorem ab_hA1n {s p : Nat} {x : ab_F} {D : ab_D} {f i j : Nat} (h : f ≠ 1 ∧ f ≠ 2 ∧ f ≠ 3 ∧ f ≠ 13 ∧ f ≠ 14 ∧ f ≠ 15) : ab_hA1 s p x D f i j = D f i j := by
  unfold ab_hA1
  rw [ab_lno (Or.inl ⟨h.1, h.2.1, h.2.2.1⟩), ab_seo (Or.inl h.2.2.2)]
theorem ab_hho {u : Nat → Nat → Prop} {ac : Nat → Nat → Nat} {s p : Nat} {x w : ab_F} {D : ab_D} (h : (ab_h u ac s p x D).2 w) :
    u s (w 2) ∧ ab_ho ac s x D (ab_h u ac s p x D).1 w := by
  have C : ∀ x, 3 ≤ x 3 → x 5 ≠ s → (ab_cy u s x D).2 w → u s (w 2) ∧ ab_ho ac s x D (ab_cy u s x D).1 w := by
    intro x h3 h5
    unfold ab_cy
    by_cases hl : x 8 ≤ 1
    · rw [ab_ip hl]; exact fun z => absurd z (fun z => z)
    · rw [ab_in hl]
      intro z
      obtain ⟨z1, z2 | z2⟩ := ab_pso z
      · exact ⟨z1, Or.inr (Or.inr (Or.inr (Or.inl ⟨h3, h5, by omega, z2.1, z2.2.1, z2.2.2⟩)))⟩
      · exact ⟨z1, Or.inr (Or.inr (Or.inr (Or.inr (Or.inr z2))))⟩
  unfold ab_h at h ⊢
  by_cases h0 : x 3 = 0
  · rw [ab_ip h0] at h ⊢
    unfold ab_hA at h ⊢
    by_cases hs' : ab_sn s (x 4) (x 8) D
    · rw [ab_ip hs'] at h
      exact absurd h (fun z => z)
    · rw [ab_in hs'] at h ⊢
      by_cases g : x 5 = s
      · rw [ab_ip g] at h ⊢
        obtain ⟨z1, z2 | z2⟩ := ab_pso h
        · refine ⟨z1, Or.inr (Or.inl ⟨h0, hs', g, ?_, ?_, ?_⟩)⟩
          · rw [z2.2.2, ab_we]
            have := z2.1
            rw [ab_wf (by decide), ab_hA1n (by decide)] at this
            exact this
          · rw [z2.2.2, ab_we, ab_hA1n (by decide)]
          · rw [z2.2.2]
            exact z2.2.1
        · rw [ab_wf (by decide), ab_hA1n (f := 0) (i := 0) (j := 0) (by decide)] at z2
          exact ⟨z1, Or.inr (Or.inr (Or.inr (Or.inr (Or.inr z2))))⟩
      · rw [ab_in g] at h ⊢
        obtain ⟨r, hr, ur, e⟩ := h
        rw [ab_hA1n (by decide)] at e
        have e2 : w 2 = r := by rw [e]; rfl
        rw [e2]
        exact ⟨ur, Or.inl ⟨h0, hs', g, by rw [e2]; exact e⟩⟩
  · rw [ab_in h0] at h ⊢
    by_cases h1 : x 3 = 1
    · rw [ab_ip h1] at h ⊢
      unfold ab_hT at h ⊢
      by_cases g : x 5 = s
      · rw [ab_ip g] at h
        exact absurd h (fun z => z)
      · rw [ab_in g] at h ⊢
        obtain ⟨z1, z2 | z2⟩ := ab_pso h
        · refine ⟨z1, Or.inr (Or.inr (Or.inl ⟨h1, g, ?_, ?_⟩))⟩
          · have := z2.1
            rw [ab_lno (Or.inl (by decide))] at this
            exact this
          · rw [z2.2.2]
            exact z2.2.1
        · rw [ab_lno (Or.inl (by decide))] at z2
          exact ⟨z1, Or.inr (Or.inr (Or.inr (Or.inr (Or.inr z2))))⟩
    · rw [ab_in h1] at h ⊢
      by_cases h2 : x 3 = 2
      · rw [ab_ip h2] at h ⊢
        unfold ab_hL at h ⊢
        by_cases g : s ≠ x 5 ∧ D 1 s (x 5) = p ∧ D 3 s (x 5) ≤ x 6
        · rw [ab_ip g] at h ⊢
          exact ⟨(ab_gvo h).1, Or.inr (Or.inr (Or.inr (Or.inr (Or.inr (ab_gvo h).2))))⟩
        · rw [ab_in g] at h
          exact absurd h (fun z => z)
      · rw [ab_in h2] at h ⊢
        by_cases h3 : x 3 = 3
        · rw [ab_ip h3] at h ⊢
          unfold ab_hP at h ⊢
          by_cases g : x 5 = s
          · rw [ab_ip g] at h ⊢
            obtain ⟨z1, z2 | z2⟩ := ab_pso h
            · exact ⟨z1, Or.inr (Or.inr (Or.inr (Or.inr (Or.inl ⟨h3, g, z2.1, z2.2.1, z2.2.2⟩))))⟩
            · exact ⟨z1, Or.inr (Or.inr (Or.inr (Or.inr (Or.inr z2))))⟩
          · rw [ab_in g] at h ⊢
            exact C x (by omega) g h
        · rw [ab_in h3] at h ⊢
          unfold ab_hW at h ⊢
          by_cases g : x 5 = s
          · rw [ab_ip g] at h
            exact absurd h (fun z => z)
          · rw [ab_in g] at h ⊢
            exact C x (by omega) g h
/-! ## urging: the three outcomes -/
theorem ab_kn {u : Nat → Nat → Prop} {a b : Nat} {D : ab_D} (h : D 0 0 0 < D 6 a b) : ab_k u a b D = ab_nil D := ab_ip h
theorem ab_ky {u : Nat → Nat → Prop} {a b : Nat} {D : ab_D} (h : ¬ D 0 0 0 < D 6 a b) : ab_k u a b D = ab_tl u a (ab_fr 0 a b (D 4 a 0 + 1) 0 (D 5 a 0 + 1)) (ab_k1 a b D) := ab_in h
theorem ab_k1f {a b f i j : Nat} {D : ab_D} (h : f ≠ 4 ∧ f ≠ 5 ∧ f ≠ 6 ∧ f ≠ 13 ∧ f ≠ 14 ∧ f ≠ 15) : ab_k1 a b D f i j = D f i j := by
  unfold ab_k1
  rw [ab_seo (Or.inl h.2.2.2), ab_wf h.2.1, ab_wf h.1, ab_wf h.2.2.1]
theorem ab_k14 {a b c : Nat} {D : ab_D} : ab_k1 a b D 4 c 0 = if c = a then D 4 a 0 + 1 else D 4 c 0 := by
  unfold ab_k1
  rw [ab_seo (Or.inl (by decide)), ab_wf (by decide)]
  by_cases h : c = a
  · rw [if_pos h, h, ab_we]
  · rw [if_neg h, ab_wi h, ab_wf (by decide)]
theorem ab_k15 {a b c : Nat} {D : ab_D} : ab_k1 a b D 5 c 0 = if c = a then D 5 a 0 + 1 else D 5 c 0 := by
  unfold ab_k1
  rw [ab_seo (Or.inl (by decide))]
  by_cases h : c = a
  · rw [if_pos h, h, ab_we]
  · rw [if_neg h, ab_wi h, ab_wf (by decide), ab_wf (by decide)]
theorem ab_k16 {a b : Nat} {D : ab_D} : ab_k1 a b D 6 a b = D 0 0 0 + 24 := by
  unfold ab_k1
  rw [ab_seo (Or.inl (by decide)), ab_wf (by decide), ab_wf (by decide), ab_we]
theorem ab_k17 {a b i j : Nat} {D : ab_D} (h : i ≠ a ∨ j ≠ b) : ab_k1 a b D 6 i j = D 6 i j := by
  unfold ab_k1
  rw [ab_seo (Or.inl (by decide)), ab_wf (by decide), ab_wf (by decide)]
  rcases h with h | h
  · rw [ab_wi h]
  · rw [ab_wj h]
/-- the state ahead of the asking in an urge that ends without a way -/
def ab_pre (a b : Nat) (D E : ab_D) : Prop := E 1 a b = 8 ∧ E 7 a b = 0 ∧ (∀ v c, (v ≠ a ∨ c ≠ b) → ab_same D E v c) ∧ E 2 a b = D 2 a b ∧ E 3 a b = D 3 a b ∧
  (∀ f i j, f ≠ 1 → f ≠ 2 → f ≠ 3 → f ≠ 7 → f ≠ 9 → E f i j = D f i j) ∧ (∀ i j, (i ≠ a ∨ j ≠ b) → E 7 i j = D 7 i j ∧ E 9 i j = D 9 i j)
theorem ab_prew {a b z : Nat} {D : ab_D} {E : ab_D} (h1 : E 1 a b = 8) (h : ∀ f i j, (f ≠ 1 ∧ f ≠ 9 ∧ f ≠ 7) ∨ i ≠ a ∨ j ≠ b → E f i j = D f i j) (h7 : z = 0) : ab_pre a b D (ab_w E 7 a b z) := by
  subst h7
  refine ⟨?_, ab_we, ?_, ?_, ?_, ?_, ?_⟩
  · rw [ab_wf (by decide)]; exact h1
  · intro v c hv
    refine ⟨?_, ?_, ?_⟩ <;> rw [ab_wf (by decide)] <;> exact h _ v c (Or.inr hv)
  · rw [ab_wf (by decide)]; exact h _ _ _ (Or.inl (by decide))
  · rw [ab_wf (by decide)]; exact h _ _ _ (Or.inl (by decide))
  · intro f i j h1 h2 h3 h7 h9
    rw [ab_wf h7]
    exact h _ _ _ (Or.inl ⟨h1, h9, h7⟩)
  · intro i j hi
    refine ⟨?_, ?_⟩
    · rcases hi with z | z
      · rw [ab_wi z]; exact h _ _ _ (Or.inr (Or.inl z))
      · rw [ab_wj z]; exact h _ _ _ (Or.inr (Or.inr z))
    · rw [ab_wf (by decide)]; exact h _ _ _ (Or.inr hi)
def ab_noway (u : Nat → Nat → Prop) (a b : Nat) (D : ab_D) (Y : ab_S) : Prop :=
  ∃ E, ab_pre a b D E ∧ Y.1 = (ab_k u a b E).1 ∧ (∀ w, (ab_k u a b E).2 w → Y.2 w) ∧
    (∀ w, Y.2 w → (ab_k u a b E).2 w ∨ (∃ r, u a r ∧ w = ab_pt (D 0 0 0) a r (ab_fr 2 a b (D 3 a b) 0 0)))
def ab_piece (u : Nat → Nat → Prop) (cf : Nat → Nat → Nat) (a b z : Nat) (D : ab_D) (Y : ab_S) : Prop :=
  ab_hw u a b D ∧ Y = ab_sd a (D 1 a b) (ab_fr 3 a b (cf a b) 0 8) (ab_w (ab_w (ab_w D 9 a b z) 7 a b 1) 8 a b (D 0 0 0))
theorem ab_wne {A : ab_D} {f i j v g x y : Nat} (h : g ≠ f ∨ x ≠ i ∨ y ≠ j) : ab_w A f i j v g x y = A g x y := by
  rcases h with h | h | h
  · exact ab_wf h
  · exact ab_wi h
  · exact ab_wj h
theorem ab_u1n {u : Nat → Nat → Prop} {cf : Nat → Nat → Nat} {a b : Nat} {D E : ab_D} (hE : ∀ f i j, (f ≠ 1 ∧ f ≠ 9 ∧ f ≠ 7) ∨ i ≠ a ∨ j ≠ b → E f i j = D f i j) (h : ¬ ab_hw u a b E) :
    ab_noway u a b D (ab_u1 u cf a b E) := by
  unfold ab_u1
  rw [ab_in h]
  rcases ab_hsc (u := u) (a := a) (b := b) (D := E) with e | ⟨n8, nu, e⟩
  · have e8 : E 1 a b = 8 := by
      by_cases z : E 1 a b = 8
      · exact z
      · have : ¬ u a (E 1 a b) := fun y => h ⟨z, y⟩
        have e' : ab_hs u a b E = ab_gv u a b E := ab_ip ⟨z, this⟩
        rw [e'] at e
        have := congrArg (fun y : ab_S => y.1 1 a b) e
        have h2 : (ab_gv u a b E).1 1 a b = 8 := ab_we
        exact (this.symm.trans h2)
    rw [e]
    refine ⟨ab_w E 7 a b 0, ab_prew e8 hE rfl, rfl, fun w hw => Or.inr hw, ?_⟩
    intro w hw
    rcases hw with z | z
    · exact absurd z (fun z => z)
    · exact Or.inl z
  · rw [e]
    refine ⟨ab_w (ab_gv u a b E).1 7 a b 0, ab_prew ab_we ?_ rfl, rfl, fun w hw => Or.inr hw, ?_⟩
    · intro f i j hf
      rw [ab_gv1, ab_wne (by omega)]
      exact hE f i j hf
    · intro w hw
      rcases hw with ⟨r, _, ur, z⟩ | z
      · refine Or.inr ⟨r, ur, ?_⟩
        rw [z, ab_wf (by decide), hE 0 0 0 (Or.inl (by decide)), hE 3 a b (Or.inl (by decide))]
      · exact Or.inl z
theorem ab_uc {u : Nat → Nat → Prop} {lv : Nat → Nat → Prop} {cf : Nat → Nat → Nat} {a b : Nat} {D : ab_D} :
    (ab_u u lv cf a b D = ab_nil D ∧ ¬ (lv a b ∧ (D 7 a b = 0 ∨ D 8 a b + 26 ≤ D 0 0 0))) ∨
    (lv a b ∧ (D 7 a b = 0 ∨ D 8 a b + 26 ≤ D 0 0 0) ∧
      ((∃ z, z < 2 ∧ (D 7 a b = 0 → z = 0) ∧ (D 7 a b ≠ 0 → z = D 9 a b + 1) ∧ ab_piece u cf a b z D (ab_u u lv cf a b D)) ∨
        ((¬ ab_hw u a b D ∨ (D 7 a b ≠ 0 ∧ 1 ≤ D 9 a b)) ∧ ab_noway u a b D (ab_u u lv cf a b D)))) := by
  unfold ab_u
  by_cases h : lv a b ∧ (D 7 a b = 0 ∨ D 8 a b + 26 ≤ D 0 0 0)
  · rw [ab_ip h]
    refine Or.inr ⟨h.1, h.2, ?_⟩
    generalize hz : ab_if (D 7 a b = 0) 0 (D 9 a b + 1) = z
    have z0 : D 7 a b = 0 → z = 0 := fun e => by rw [← hz, ab_ip e]
    have z1 : D 7 a b ≠ 0 → z = D 9 a b + 1 := fun e => by rw [← hz, ab_in e]
    have h9 : ∀ f i j, (f ≠ 1 ∧ f ≠ 9 ∧ f ≠ 7) ∨ i ≠ a ∨ j ≠ b → ab_w D 9 a b z f i j = D f i j := fun f i j hf => ab_wne (by omega)
    have w9 : ab_hw u a b (ab_w D 9 a b z) ↔ ab_hw u a b D := by
      unfold ab_hw
      rw [ab_wf (by decide)]
    unfold ab_u2
    by_cases hz2 : z < 2
    · rw [ab_ip hz2]
      by_cases g : ab_hw u a b D
      · refine Or.inl ⟨z, hz2, z0, z1, g, ?_⟩
        unfold ab_u1
        rw [ab_ip (w9.2 g), ab_wf (by decide), ab_wf (by decide)]
      · exact Or.inr ⟨Or.inl g, ab_u1n h9 (fun y => g (w9.1 y))⟩
    · rw [ab_in hz2]
      have d7 : D 7 a b ≠ 0 ∧ 1 ≤ D 9 a b := by
        by_cases e : D 7 a b = 0
        · exact absurd (z0 e) (by omega)
        · exact ⟨e, by have := z1 e; omega⟩
      refine Or.inr ⟨Or.inr d7, ?_⟩
      have K : ∀ Z : ab_S, ∀ f : ab_D → ab_S, ab_noway u a b D (f Z.1) → (∀ w, Z.2 w → (∃ r, u a r ∧ w = ab_pt (D 0 0 0) a r (ab_fr 2 a b (D 3 a b) 0 0))) → ab_noway u a b D (ab_th Z f) := by
        intro Z f hf ho
        obtain ⟨E, h1, h2, h3, h4⟩ := hf
        refine ⟨E, h1, h2, fun w hw => Or.inr (h3 w hw), fun w hw => ?_⟩
        rcases hw with y | y
        · exact Or.inr (ho w y)
        · exact h4 w y
      have G : ∀ w, (ab_gv u a b (ab_w D 9 a b z)).2 w → (∃ r, u a r ∧ w = ab_pt (D 0 0 0) a r (ab_fr 2 a b (D 3 a b) 0 0)) := by
        intro w hw
        obtain ⟨r, _, ur, e⟩ := hw
        refine ⟨r, ur, ?_⟩
        rw [e, ab_wf (by decide), ab_wf (by decide), ab_wf (by decide)]
      by_cases g : ab_hw u a b D
      · rw [ab_ip g]
        refine K _ _ (ab_u1n (D := D) ?_ ?_) G
        · intro f i j hf
          rw [ab_wne (by omega), ab_gv1, ab_wne (by omega), ab_wne (by omega)]
        · intro y
          apply y.1
          rw [ab_wf (by decide)]
          exact ab_we
      · rw [ab_in g]
        rcases ab_hsc (u := u) (a := a) (b := b) (D := ab_w D 9 a b z) with e | ⟨n8, nu, e⟩
        · rw [e]
          exact K _ _ (ab_u1n (D := D) h9 (fun y => g (w9.1 y))) (fun w hw => absurd hw (fun z => z))
        · rw [e]
          refine K _ _ (ab_u1n (D := D) ?_ ?_) G
          · intro f i j hf
            rw [ab_gv1, ab_wne (by omega), ab_wne (by omega)]
          · intro y
            exact y.1 ab_we
  · rw [ab_in h]
    exact Or.inl ⟨rfl, h⟩
/-! ## the other fields of a step -/
theorem ab_psf {u : Nat → Nat → Prop} {s : Nat} {w : ab_F} {D : ab_D} {f i j : Nat} (h : f ≠ 1) : (ab_ps u s w D).1 f i j = D f i j := by
  rcases ab_psc (u := u) (s := s) (w := w) (D := D) with ⟨_, e⟩ | ⟨_, _, e⟩ | ⟨_, _, e⟩
  · rw [e]; rfl
  · rw [e]; rfl
  · rw [e, ab_gv1, ab_wf h]
theorem ab_cyf {u : Nat → Nat → Prop} {s : Nat} {w : ab_F} {D : ab_D} {f i j : Nat} (h : f ≠ 1) : (ab_cy u s w D).1 f i j = D f i j := by
  unfold ab_cy
  by_cases g : w 8 ≤ 1
  · rw [ab_ip g]; rfl
  · rw [ab_in g]; exact ab_psf h
theorem ab_hf {u : Nat → Nat → Prop} {ac : Nat → Nat → Nat} {s p : Nat} {x : ab_F} {D : ab_D} {f i j : Nat} (h : f ≠ 1 ∧ f ≠ 2 ∧ f ≠ 3 ∧ f ≠ 13 ∧ f ≠ 14 ∧ f ≠ 15) :
    (ab_h u ac s p x D).1 f i j = D f i j ∨ (f = 4 ∧ i = s ∧ j = 0 ∧ (ab_h u ac s p x D).1 f i j = D f i j + 1 ∧ x 3 = 0 ∧ x 5 = s ∧ ¬ ab_sn s (x 4) (x 8) D) := by
  unfold ab_h
  by_cases h0 : x 3 = 0
  · rw [ab_ip h0]
    unfold ab_hA
    by_cases hs' : ab_sn s (x 4) (x 8) D
    · rw [ab_ip hs']; exact Or.inl rfl
    · rw [ab_in hs']
      by_cases g : x 5 = s
      · rw [ab_ip g, ab_psf h.1]
        by_cases e : f = 4 ∧ i = s ∧ j = 0
        · obtain ⟨rfl, rfl, rfl⟩ := e
          refine Or.inr ⟨rfl, rfl, rfl, ?_, h0, g, hs'⟩
          rw [ab_we, ab_hA1n (by decide)]
        · refine Or.inl ?_
          rw [ab_wne (by omega), ab_hA1n h]
      · rw [ab_in g]
        exact Or.inl (ab_hA1n h)
  · rw [ab_in h0]
    refine Or.inl ?_
    by_cases h1 : x 3 = 1
    · rw [ab_ip h1]
      unfold ab_hT
      by_cases g : x 5 = s
      · rw [ab_ip g]
        exact ab_lno (Or.inl ⟨h.1, h.2.1, h.2.2.1⟩)
      · rw [ab_in g, ab_psf h.1]
        exact ab_lno (Or.inl ⟨h.1, h.2.1, h.2.2.1⟩)
    · rw [ab_in h1]
      by_cases h2 : x 3 = 2
      · rw [ab_ip h2]
        unfold ab_hL
        by_cases g : s ≠ x 5 ∧ D 1 s (x 5) = p ∧ D 3 s (x 5) ≤ x 6
        · rw [ab_ip g, ab_gv1, ab_wf h.1]
        · rw [ab_in g]; rfl
      · rw [ab_in h2]
        by_cases h3 : x 3 = 3
        · rw [ab_ip h3]
          unfold ab_hP
          by_cases g : x 5 = s
          · rw [ab_ip g]; exact ab_psf h.1
          · rw [ab_in g]; exact ab_cyf h.1
        · rw [ab_in h3]
          unfold ab_hW
          by_cases g : x 5 = s
          · rw [ab_ip g]; rfl
          · rw [ab_in g]; exact ab_cyf h.1
/-- asking, or not -/
theorem ab_nwc {u : Nat → Nat → Prop} {a b : Nat} {D : ab_D} {Y : ab_S} (h : ab_noway u a b D Y) :
    Y.1 1 a b = 8 ∧ Y.1 7 a b = 0 ∧
    ((D 0 0 0 < D 6 a b ∧ (∀ c, Y.1 4 c 0 = D 4 c 0) ∧ (∀ c, Y.1 5 c 0 = D 5 c 0) ∧ (∀ i j, Y.1 6 i j = D 6 i j) ∧ (∀ s q i, Y.1 13 s i = D 13 s i ∧ Y.1 14 s i = D 14 s i ∧ Y.1 15 s q = D 15 s q) ∧
        ∀ w, Y.2 w → ∃ r, u a r ∧ w = ab_pt (D 0 0 0) a r (ab_fr 2 a b (D 3 a b) 0 0)) ∨
      (D 6 a b ≤ D 0 0 0 ∧ (∀ c, Y.1 4 c 0 = if c = a then D 4 a 0 + 1 else D 4 c 0) ∧ (∀ c, Y.1 5 c 0 = if c = a then D 5 a 0 + 1 else D 5 c 0) ∧ Y.1 6 a b = D 0 0 0 + 24 ∧ (∀ i j, (i ≠ a ∨ j ≠ b) → Y.1 6 i j = D 6 i j) ∧
        (∀ r, r < 8 → u a r → Y.2 (ab_pt (D 0 0 0) a r (ab_fr 0 a b (D 4 a 0 + 1) 0 (D 5 a 0 + 1)))) ∧
        (∃ E, (∀ s i, E 13 s i = D 13 s i ∧ E 14 s i = D 14 s i ∧ E 15 s i = D 15 s i) ∧ ∀ s i, Y.1 13 s i = ab_se a a (D 5 a 0 + 1) E 13 s i ∧ Y.1 14 s i = ab_se a a (D 5 a 0 + 1) E 14 s i ∧ Y.1 15 s i = ab_se a a (D 5 a 0 + 1) E 15 s i) ∧
        ∀ w, Y.2 w → (∃ r, r < 8 ∧ u a r ∧ w = ab_pt (D 0 0 0) a r (ab_fr 0 a b (D 4 a 0 + 1) 0 (D 5 a 0 + 1))) ∨ ∃ r, u a r ∧ w = ab_pt (D 0 0 0) a r (ab_fr 2 a b (D 3 a b) 0 0))) := by
  obtain ⟨E, ⟨p1, p7, pw, p2, p3, pf, pp⟩, e1, o1, o2⟩ := h
  have f0 : E 0 0 0 = D 0 0 0 := pf 0 0 0 (by decide) (by decide) (by decide) (by decide) (by decide)
  have f6 : ∀ i j, E 6 i j = D 6 i j := fun i j => pf 6 i j (by decide) (by decide) (by decide) (by decide) (by decide)
  have f4 : ∀ c, E 4 c 0 = D 4 c 0 := fun c => pf 4 c 0 (by decide) (by decide) (by decide) (by decide) (by decide)
  have f5 : ∀ c, E 5 c 0 = D 5 c 0 := fun c => pf 5 c 0 (by decide) (by decide) (by decide) (by decide) (by decide)
  have f13 : ∀ s i, E 13 s i = D 13 s i ∧ E 14 s i = D 14 s i ∧ E 15 s i = D 15 s i := fun s i =>
    ⟨pf 13 s i (by decide) (by decide) (by decide) (by decide) (by decide), pf 14 s i (by decide) (by decide) (by decide) (by decide) (by decide), pf 15 s i (by decide) (by decide) (by decide) (by decide) (by decide)⟩
  by_cases hk : E 0 0 0 < E 6 a b
  · have ek := ab_kn (u := u) hk
    rw [ek] at e1 o1 o2
    have e1' : Y.1 = E := e1
    rw [e1']
    refine ⟨p1, p7, Or.inl ⟨?_, f4, f5, f6, fun s q i => ⟨(f13 s i).1, (f13 s i).2.1, (f13 s q).2.2⟩, fun w hw => ?_⟩⟩
    · rw [f0, f6] at hk; exact hk
    · rcases o2 w hw with z | z
      · exact absurd z (fun z => z)
      · exact z
  · have ek := ab_ky (u := u) hk
    rw [ek] at e1 o1 o2
    have e1' : Y.1 = ab_k1 a b E := e1
    rw [e1']
    have e0 : ab_k1 a b E 0 0 0 = D 0 0 0 := (ab_k1f (by decide)).trans f0
    refine ⟨(ab_k1f (by decide)).trans p1, (ab_k1f (by decide)).trans p7, Or.inr ⟨?_, ?_, ?_, ?_, ?_, ?_, ?_, ?_⟩⟩
    · rw [f0, f6] at hk; omega
    · intro c; rw [ab_k14, f4, f4]
    · intro c; rw [ab_k15, f5, f5]
    · rw [ab_k16, f0]
    · intro i j hij; rw [ab_k17 hij, f6]
    · intro r hr ur
      refine o1 _ ⟨r, hr, ur, ?_⟩
      rw [e0, f4, f5]
    · refine ⟨ab_w (ab_w (ab_w E 6 a b (E 0 0 0 + 24)) 4 a 0 (E 4 a 0 + 1)) 5 a 0 (E 5 a 0 + 1), ?_, ?_⟩
      · intro s i
        rw [ab_wf (by decide), ab_wf (by decide), ab_wf (by decide), ab_wf (by decide), ab_wf (by decide), ab_wf (by decide), ab_wf (by decide), ab_wf (by decide), ab_wf (by decide)]
        exact f13 s i
      · intro s i
        unfold ab_k1
        rw [f5]
        exact ⟨rfl, rfl, rfl⟩
    · intro w hw
      rcases o2 w hw with ⟨r, hr, ur, z⟩ | z
      · refine Or.inl ⟨r, hr, ur, ?_⟩
        rw [e0, f4, f5] at z
        exact z
      · exact Or.inr z
/-! ## one step of a run -/
theorem ab_do0 {u : Nat → Nat → Prop} {lv : Nat → Nat → Prop} {cf ac : Nat → Nat → Nat} {a b : Nat} {x : ab_F} {D : ab_D} : ab_do u lv cf ac 0 a b x D = ab_nil (ab_w D 0 0 0 (D 0 0 0 + 1)) := ab_ip rfl
theorem ab_do1 {u : Nat → Nat → Prop} {lv : Nat → Nat → Prop} {cf ac : Nat → Nat → Nat} {a b : Nat} {x : ab_F} {D : ab_D} : ab_do u lv cf ac 1 a b x D = ab_h u ac a b x D := (ab_in (by decide)).trans (ab_ip rfl)
theorem ab_do2 {u : Nat → Nat → Prop} {lv : Nat → Nat → Prop} {cf ac : Nat → Nat → Nat} {a b : Nat} {x : ab_F} {D : ab_D} : ab_do u lv cf ac 2 a b x D = ab_u u lv cf a b D := ((ab_in (by decide)).trans (ab_in (by decide))).trans (ab_ip rfl)
theorem ab_do3 {u : Nat → Nat → Prop} {lv : Nat → Nat → Prop} {cf ac : Nat → Nat → Nat} {k a b : Nat} {x : ab_F} {D : ab_D} (h : 3 ≤ k) : ab_do u lv cf ac k a b x D = ab_nil D := ((ab_in (by omega)).trans (ab_in (by omega))).trans (ab_in (by omega))
/-- what a step does to a way -/
def ab_wy (u lv : Nat → Nat → Prop) (k a b : Nat) (x : ab_F) (D : ab_D) (Y : ab_S) (v c : Nat) : Prop :=
  ab_same D Y.1 v c ∨ (k = 1 ∧ v = a ∧ c = x 4 ∧ (x 3 = 0 ∧ ¬ ab_sn a (x 4) (x 8) D ∨ x 3 = 1) ∧ ab_lrn b (x 7 + 1) (x 6) D Y.1 v c) ∨
    (v = a ∧ ab_lst u D Y.1 Y.2 v c ∧ (¬ u v (D 1 v c) ∨ (k = 1 ∧ x 3 = 2 ∧ c = x 5 ∧ v ≠ c ∧ D 1 v c = b ∧ D 3 v c ≤ x 6) ∨ (k = 2 ∧ c = b ∧ ab_V v c D ∧ lv v c)))
theorem ab_dw {u lv : Nat → Nat → Prop} {cf ac : Nat → Nat → Nat} {k a b : Nat} {x : ab_F} {D : ab_D} {v c : Nat} (h : k = 1 → u a b ∧ b ≠ 8) : ab_wy u lv k a b x D (ab_do u lv cf ac k a b x D) v c := by
  by_cases h0 : k = 0
  · subst h0
    rw [ab_do0]
    exact Or.inl (ab_smw (Or.inl (by decide)))
  · by_cases h1 : k = 1
    · subst h1
      rw [ab_do1]
      rcases ab_hh (u := u) (ac := ac) (s := a) (p := b) (x := x) (D := D) (v := v) (c := c) (h rfl).1 (h rfl).2 with z | ⟨e1, e2, e3, z⟩ | ⟨rfl, z, y⟩
      · exact Or.inl z
      · exact Or.inr (Or.inl ⟨rfl, e1, e2, e3, z⟩)
      · refine Or.inr (Or.inr ⟨rfl, z, ?_⟩)
        rcases y with y | y
        · exact Or.inl y
        · exact Or.inr (Or.inl ⟨rfl, y⟩)
    · by_cases h2 : k = 2
      · subst h2
        rw [ab_do2]
        rcases ab_uw (u := u) (lv := lv) (cf := cf) (a := a) (b := b) (v := v) (c := c) (D := D) with z | ⟨rfl, rfl, z, y⟩
        · exact Or.inl z
        · refine Or.inr (Or.inr ⟨rfl, z, ?_⟩)
          rcases y with y | y
          · exact Or.inl y
          · exact Or.inr (Or.inr ⟨rfl, rfl, y⟩)
      · rw [ab_do3 (by omega)]
        exact Or.inl ab_sm
theorem ab_d0 {u lv : Nat → Nat → Prop} {cf ac : Nat → Nat → Nat} {k a b : Nat} {x : ab_F} {D : ab_D} : (ab_do u lv cf ac k a b x D).1 0 0 0 = if k = 0 then D 0 0 0 + 1 else D 0 0 0 := by
  by_cases h0 : k = 0
  · subst h0
    rw [ab_do0, if_pos rfl]
    show ab_w D 0 0 0 (D 0 0 0 + 1) 0 0 0 = _
    exact ab_we
  · rw [if_neg h0]
    by_cases h1 : k = 1
    · subst h1
      rw [ab_do1]
      rcases ab_hf (u := u) (ac := ac) (s := a) (p := b) (x := x) (D := D) (f := 0) (i := 0) (j := 0) (by decide) with z | z
      · exact z
      · exact absurd z.1 (by decide)
    · by_cases h2 : k = 2
      · subst h2
        rw [ab_do2]
        rcases ab_uc (u := u) (lv := lv) (cf := cf) (a := a) (b := b) (D := D) with ⟨z, _⟩ | ⟨_, _, ⟨z, _, _, _, y⟩ | ⟨_, y⟩⟩
        · rw [z]; rfl
        · rw [y.2]
          show ab_w (ab_w (ab_w D 9 a b z) 7 a b 1) 8 a b (D 0 0 0) 0 0 0 = _
          rw [ab_wf (by decide), ab_wf (by decide), ab_wf (by decide)]
        · obtain ⟨E, hp, e, _⟩ := y
          rw [e]
          have f0 : E 0 0 0 = D 0 0 0 := hp.2.2.2.2.2.1 0 0 0 (by decide) (by decide) (by decide) (by decide) (by decide)
          by_cases hk : E 0 0 0 < E 6 a b
          · rw [ab_kn hk]; exact f0
          · rw [ab_ky hk]
            exact (ab_k1f (a := a) (b := b) (by decide)).trans f0
      · rw [ab_do3 (by omega)]; rfl
/-- asking in a step -/
def ab_asks (k a b : Nat) (D E : ab_D) : Prop := k = 2 ∧ E 1 a b = 8 ∧ E 7 a b = 0 ∧ D 6 a b ≤ D 0 0 0 ∧ E 6 a b = D 0 0 0 + 24 ∧ E 5 a 0 = D 5 a 0 + 1 ∧ E 4 a 0 = D 4 a 0 + 1
theorem ab_d4 {u lv : Nat → Nat → Prop} {cf ac : Nat → Nat → Nat} {k a b c : Nat} {x : ab_F} {D : ab_D} : (ab_do u lv cf ac k a b x D).1 4 c 0 = D 4 c 0 ∨
    ((ab_do u lv cf ac k a b x D).1 4 c 0 = D 4 c 0 + 1 ∧ c = a ∧ ((k = 1 ∧ x 3 = 0 ∧ x 5 = a ∧ ¬ ab_sn a (x 4) (x 8) D) ∨ (lv a b ∧ ab_asks k a b D (ab_do u lv cf ac k a b x D).1))) := by
  by_cases h0 : k = 0
  · subst h0
    rw [ab_do0]
    refine Or.inl ?_
    show ab_w D 0 0 0 (D 0 0 0 + 1) 4 c 0 = _
    exact ab_wf (by decide)
  · by_cases h1 : k = 1
    · subst h1
      rw [ab_do1]
      rcases ab_hf (u := u) (ac := ac) (s := a) (p := b) (x := x) (D := D) (f := 4) (i := c) (j := 0) (by decide) with z | ⟨_, e1, _, e2, e3, e4, e5⟩
      · exact Or.inl z
      · exact Or.inr ⟨e2, e1, Or.inl ⟨rfl, e3, e4, e5⟩⟩
    · by_cases h2 : k = 2
      · subst h2
        rw [ab_do2]
        rcases ab_uc (u := u) (lv := lv) (cf := cf) (a := a) (b := b) (D := D) with ⟨z, _⟩ | ⟨hl, _, ⟨z, _, _, _, y⟩ | ⟨_, y⟩⟩
        · rw [z]; exact Or.inl rfl
        · rw [y.2]
          refine Or.inl ?_
          show ab_w (ab_w (ab_w D 9 a b z) 7 a b 1) 8 a b (D 0 0 0) 4 c 0 = _
          rw [ab_wf (by decide), ab_wf (by decide), ab_wf (by decide)]
        · obtain ⟨y1, y7, y | y⟩ := ab_nwc y
          · exact Or.inl (y.2.1 c)
          · by_cases e : c = a
            · refine Or.inr ⟨?_, e, Or.inr ⟨hl, rfl, y1, y7, y.1, y.2.2.2.1, ?_, ?_⟩⟩
              · rw [y.2.1 c, if_pos e, e]
              · rw [y.2.2.1 a, if_pos rfl]
              · rw [y.2.1 a, if_pos rfl]
            · refine Or.inl ?_
              rw [y.2.1 c, if_neg e]
      · rw [ab_do3 (by omega)]
        exact Or.inl rfl
/-- the questions and TELLs that a step sends -/
def ab_o1 (u lv : Nat → Nat → Prop) (k a b : Nat) (x : ab_F) (D E : ab_D) (w : ab_F) : Prop :=
  w 0 = D 0 0 0 ∧ w 1 = a ∧ u a (w 2) ∧
    ((k = 1 ∧ x 3 = w 3 ∧ w 4 = x 4 ∧ w 5 = x 5 ∧ w 6 = x 6 ∧ w 7 = x 7 + 1 ∧ x 5 ≠ a ∧ (x 3 = 0 → w 8 = x 8 ∧ ¬ ab_sn a (x 4) (x 8) D) ∧ (x 3 = 1 → w 2 = E 1 a (x 5))) ∨
      (w 4 = a ∧ w 7 = 0 ∧ w 6 = E 4 a 0 ∧ E 4 a 0 = D 4 a 0 + 1 ∧
        ((k = 1 ∧ x 3 = 0 ∧ x 5 = a ∧ w 3 = 1 ∧ w 5 = x 4 ∧ ¬ ab_sn a (x 4) (x 8) D ∧ w 2 = E 1 a (x 4)) ∨ (lv a b ∧ ab_asks k a b D E ∧ w 3 = 0 ∧ w 5 = b ∧ w 8 = E 5 a 0))))
theorem ab_d1 {u lv : Nat → Nat → Prop} {cf ac : Nat → Nat → Nat} {k a b : Nat} {x w : ab_F} {D : ab_D} (h : (ab_do u lv cf ac k a b x D).2 w) (h3 : w 3 ≤ 1) :
    ab_o1 u lv k a b x D (ab_do u lv cf ac k a b x D).1 w := by
  by_cases h0 : k = 0
  · subst h0
    rw [ab_do0] at h
    exact absurd h (fun z => z)
  · by_cases h1 : k = 1
    · subst h1
      rw [ab_do1] at h ⊢
      obtain ⟨hu, y⟩ := ab_hho h
      rcases y with ⟨e3, es, e5, e⟩ | ⟨e3, es, e5, e, e4, e2⟩ | ⟨e3, e5, e, e2⟩ | ⟨e3, _, _, e, _⟩ | ⟨_, _, e, _⟩ | ⟨c, r, e, _⟩
      · refine ⟨by rw [e]; rfl, by rw [e]; rfl, hu, Or.inl ⟨rfl, ?_, ?_, ?_, ?_, ?_, e5, fun _ => ⟨?_, es⟩, fun z => ?_⟩⟩
        · rw [e3, e]; rfl
        · rw [e]; rfl
        · rw [e]; rfl
        · rw [e]; rfl
        · rw [e]; rfl
        · rw [e]; rfl
        · omega
      · refine ⟨by rw [e]; rfl, by rw [e]; rfl, hu, Or.inr ⟨?_, ?_, ?_, e4, Or.inl ⟨rfl, e3, e5, ?_, ?_, es, e2⟩⟩⟩
        · rw [e]; rfl
        · rw [e]; rfl
        · rw [e]; rfl
        · rw [e]; rfl
        · rw [e]; rfl
      · refine ⟨by rw [e]; rfl, by rw [e]; rfl, hu, Or.inl ⟨rfl, ?_, ?_, ?_, ?_, ?_, e5, fun z => ?_, fun _ => e2⟩⟩
        · rw [e3, e]; rfl
        · rw [e]; rfl
        · rw [e]; rfl
        · rw [e]; rfl
        · rw [e]; rfl
        · omega
      · have : w 3 = x 3 := by rw [e]; rfl
        omega
      · have : w 3 = 4 := by rw [e]; rfl
        omega
      · have : w 3 = 2 := by rw [e]; rfl
        omega
    · by_cases h2 : k = 2
      · subst h2
        rw [ab_do2] at h ⊢
        rcases ab_uc (u := u) (lv := lv) (cf := cf) (a := a) (b := b) (D := D) with ⟨z, _⟩ | ⟨hl, _, ⟨z, _, _, _, y⟩ | ⟨_, y⟩⟩
        · rw [z] at h
          exact absurd h (fun z => z)
        · rw [y.2] at h
          have e : w = ab_pt _ a (D 1 a b) (ab_fr 3 a b (cf a b) 0 8) := h
          have : w 3 = 3 := by rw [e]; rfl
          omega
        · obtain ⟨y1, y7, y | y⟩ := ab_nwc y
          · obtain ⟨r, _, e⟩ := y.2.2.2.2.2 w h
            have : w 3 = 2 := by rw [e]; rfl
            omega
          · rcases y.2.2.2.2.2.2.2 w h with ⟨r, hr, ur, e⟩ | ⟨r, _, e⟩
            · have e4 : (ab_u u lv cf a b D).1 4 a 0 = D 4 a 0 + 1 := by rw [y.2.1 a, if_pos rfl]
              have e5 : (ab_u u lv cf a b D).1 5 a 0 = D 5 a 0 + 1 := by rw [y.2.2.1 a, if_pos rfl]
              refine ⟨by rw [e]; rfl, by rw [e]; rfl, by rw [e]; exact ur, Or.inr ⟨?_, ?_, ?_, e4, Or.inr ⟨hl, ⟨rfl, y1, y7, y.1, y.2.2.2.1, e5, e4⟩, ?_, ?_, ?_⟩⟩⟩
              · rw [e]; rfl
              · rw [e]; rfl
              · rw [e, e4]; rfl
              · rw [e]; rfl
              · rw [e]; rfl
              · rw [e, e5]; rfl
            · have : w 3 = 2 := by rw [e]; rfl
              omega
      · rw [ab_do3 (by omega)] at h
        exact absurd h (fun z => z)
