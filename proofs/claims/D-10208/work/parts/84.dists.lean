/-! ## distances in a graph of eight stations -/
/-- a walk of k links from c to v -/
def rg_w (u : Nat → Nat → Prop) (c : Nat) : Nat → Nat → Prop
  | 0, v => v = c
  | k + 1, v => ∃ p, rg_w u c k p ∧ u p v
theorem rg_f {u : Nat → Nat → Prop} {c p v : Nat} (h : u c p) : ∀ k v, rg_w u p k v → rg_w u c (k + 1) v := by
  intro k
  induction k with
  | zero => intro v e; exact ⟨c, rfl, by rw [show v = p from e]; exact h⟩
  | succ k ih => intro v ⟨q, q1, q2⟩; exact ⟨q, ih q q1, q2⟩
theorem rg_s {u : Nat → Nat → Prop} (hs : ∀ p q, u p q → u q p) : ∀ k c v, rg_w u c k v → rg_w u v k c := by
  intro k
  induction k with
  | zero => intro c v e; exact (show v = c from e).symm
  | succ k ih => intro c v ⟨q, q1, q2⟩; exact rg_f (v := c) (hs q v q2) k c (ih c q q1)
theorem rg_t {u : Nat → Nat → Prop} {c p : Nat} {i : Nat} (h : rg_w u c i p) : ∀ k v, rg_w u p k v → rg_w u c (i + k) v := by
  intro k
  induction k with
  | zero => intro v e; rw [show v = p from e]; exact h
  | succ k ih => intro v ⟨q, q1, q2⟩; exact ⟨q, ih q q1, q2⟩
/-- the stations of a walk -/
theorem rg_p {u : Nat → Nat → Prop} {c : Nat} : ∀ k v, rg_w u c k v → ∃ f : Nat → Nat, ∀ i, i ≤ k → rg_w u c i (f i) ∧ rg_w u (f i) (k - i) v ∧ (1 ≤ i → ∃ q, u q (f i)) := by
  intro k
  induction k with
  | zero =>
    intro v e
    refine ⟨fun _ => c, fun i hi => ?_⟩
    have : i = 0 := by omega
    subst this
    exact ⟨rfl, e, fun z => absurd z (by omega)⟩
  | succ k ih =>
    intro v ⟨q, q1, q2⟩
    obtain ⟨f, hf⟩ := ih q q1
    refine ⟨fun i => if i ≤ k then f i else v, fun i hi => ?_⟩
    by_cases e : i ≤ k
    · obtain ⟨a1, a2, a3⟩ := hf i e
      have ef : (if i ≤ k then f i else v) = f i := if_pos e
      show rg_w u c i (if i ≤ k then f i else v) ∧ rg_w u (if i ≤ k then f i else v) (k + 1 - i) v ∧ (1 ≤ i → ∃ q, u q (if i ≤ k then f i else v))
      rw [ef]
      exact ⟨a1, by rw [show k + 1 - i = (k - i) + 1 by omega]; exact ⟨q, a2, q2⟩, a3⟩
    · have : i = k + 1 := by omega
      have ef : (if i ≤ k then f i else v) = v := if_neg e
      show rg_w u c i (if i ≤ k then f i else v) ∧ rg_w u (if i ≤ k then f i else v) (k + 1 - i) v ∧ (1 ≤ i → ∃ q, u q (if i ≤ k then f i else v))
      rw [ef, this]
      exact ⟨⟨q, q1, q2⟩, by rw [Nat.sub_self]; exact rfl, fun _ => ⟨q, q2⟩⟩
theorem rg_m {P : Nat → Prop} : ∀ n, P n → ∃ k, P k ∧ ∀ j, j < k → ¬ P j := by
  intro n
  induction n using Nat.strongRecOn with
  | ind n ih =>
    intro h
    by_cases e : ∃ j, j < n ∧ P j
    · obtain ⟨j, j1, j2⟩ := e
      exact ih j j1 j2
    · exact ⟨n, h, fun j hj hp => e ⟨j, hj, hp⟩⟩
/-- a shortest walk makes seven links at most -/
theorem rg_7 {u : Nat → Nat → Prop} (h8 : ∀ p q, u p q → p < 8 ∧ q < 8) {c v k : Nat} (hw : rg_w u c k v) (hm : ∀ j, j < k → ¬ rg_w u c j v) : k ≤ 7 := by
  by_cases e : k ≤ 7
  · exact e
  · exfalso
    obtain ⟨f, hf⟩ := rg_p k v hw
    have c8 : c < 8 := by
      obtain ⟨p, p1, p2⟩ := (hf 1 (by omega)).1
      rw [show p = c from p1] at p2
      exact (h8 _ _ p2).1
    have lt : ∀ i, i < 9 → f i < 8 := by
      intro i hi
      by_cases z : i = 0
      · rw [z, show f 0 = c from (hf 0 (by omega)).1]
        exact c8
      · obtain ⟨q, hq⟩ := (hf i (by omega)).2.2 (by omega)
        exact (h8 _ _ hq).2
    have inj : ∀ i j, i < 9 → j < 9 → f i = f j → i = j := by
      have one : ∀ i j, i < j → j < 9 → f i ≠ f j := by
        intro i j hij hj he
        refine hm (i + (k - j)) (by omega) ?_
        exact rg_t (hf i (by omega)).1 _ _ (by rw [he]; exact (hf j (by omega)).2.1)
      intro i j hi hj he
      rcases Nat.lt_trichotomy i j with z | z | z
      · exact absurd he (one i j z hj)
      · exact z
      · exact absurd he.symm (one j i z hi)
    have := ab_inj 8 9 f lt inj
    omega
theorem rg_e (u : Nat → Nat → Prop) (c v : Nat) : ∃ k, (rg_w u c k v ∧ ∀ j, j < k → ¬ rg_w u c j v) ∨ (k = 100 ∧ ∀ j, ¬ rg_w u c j v) := by
  by_cases e : ∃ n, rg_w u c n v
  · obtain ⟨n, hn⟩ := e
    obtain ⟨k, h⟩ := rg_m (P := fun n => rg_w u c n v) n hn
    exact ⟨k, Or.inl h⟩
  · exact ⟨100, Or.inr ⟨rfl, fun j hj => e ⟨j, hj⟩⟩⟩
noncomputable def rg_d (u : Nat → Nat → Prop) (c v : Nat) : Nat := Classical.choose (rg_e u c v)
theorem rg_c (u : Nat → Nat → Prop) (c v : Nat) : (rg_w u c (rg_d u c v) v ∧ ∀ j, j < rg_d u c v → ¬ rg_w u c j v) ∨ (rg_d u c v = 100 ∧ ∀ j, ¬ rg_w u c j v) := Classical.choose_spec (rg_e u c v)
theorem rg_le {u : Nat → Nat → Prop} {c v k : Nat} (h : rg_w u c k v) : rg_d u c v ≤ k ∧ rg_w u c (rg_d u c v) v := by
  rcases rg_c u c v with ⟨a, b⟩ | ⟨_, b⟩
  · refine ⟨?_, a⟩
    by_cases e : rg_d u c v ≤ k
    · exact e
    · exact absurd h (b k (by omega))
  · exact absurd h (b k)
/-- THE DISTANCES ARE SUCH as the runs ask for -/
theorem rg_G {u : Nat → Nat → Prop} (hu : ∀ p q, u p q → u q p ∧ p < 8 ∧ q < 8 ∧ p ≠ q) : ab_G u (rg_d u) := by
  have hs : ∀ p q, u p q → u q p := fun p q h => (hu p q h).1
  have h7 : ∀ c v, rg_d u c v ≤ 7 ∨ rg_d u c v = 100 := by
    intro c v
    rcases rg_c u c v with ⟨a, b⟩ | ⟨a, _⟩
    · exact Or.inl (rg_7 (fun p q h => ⟨(hu p q h).2.1, (hu p q h).2.2.1⟩) a b)
    · exact Or.inr a
  refine ⟨fun c => ?_, fun c p q h => ?_, fun c v => ?_, fun c v h => ?_, fun c v h1 h2 => ?_, hu, h7⟩
  · have := (rg_le (u := u) (c := c) (v := c) (k := 0) rfl).1
    omega
  · rcases rg_c u c p with ⟨a, _⟩ | ⟨a, b⟩
    · exact (rg_le (show rg_w u c (rg_d u c p + 1) q from ⟨p, a, h⟩)).1
    · rcases h7 c q with z | z <;> omega
  · rcases rg_c u c v with ⟨a, b⟩ | ⟨a, b⟩
    · have h1 := rg_le (rg_s hs _ _ _ a)
      have h2 := (rg_le (rg_s hs _ _ _ h1.2)).1
      omega
    · rcases rg_c u v c with ⟨a', _⟩ | ⟨a', _⟩
      · exact absurd (rg_s hs _ _ _ a') (b _)
      · omega
  · rcases rg_c u c v with ⟨a, _⟩ | ⟨a, _⟩
    · rw [h] at a
      exact (show v = c from a).symm
    · omega
  · rcases rg_c u c v with ⟨a, b⟩ | ⟨a, _⟩
    · obtain ⟨k, hk⟩ : ∃ k, rg_d u c v = k + 1 := ⟨rg_d u c v - 1, by omega⟩
      rw [hk] at a
      obtain ⟨p, p1, p2⟩ := a
      refine ⟨p, p2, ?_⟩
      have e1 := (rg_le p1).1
      have e2 := (rg_le (show rg_w u c (rg_d u c p + 1) v from ⟨p, (rg_le p1).2, p2⟩)).1
      omega
    · omega
