/-! ## distances and walks -/
def ab_G (u : Nat → Nat → Prop) (d : Nat → Nat → Nat) : Prop :=
  (∀ c, d c c = 0) ∧ (∀ c p q, u p q → d c q ≤ d c p + 1) ∧ (∀ c v, d c v = d v c) ∧ (∀ c v, d c v = 0 → c = v) ∧
    (∀ c v, 0 < d c v → d c v ≤ 7 → ∃ p, u p v ∧ d c p + 1 = d c v) ∧ (∀ p q, u p q → u q p ∧ p < 8 ∧ q < 8 ∧ p ≠ q) ∧ (∀ c v, d c v ≤ 7 ∨ d c v = 100)
theorem ab_gd7 {u : Nat → Nat → Prop} {d : Nat → Nat → Nat} (h : ab_G u d) (g c : Nat) : ∀ k v, ab_gd u g c k v → d c v ≤ 7 := by
  intro k
  induction k with
  | zero => intro v hv; rw [show v = c from hv, h.1]; omega
  | succ k ih =>
    intro v ⟨p, hp, _, hu⟩
    have := ih p hp
    have := h.2.1 c p v hu
    rcases h.2.2.2.2.2.2 c v with z | z <;> omega
theorem ab_tri {u : Nat → Nat → Prop} {d : Nat → Nat → Nat} (h : ab_G u d) (a b : Nat) : ∀ k c, d b c = k → k ≤ 7 → d a c ≤ d a b + k := by
  intro k
  induction k with
  | zero =>
    intro c hc _
    rw [h.2.2.2.1 b c hc]
    exact Nat.le_refl _
  | succ k ih =>
    intro c hc hk
    obtain ⟨p, hu, hp⟩ := h.2.2.2.2.1 b c (by omega) (by omega)
    have := ih p (by omega) (by omega)
    have := h.2.1 a p c hu
    omega
theorem ab_gdd {u : Nat → Nat → Prop} {d : Nat → Nat → Nat} (h : ab_G u d) (g c : Nat) : ∀ k v, ab_gd u g c k v → d c v ≤ k := by
  intro k
  induction k with
  | zero => intro v hv; rw [show v = c from hv, h.1]; exact Nat.le_refl _
  | succ k ih =>
    intro v ⟨p, hp, _, hu⟩
    have := ih p hp
    have := h.2.1 c p v hu
    omega
theorem ab_gdb {u : Nat → Nat → Prop} {d : Nat → Nat → Nat} (h : ab_G u d) (g c : Nat) : ∀ k v, d c v = k → k ≤ 7 → k ≤ d c g → ab_gd u g c k v := by
  intro k
  induction k with
  | zero => intro v hv _ _; exact (h.2.2.2.1 c v hv).symm
  | succ k ih =>
    intro v hv h7 hg
    obtain ⟨p, hu, hp⟩ := h.2.2.2.2.1 c v (by omega) (by omega)
    refine ⟨p, ih p (by omega) (by omega) (by omega), ?_, hu⟩
    intro e
    rw [e] at hp
    omega
theorem ab_gdn {u : Nat → Nat → Prop} {d : Nat → Nat → Nat} {g c p v : Nat} (hp : ab_gd u g c (d c p) p) (hn : p ≠ g) (hu : u p v) (hd : d c v = d c p + 1) : ab_gd u g c (d c v) v := by
  rw [hd]
  exact ⟨p, hp, hn, hu⟩
/-- down a geodesic that leaves g out -/
theorem ab_gdw {u : Nat → Nat → Prop} {d : Nat → Nat → Nat} {g c v k : Nat} (h : ab_G u d) (hv : ab_gd u g c (d c v) v) (hk : d c v = k + 1) : ∃ p, ab_gd u g c (d c p) p ∧ d c p = k ∧ p ≠ g ∧ u p v := by
  rw [hk] at hv
  obtain ⟨p, hp, hn, hu⟩ := hv
  have h1 := ab_gdd h g c k p hp
  have h2 := h.2.1 c p v hu
  have e : d c p = k := by omega
  exact ⟨p, by rw [e]; exact hp, e, hn, hu⟩
/-- every level below a station holds a station -/
theorem ab_lev {u : Nat → Nat → Prop} {d : Nat → Nat → Nat} (h : ab_G u d) (c : Nat) : ∀ k v, d c v = k → k ≤ 7 → v < 8 → ∀ j, j ≤ k → ∃ p, p < 8 ∧ d c p = j := by
  intro k
  induction k with
  | zero => intro v hv _ h8 j hj; exact ⟨v, h8, by omega⟩
  | succ k ih =>
    intro v hv h7 h8 j hj
    by_cases e : j = k + 1
    · exact ⟨v, h8, by omega⟩
    · obtain ⟨p, hu, hp⟩ := h.2.2.2.2.1 c v (by omega) (by omega)
      exact ih p (by omega) (by omega) (h.2.2.2.2.2.1 p v hu).2.1 j (by omega)
/-- a walk round g ends at a station with a geodesic round g, or meets one on level d c g + 1 or beyond -/
theorem ab_gb {u : Nat → Nat → Prop} {d : Nat → Nat → Nat} (h : ab_G u d) (g c : Nat) (hc : ∀ v, d c v ≤ 7 ∨ ∀ k, ¬ ab_gd u g c k v) : ∀ k v, ab_gd u g c k v → ab_gd u g c (d c v) v ∨ ∃ b, ab_gd u g c (d c b) b ∧ d c g + 1 ≤ d c b := by
  intro k
  induction k with
  | zero => intro v hv; refine Or.inl ?_; rw [show v = c from hv, h.1]; rfl
  | succ k ih =>
    intro v ⟨p, hp, hn, hu⟩
    rcases ih p hp with z | z
    · by_cases e : d c v = d c p + 1
      · exact Or.inl (ab_gdn z hn hu e)
      · have := h.2.1 c p v hu
        by_cases e2 : d c v ≤ d c g
        · rcases hc v with y | y
          · exact Or.inl (ab_gdb h g c _ v rfl y e2)
          · exact absurd ⟨p, hp, hn, hu⟩ (y (k + 1))
        · exact Or.inr ⟨p, z, by omega⟩
    · exact Or.inr z
/-- a station beyond g all of whose geodesics meet g: there is such a one on every level behind g -/
theorem ab_bad {u : Nat → Nat → Prop} {d : Nat → Nat → Nat} (h : ab_G u d) (g c : Nat) : ∀ k v, d c v = k → k ≤ 7 → v < 8 → ¬ ab_gd u g c (d c v) v → d c g + 1 ≤ k → ∃ p, p < 8 ∧ d c p = d c g + 1 ∧ ¬ ab_gd u g c (d c p) p := by
  intro k
  induction k with
  | zero => intro v _ _ _ _ hg; omega
  | succ k ih =>
    intro v hv h7 h8 hb hg
    by_cases e : d c g + 1 = k + 1
    · exact ⟨v, h8, by omega, hb⟩
    · obtain ⟨p, hu, hp⟩ := h.2.2.2.2.1 c v (by omega) (by omega)
      have hn : p ≠ g := fun z => by rw [z] at hp; omega
      exact ih p (by omega) (by omega) (h.2.2.2.2.2.1 p v hu).2.1 (fun z => hb (ab_gdn z hn hu (by omega))) (by omega)
/-- THE COUNT: a station v that a walk round g reaches, but no geodesic round g, and a station on level L >= d c v: L + 3 stations -/
theorem ab_cnt {u : Nat → Nat → Prop} {d : Nat → Nat → Nat} {g c v r k L : Nat} (h : ab_G u d) (hg8 : g < 8) (h7 : ∀ p, p < 8 → d c p ≤ 7 ∨ ∀ k, ¬ ab_gd u g c k p) (hv : v < 8) (hv7 : d c v ≤ 7) (hr : r < 8) (hrL : d c r = L) (hL : L ≤ 7)
    (hw : ab_gd u g c k v) (hb : ¬ ab_gd u g c (d c v) v) (hc8 : c < 8) : L + 3 ≤ 8 ∧ d c g + 1 ≤ d c v := by
  have hvg : d c g + 1 ≤ d c v := by
    by_cases e : d c v ≤ d c g
    · exact absurd (ab_gdb h g c _ v rfl hv7 e) hb
    · omega
  refine ⟨?_, hvg⟩
  have hc : ∀ v, d c v ≤ 7 ∨ ∀ k, ¬ ab_gd u g c k v := by
    intro v
    by_cases e : v < 8
    · exact h7 v e
    · refine Or.inr (fun k => ?_)
      cases k with
      | zero => intro z; exact e (by rw [show v = c from z]; exact hc8)
      | succ k => intro ⟨p, _, _, hu⟩; exact e (h.2.2.2.2.2.1 p v hu).2.2.1
  rcases ab_gb h g c hc k v hw with z | ⟨b, hb1, hb2⟩
  · exact absurd z hb
  · -- a good station on level d c g + 1, and one below it
    have good : ∀ n b, ab_gd u g c (d c b) b → d c b = d c g + 1 + n → ∃ b, ab_gd u g c (d c b) b ∧ d c b = d c g + 1 := by
      intro n
      induction n with
      | zero => intro b h1 h2; exact ⟨b, h1, h2⟩
      | succ n ih =>
        intro b h1 h2
        obtain ⟨p, p1, p2, _, _⟩ := ab_gdw (k := d c g + 1 + n) h h1 (by omega)
        exact ih p p1 p2
    obtain ⟨b1, g1, l1⟩ := good (d c b - (d c g + 1)) b hb1 (by omega)
    obtain ⟨b0, g0, l0, n0, u0⟩ := ab_gdw (k := d c g) h g1 l1
    obtain ⟨q, q8, ql, qb⟩ := ab_bad h g c _ v rfl hv7 hv hb hvg
    have hb18 : b1 < 8 := (h.2.2.2.2.2.1 b0 b1 u0).2.2.1
    have hb08 : b0 < 8 := (h.2.2.2.2.2.1 b0 b1 u0).2.1
    have hqb : q ≠ b1 := fun z => qb (by rw [z]; exact g1)
    have lv := ab_lev h c L r hrL hL hr
    -- the stations: one a level, and two more
    have hch : ∃ f : Nat → Nat, ∀ i, i ≤ L → f i < 8 ∧ d c (f i) = i := by
      refine ⟨fun i => @dite _ (∃ p, p < 8 ∧ d c p = i) (Classical.propDecidable _) (fun z => Classical.choose z) (fun _ => 0), fun i hi => ?_⟩
      have z := lv i hi
      show (@dite _ (∃ p, p < 8 ∧ d c p = i) (Classical.propDecidable _) (fun z => Classical.choose z) (fun _ => 0)) < 8 ∧ d c (@dite _ (∃ p, p < 8 ∧ d c p = i) (Classical.propDecidable _) (fun z => Classical.choose z) (fun _ => 0)) = i
      rw [dif_pos z]
      exact Classical.choose_spec z
    obtain ⟨f, hf⟩ := hch
    have x0 : ∃ y, y < 8 ∧ d c y = d c g ∧ y ≠ f (d c g) := by
      by_cases e : g = f (d c g)
      · exact ⟨b0, hb08, l0, fun z => n0 (by rw [z, ← e])⟩
      · exact ⟨g, hg8, rfl, e⟩
    have x1 : ∃ y, y < 8 ∧ d c y = d c g + 1 ∧ y ≠ f (d c g + 1) := by
      by_cases e : q = f (d c g + 1)
      · exact ⟨b1, hb18, l1, fun z => hqb (by rw [z, ← e])⟩
      · exact ⟨q, q8, ql, e⟩
    obtain ⟨y0, a0, a1, a2⟩ := x0
    obtain ⟨y1, c0, c1, c2⟩ := x1
    refine ab_inj 8 (L + 3) (fun i => if i ≤ L then f i else if i = L + 1 then y0 else y1) ?_ ?_
    · intro i hi
      show (if i ≤ L then f i else if i = L + 1 then y0 else y1) < 8
      split
      · rename_i e; exact (hf i e).1
      · split
        · exact a0
        · exact c0
    · intro i j hi hj
      show (if i ≤ L then f i else if i = L + 1 then y0 else y1) = (if j ≤ L then f j else if j = L + 1 then y0 else y1) → i = j
      intro z
      have K : ∀ i, i ≤ L → ∀ y l, d c y = l → y ≠ f l → f i ≠ y := by
        intro i hi y l hl hn e
        have := (hf i hi).2
        rw [e] at this
        have : i = l := by omega
        rw [this] at e
        exact hn e.symm
      by_cases ei : i ≤ L
      · by_cases ej : j ≤ L
        · rw [if_pos ei, if_pos ej] at z
          have h1 := (hf i ei).2
          have h2 := (hf j ej).2
          rw [z] at h1
          omega
        · rw [if_pos ei, if_neg ej] at z
          by_cases e2 : j = L + 1
          · rw [if_pos e2] at z
            exact absurd z (K i ei y0 _ a1 a2)
          · rw [if_neg e2] at z
            exact absurd z (K i ei y1 _ c1 c2)
      · by_cases ej : j ≤ L
        · rw [if_neg ei, if_pos ej] at z
          by_cases e2 : i = L + 1
          · rw [if_pos e2] at z
            exact absurd z.symm (K j ej y0 _ a1 a2)
          · rw [if_neg e2] at z
            exact absurd z.symm (K j ej y1 _ c1 c2)
        · rw [if_neg ei, if_neg ej] at z
          by_cases e1 : i = L + 1
          · by_cases e2 : j = L + 1
            · omega
            · rw [if_pos e1, if_neg e2] at z
              rw [z] at a1
              omega
          · by_cases e2 : j = L + 1
            · rw [if_neg e1, if_pos e2] at z
              rw [← z] at a1
              omega
            · omega
/-! ## questions: exact links -/
def ab_ask (Z : ab_Z) (j c g : Nat) : Prop := ab_zs Z j = c ∧ ab_zp Z j = g ∧ ab_zl Z c g ∧ ab_asks (ab_zK Z j) c g (ab_zD Z j) (ab_zD Z (j + 1))
/-- the asking behind a hearing of a fresh question -/
theorem ab_hask {Z : ab_Z} {d : Nat → Nat → Nat} {N i : Nat} {lm : Nat} (h : ab_RL lm Z d N) (hi : i < N) (hk : ab_zK Z i = 1) (h3 : ab_zX Z i 3 = 0) (hr : ab_rc Z (ab_zX Z i)) :
    ∃ j, j < i ∧ ab_ask Z j (ab_zX Z i 4) (ab_zX Z i 5) ∧ ab_zX Z i 6 = ab_zD Z (j + 1) 4 (ab_zX Z i 4) 0 ∧ ab_zX Z i 8 = ab_zD Z (j + 1) 5 (ab_zX Z i 4) 0 ∧ ab_zn Z i = ab_zn Z j + ab_zX Z i 7 + 1 := by
  obtain ⟨m, hm, hom, t0, t1, t2, tu⟩ := ab_hrc h hi hk hr
  obtain ⟨b, hb, b1, b2, b3, b4, b5⟩ := ab_fbI h m (by omega) _ hom hr
  rcases b5 with ⟨_, z1, z2, z3, z4⟩ | z
  · exact ⟨b, by omega, ⟨b1, z2, z1, z3⟩, b4.symm, z4.symm, by omega⟩
  · omega
theorem ab_qf {Z : ab_Z} {d : Nat → Nat → Nat} {N j c g : Nat} {lm : Nat} (h : ab_RL lm Z d N) (hj : j < N) (ha : ab_ask Z j c g) : ab_zD Z 0 5 c 0 < ab_zD Z (j + 1) 5 c 0 ∧ ab_zD Z 0 4 c 0 < ab_zD Z (j + 1) 4 c 0 ∧ ab_zD Z j 4 c 0 + 1 = ab_zD Z (j + 1) 4 c 0 := by
  have h1 := ab_qm (c := c) h (Nat.zero_le j) (by omega)
  have h2 := ab_ownm (c := c) h (Nat.zero_le j) (by omega)
  have h3 := ha.2.2.2.2.2.2.2.2.1
  have h4 := ha.2.2.2.2.2.2.2.2.2
  exact ⟨by omega, by omega, by omega⟩
theorem ab_qx {Z : ab_Z} {d : Nat → Nat → Nat} {N i j c g v k : Nat} (h : ab_R Z d N) (hL : ab_L Z N) (hj : j < N) (ha : ab_ask Z j c g) (hi : i ≤ N) (hn : ab_zD Z i 3 v c = ab_zD Z (j + 1) 4 c 0)
    (hw : ab_gd (ab_zu Z) g c k v) : ab_zD Z i 2 v c ≤ k := by
  obtain ⟨q1, q2, q3⟩ := ab_qf h hj ha
  obtain ⟨m, hm, s1, s2, s3, s4, s5, s6, s7, s8⟩ := ab_srcI h i hi v c (by omega)
  have h3 : ab_zX Z m 3 ≤ 1 := by rcases s3 with ⟨z, _⟩ | z <;> omega
  have hr : ab_rc Z (ab_zX Z m) := ⟨h3, Or.inl (by rw [s4]; omega)⟩
  obtain ⟨r, hr1, hor, t0, t1, t2, tu⟩ := ab_hrc h (by omega) s1 hr
  obtain ⟨b, hb, b1, b2, b3, b4, b5⟩ := ab_fbI h r (by omega) _ hor hr
  rw [s4] at b1 b3 b4
  have eb : b = j := ab_bone (n := ab_zD Z (j + 1) 4 c 0) h (by omega) hj (by omega) (by omega) q3 rfl
  subst eb
  rcases b5 with ⟨z0, _, _, _, z4⟩ | ⟨_, z, _⟩
  · rw [s4] at z4
    have hf : ab_fst Z m v c (ab_zD Z (b + 1) 5 c 0) := by
      refine ⟨s1, s2, z0, s4, z4.symm, ?_⟩
      rcases s3 with ⟨_, y⟩ | y
      · rw [z4]; exact y
      · omega
    by_cases ht : ab_zn Z b + k + 1 ≤ ab_zn Z N
    · obtain ⟨f, _, hfN, hf2, hfn, _⟩ := ab_flood h hL hj ha.1 ha.2.1 ha.2.2.2 k v hw s8 ht
      have e := ab_fsu h q1 (by omega) hfN hf hf2
      subst e
      omega
    · have := ab_nowm h (show m ≤ N by omega) (Nat.le_refl _)
      omega
  · have := ha.2.2.2.1
    omega
/-- a question's trail is a walk round its goal -/
theorem ab_atr {Z : ab_Z} {d : Nat → Nat → Nat} {N : Nat} {lm : Nat} (h : ab_RL lm Z d N) (hl : ∀ a b, ab_zl Z a b → a ≠ b) : ∀ i, i < N → ∀ w, ab_zO Z i w → w 3 = 0 → ab_rc Z w → ab_gd (ab_zu Z) (w 5) (w 4) (w 7) (w 1) ∧ w 1 ≠ w 5 := by
  intro i
  induction i using Nat.strongRecOn with
  | ind i ih =>
    intro hi w ho h3 hr
    obtain ⟨e0, e1, hu, y⟩ := ab_d1 ho hr.1
    rcases y with ⟨hk, e3, e4, e5, e6, e7, eg, y0, y1⟩ | ⟨e4, e7, e6, es, y⟩
    · have hx3 : ab_zX Z i 3 = 0 := by omega
      have hx : ab_rc Z (ab_zX Z i) := by
        unfold ab_rc at hr ⊢
        rw [e3, ← e4, ← e6, ← (y0 hx3).1]
        exact hr
      obtain ⟨j, hj, hoj, t0, t1, t2, tu⟩ := ab_hrc h hi hk hx
      obtain ⟨b1, b2⟩ := ih j hj (by omega) _ hoj hx3 hx
      rw [e4, e5, e7, e1]
      refine ⟨⟨ab_zX Z i 1, b1, b2, ?_⟩, fun z => eg z.symm⟩
      rw [t1]
      exact tu
    · rw [e4, e7, e1]
      refine ⟨rfl, ?_⟩
      rcases y with ⟨_, _, _, w3, _⟩ | ⟨lv, _, _, w5, _⟩
      · omega
      · rw [w5]; exact hl _ _ lv
theorem ab_hatr {Z : ab_Z} {d : Nat → Nat → Nat} {N i : Nat} {lm : Nat} (h : ab_RL lm Z d N) (hl : ∀ a b, ab_zl Z a b → a ≠ b) (hi : i < N) (hk : ab_zK Z i = 1) (h3 : ab_zX Z i 3 = 0) (hr : ab_rc Z (ab_zX Z i)) :
    ab_gd (ab_zu Z) (ab_zX Z i 5) (ab_zX Z i 4) (ab_zX Z i 7 + 1) (ab_zs Z i) := by
  obtain ⟨j, hj, hoj, t0, t1, t2, tu⟩ := ab_hrc h hi hk hr
  obtain ⟨b1, b2⟩ := ab_atr h hl j (by omega) _ hoj h3 hr
  exact ⟨ab_zX Z i 1, b1, b2, by rw [t1]; exact tu⟩
/-! ## TELLs -/
/-- a TELL of c to z, born at step j, asked for at step a -/
def ab_tb (Z : ab_Z) (d : Nat → Nat → Nat) (j a c z : Nat) : Prop := a < j ∧ ab_ask Z a z c ∧ ab_zK Z j = 1 ∧ ab_zs Z j = c ∧ ab_zX Z j 3 = 0 ∧ ab_zX Z j 4 = z ∧ ab_zX Z j 5 = c ∧ ab_zX Z j 6 = ab_zD Z (a + 1) 4 z 0 ∧
  ab_zn Z j = ab_zn Z a + d z c ∧ d z c ≤ 7 ∧ ¬ ab_sn c z (ab_zX Z j 8) (ab_zD Z j)
/-- late questions are from this run -/
def ab_q20 (Z : ab_Z) (N : Nat) : Prop := ∀ i, i < N → ab_zK Z i = 1 → ab_zX Z i 3 = 0 → ab_zn Z 0 + 10 ≤ ab_zn Z i → ab_zD Z 0 5 (ab_zX Z i 4) 0 < ab_zX Z i 8
theorem ab_q20I {Z : ab_Z} {d : Nat → Nat → Nat} {N : Nat} {lm : Nat} (h : ab_RL lm Z d N) : ab_q20 Z N := by
  intro i hi hk h3 ht
  obtain ⟨j, j1, j2, j3, j4, _⟩ := ab_life h hi hk h3 ht
  have := ab_qm (c := ab_zX Z i 4) h (Nat.zero_le j) (by omega)
  have := j3.2.2.2.2.2.1
  rw [j2] at this
  omega
theorem ab_tbI {Z : ab_Z} {d : Nat → Nat → Nat} {N j : Nat} {w : ab_F} {lm : Nat} (h : ab_RL lm Z d N) (hL : ab_L Z N) (hG : ab_G (ab_zu Z) d) (hl : ∀ a b, ab_zl Z a b → a ≠ b) (hq : ab_q20 Z N) (hj : j < N) (hb : ab_bth Z j w) (h3 : w 3 = 1)
    (ht : ab_zn Z 0 + 10 ≤ ab_zn Z j) : ∃ a, ab_tb Z d j a (w 4) (w 5) := by
  obtain ⟨b1, b2, b3, b4, b5⟩ := hb
  rcases b5 with ⟨z, _⟩ | ⟨_, z1, z2, z3, z4, z5⟩
  · omega
  · have hf := hq j hj z1 z2 ht
    have hr : ab_rc Z (ab_zX Z j) := ⟨by omega, Or.inr ⟨z2, hf⟩⟩
    obtain ⟨a, ha, a1, a2, a3, a4⟩ := ab_hask h hj z1 z2 hr
    have hw := ab_hatr h hl hj z1 z2 hr
    rw [z4, z3, b1] at hw
    have h7 : d (w 5) (w 4) ≤ 7 := ab_gd7 hG _ _ _ _ hw
    have hd := ab_gdd hG _ _ _ _ hw
    rw [z4, z3] at a1
    rw [z4] at a2 a3
    have hne : w 4 ≠ w 5 := fun z => hl _ _ a1.2.2.1 z.symm
    refine ⟨a, ha, a1, z1, b1, z2, z4, z3, a2, ?_, h7, z5⟩
    have hg := ab_gdb hG (w 4) (w 5) _ (w 4) rfl h7 (Nat.le_refl _)
    by_cases hN : ab_zn Z a + d (w 5) (w 4) + 1 ≤ ab_zn Z N
    · obtain ⟨f, _, hfN, hf2, hfn, _⟩ := ab_flood h hL (show a < N by omega) a1.1 a1.2.1 a1.2.2.2 _ (w 4) hg hne hN
      have hff : ab_fst Z j (w 4) (w 5) (ab_zD Z (a + 1) 5 (w 5) 0) := ⟨z1, b1, z2, z4, a3, by rw [← a3]; exact z5⟩
      have e := ab_fsu h (ab_qf h (show a < N by omega) a1).1 hj hfN hff hf2
      subst e
      omega
    · have := ab_nowm h (show j ≤ N by omega) (Nat.le_refl _)
      omega
/-- the pointer that a TELL follows is as new as the question -/
theorem ab_tnr {Z : ab_Z} {d : Nat → Nat → Nat} {N j a c z : Nat} (h : ab_R Z d N) (hl : ∀ a b, ab_zl Z a b → a ≠ b) (hj : j < N) (ht : ab_tb Z d j a c z) : ∀ i, i < N → ∀ w, ab_zO Z i w → w 3 = 1 → ab_rc Z w → ab_bth Z j w → w 4 = c → w 5 = z →
    w 2 = ab_zD Z (i + 1) 1 (w 1) z ∧ ab_zD Z (a + 1) 4 z 0 ≤ ab_zD Z (i + 1) 3 (w 1) z ∧ w 1 ≠ z ∧ ab_zu Z (w 1) (w 2) ∧ (w 7 = 0 → i = j) := by
  intro i
  induction i using Nat.strongRecOn with
  | ind i ih =>
    intro hi w ho h3 hr hb e4c e5z
    have hY : ab_zD Z (i + 1) = (ab_zY Z i).1 := h.1 i hi
    have hne : c ≠ z := fun e => hl _ _ ht.2.1.2.2.1 e.symm
    obtain ⟨e0, e1, hu, y⟩ := ab_d1 ho hr.1
    have hu' : ab_zu Z (w 1) (w 2) := by rw [e1]; exact hu
    rcases y with ⟨hk, e3, e4, e5, e6, e7, eg, y0, y1⟩ | ⟨e4, e7, e6, es, y⟩
    · have hx3 : ab_zX Z i 3 = 1 := by omega
      have hx : ab_rc Z (ab_zX Z i) := by
        unfold ab_rc at hr ⊢
        rw [e3, ← e4, ← e6]
        refine ⟨hr.1, ?_⟩
        rcases hr.2 with z | z
        · exact Or.inl z
        · omega
      obtain ⟨m, hm, hom, t0, t1, t2, tu⟩ := ab_hrc h hi hk hx
      have hbx : ab_bth Z j (ab_zX Z i) := by
        obtain ⟨b, hbm, hbb⟩ := ab_fbI h m (by omega) _ hom hx
        have : b = j := by
          refine ab_bone (n := w 6) (c := w 4) h (by omega) hj ?_ ?_ hb.2.2.1 hb.2.2.2.1
          · rw [e4, e6]; exact hbb.2.2.1
          · rw [e4, e6]; exact hbb.2.2.2.1
        rw [← this]; exact hbb
      have := ih m hm (by omega) _ hom hx3 hx hbx (by rw [← e4]; exact e4c) (by rw [← e5]; exact e5z)
      have e2 : w 2 = ab_zD Z (i + 1) 1 (w 1) z := by
        rw [hY, e1, ← e5z, e5]
        exact y1 hx3
      have hw1 : w 1 ≠ z := by rw [e1, ← e5z, e5]; exact fun q => eg q.symm
      refine ⟨e2, ?_, hw1, hu', fun q => by omega⟩
      obtain ⟨p2, pn, pz, pu, _⟩ := this
      have hn0 := (ab_qf h (show a < N by have := ht.1; omega) ht.2.1).2.1
      have hwc := ab_wcI h (m + 1) (by omega) (ab_zX Z i 1) z (by omega)
      obtain ⟨t, _, _, _, _, _, _, hp⟩ := hwc
      have p28 : ab_zD Z (m + 1) 1 (ab_zX Z i 1) z ≠ 8 := by
        rw [← p2]
        have := (h.2.1 _ _ pu).2.2.1
        omega
      obtain ⟨_, _, q3⟩ := hp p28
      rw [← p2, t2] at q3
      rw [e1]
      rcases q3 with q3 | q3
      · exact absurd (by rw [e1]; exact q3) hw1
      · refine Nat.le_trans pn (Nat.le_trans q3 (ab_nrm h (by omega) (by omega)))
    · have e6' : w 6 = ab_zD Z (i + 1) 4 (ab_zs Z i) 0 := by rw [hY]; exact e6
      have es' : ab_zD Z (i + 1) 4 (ab_zs Z i) 0 = ab_zD Z i 4 (ab_zs Z i) 0 + 1 := by rw [hY]; exact es
      have eij : i = j := ab_bone (n := w 6) (c := w 4) h hi hj (by rw [e4]; omega) (by rw [e4]; omega) hb.2.2.1 hb.2.2.2.1
      subst eij
      rcases y with ⟨k1, x3, x5, w3, w5, sn, w2⟩ | ⟨_, _, w3, _⟩
      · refine ⟨?_, ?_, ?_, hu', fun _ => rfl⟩
        · rw [hY, e1, ← e5z, w5]; exact w2
        · obtain ⟨t1, t2, t3, t4, t5, t6, t7, t8, t9, t10, t11⟩ := ht
          have hc : (ab_zX Z i 3 = 0 ∧ ¬ ab_sn (ab_zs Z i) (ab_zX Z i 4) (ab_zX Z i 8) (ab_zD Z i)) ∨ ab_zX Z i 3 = 1 := Or.inl ⟨x3, sn⟩
          have := ab_hnr (u := ab_zu Z) (ac := ab_za Z) (s := ab_zs Z i) (p := ab_zp Z i) (x := ab_zX Z i) (D := ab_zD Z i) hc (by rw [t4, t6]; exact hne)
          rw [hY, e1, ← t8, ← t6]
          unfold ab_zY
          rw [k1, ab_do1]
          exact this
        · rw [e1, ← e4, e4c]; exact hne
      · omega
/-! ## bends of TELLs -/
def ab_be (Z : ab_Z) (d : Nat → Nat → Nat) (N c z j a i : Nat) (w : ab_F) : Prop :=
  i < N ∧ ab_zO Z i w ∧ w 3 = 1 ∧ w 4 = c ∧ w 5 = z ∧ ab_rc Z w ∧ ab_bth Z j w ∧ j < N ∧ ab_tb Z d j a c z ∧ w 7 + d z (w 1) = d z c ∧ d z (w 1) < ab_zD Z (i + 1) 2 (w 1) z
theorem ab_rcx {Z : ab_Z} {w x : ab_F} (hr : ab_rc Z w) (h3 : w 3 = 1) (e3 : x 3 = w 3) (e4 : w 4 = x 4) (e6 : w 6 = x 6) : ab_rc Z x := by
  unfold ab_rc at hr ⊢
  rw [e3, ← e4, ← e6]
  refine ⟨hr.1, ?_⟩
  rcases hr.2 with z | z
  · exact Or.inl z
  · omega
theorem ab_badp {Z : ab_Z} {d : Nat → Nat → Nat} {N j a c z : Nat} (h : ab_R Z d N) (hG : ab_G (ab_zu Z) d) (hl : ∀ a b, ab_zl Z a b → a ≠ b) (hj : j < N) (ht : ab_tb Z d j a c z) :
    ∀ i, i < N → ∀ w, ab_zO Z i w → w 3 = 1 → ab_rc Z w → ab_bth Z j w → w 4 = c → w 5 = z → w 7 + d z (w 1) ≠ d z c → ∃ i' w', ab_be Z d N c z j a i' w' ∧ ab_zn Z i' < ab_zn Z i := by
  intro i
  induction i using Nat.strongRecOn with
  | ind i ih =>
    intro hi w ho h3 hr hb e4c e5z hbad
    obtain ⟨e0, e1, hu, y⟩ := ab_d1 ho hr.1
    rcases y with ⟨hk, e3, e4, e5, e6, e7, eg, y0, y1⟩ | ⟨e4, e7, e6, es, y⟩
    · have hx3 : ab_zX Z i 3 = 1 := by omega
      have hx : ab_rc Z (ab_zX Z i) := ab_rcx hr h3 e3 e4 e6
      obtain ⟨m, hm, hom, t0, t1, t2, tu⟩ := ab_hrc h hi hk hx
      have hbx : ab_bth Z j (ab_zX Z i) := by
        obtain ⟨b, hbm, hbb⟩ := ab_fbI h m (by omega) _ hom hx
        have : b = j := by
          refine ab_bone (n := w 6) (c := w 4) h (by omega) hj ?_ ?_ hb.2.2.1 hb.2.2.2.1
          · rw [e4, e6]; exact hbb.2.2.1
          · rw [e4, e6]; exact hbb.2.2.2.1
        rw [← this]; exact hbb
      have x4 : ab_zX Z i 4 = c := by rw [← e4]; exact e4c
      have x5 : ab_zX Z i 5 = z := by rw [← e5]; exact e5z
      have m0 : ab_zn Z m = ab_zX Z i 0 := by
        obtain ⟨q, _⟩ := ab_d1 hom hx.1
        exact q.symm
      by_cases hg : ab_zX Z i 7 + d z (ab_zX Z i 1) = d z c
      · by_cases hs : d z (ab_zX Z i 1) < ab_zD Z (m + 1) 2 (ab_zX Z i 1) z
        · exact ⟨m, ab_zX Z i, ⟨by omega, hom, hx3, x4, x5, hx, hbx, hj, ht, hg, hs⟩, by omega⟩
        · exfalso
          obtain ⟨p2, pn, pz, pu, _⟩ := ab_tnr h hl hj ht m (by omega) _ hom hx3 hx hbx x4 x5
          have hn0 := (ab_qf h (show a < N by have := ht.1; omega) ht.2.1).2.1
          obtain ⟨t, _, _, _, _, _, _, hp⟩ := ab_wcI h (m + 1) (by omega) (ab_zX Z i 1) z (by omega)
          have p28 : ab_zD Z (m + 1) 1 (ab_zX Z i 1) z ≠ 8 := by
            rw [← p2]
            have := (h.2.1 _ _ pu).2.2.1
            omega
          obtain ⟨_, q2, _⟩ := hp p28
          rw [← p2] at q2
          have q4 := hG.2.1 z _ _ (h.2.1 _ _ pu).1
          rw [t2] at q2 q4
          rw [e1, e7] at hbad
          omega
      · obtain ⟨i', w', h1, h2⟩ := ih m hm (by omega) _ hom hx3 hx hbx x4 x5 hg
        exact ⟨i', w', h1, by omega⟩
    · exfalso
      apply hbad
      rw [e7, e1, ← e4, e4c]
      omega
/-- no question of z for g turns a TELL of c to z aside -/
def ab_NB (Z : ab_Z) (d : Nat → Nat → Nat) : Prop := ∀ z g c p l, ab_zl Z z g → ab_zl Z z c → g ≠ c → p ≠ c → d z p + d c p = d z c → d z c ≤ 7 → ab_gd (ab_zu Z) g z l p → ab_gd (ab_zu Z) g z (d z p) p
/-- THE CAUSE of a bend is a bend -/
theorem ab_cause {Z : ab_Z} {d : Nat → Nat → Nat} {N j a c z i : Nat} {w : ab_F} (h : ab_R Z d N) (hL : ab_L Z N) (hG : ab_G (ab_zu Z) d) (hl : ∀ a b, ab_zl Z a b → a ≠ b) (hq : ab_q20 Z N) (hNB : ab_NB Z d)
    (hb : ab_be Z d N c z j a i w) (ht : ab_zn Z 0 + 16 ≤ ab_zn Z j) : ∃ c' j' a' i' w', ab_be Z d N z c' j' a' i' w' ∧ ab_zn Z i' < ab_zn Z i ∧ ab_zn Z j < ab_zn Z j' + d z c := by
  obtain ⟨hi, ho, w3, w4, w5, hr, hbt, hj, htb, hg, hbad⟩ := hb
  obtain ⟨t1, t2, t3, t4, t5, t6, t7, t8, t9, t10, t11⟩ := htb
  have htb : ab_tb Z d j a c z := ⟨t1, t2, t3, t4, t5, t6, t7, t8, t9, t10, t11⟩
  have haN : a < N := by omega
  obtain ⟨qf1, qf2, qf3⟩ := ab_qf h haN t2
  obtain ⟨p2, pn, pz, pu, p0⟩ := ab_tnr h hl hj htb i hi w ho w3 hr hbt w4 w5
  have hfc := ab_fcI h i hi w ho hr.1 (by
    rcases hr.2 with y | y
    · exact y
    · omega)
  have hcp : d c (w 1) ≤ w 7 := by rw [← w4]; exact hfc.2.2.2.1
  have h7p : d z (w 1) ≤ 7 := by omega
  have htri := ab_tri hG z (w 1) (d (w 1) c) c rfl (by rw [hG.2.2.1]; omega)
  have hsym := hG.2.2.1 (w 1) c
  have hgeo : d z (w 1) + d c (w 1) = d z c := by omega
  -- where the pointer comes from
  obtain ⟨m, hm, s1, s2, s3, s4, s5, s6, s7, s8⟩ := ab_srcI h (i + 1) (by omega) (w 1) z (by omega)
  have m3 : ab_zX Z m 3 ≤ 1 := by rcases s3 with ⟨y, _⟩ | y <;> omega
  have mr : ab_rc Z (ab_zX Z m) := ⟨m3, Or.inl (by rw [s4]; omega)⟩
  obtain ⟨t, hbn, _, htl, _⟩ := ab_wcI h (i + 1) (by omega) (w 1) z (by omega)
  have ni : ab_zn Z (i + 1) = ab_zn Z i := by
    rw [ab_now1 h hi]
    have : ab_zK Z i ≠ 0 := by
      intro e
      have ho' : (ab_zY Z i).2 w := ho
      unfold ab_zY at ho'
      rw [e, ab_do0] at ho'
      exact ho'
    rw [if_neg this]
  rcases s3 with ⟨x3, xs⟩ | x3
  · -- a question
    exfalso
    obtain ⟨b, hbm, hba, hb6, hb8, hbt'⟩ := ab_hask h (by omega) s1 x3 mr
    have hwk := ab_hatr h hl (by omega) s1 x3 mr
    rw [s4] at hba hb6 hb8 hwk
    rw [s2] at hwk
    have hnn : ab_zD Z (i + 1) 3 (w 1) z = ab_zD Z (b + 1) 4 z 0 := by rw [← s5, hb6]
    have good : ab_gd (ab_zu Z) (ab_zX Z m 5) z (d z (w 1)) (w 1) → False := by
      intro hgd
      have := ab_qx h hL (show b < N by omega) hba (show i + 1 ≤ N by omega) hnn hgd
      omega
    by_cases e1 : d z (w 1) ≤ d z (ab_zX Z m 5)
    · exact good (ab_gdb hG _ _ _ _ rfl h7p e1)
    · by_cases e2 : w 1 = c
      · -- at c itself: the light cone
        have e7 : w 7 = 0 := by rw [e2] at hg; omega
        have eij := p0 e7
        have hta : ab_zn Z a ≤ t := by
          refine ab_bnl (n := ab_zD Z (a + 1) 4 z 0) h ⟨a, haN, rfl, by omega, Nat.le_refl _⟩ hbn ?_
          exact pn
        rw [e2] at hbad htl
        rw [eij] at hbad htl ni
        omega
      · have hng : ab_zX Z m 5 ≠ c := fun e => by rw [e] at e1; omega
        exact good (hNB z _ c (w 1) _ hba.2.2.1 t2.2.2.1 hng e2 hgeo t10 hwk)
  · -- a TELL of z
    obtain ⟨r, hrm, hor, r0, r1, r2, ru⟩ := ab_hrc h (show m < N by omega) s1 mr
    obtain ⟨j', hj', hb'⟩ := ab_fbI h r (by omega) _ hor mr
    have hb'' := hb'
    obtain ⟨b1, b2, b3, b4, b5⟩ := hb'
    rw [s4] at b1 b3 b4
    -- born behind the asking, in a later moment
    have hjj : a < j' := by
      by_cases e : a < j'
      · exact e
      · have := ab_ownm (c := z) h (show j' + 1 ≤ a + 1 by omega) (by omega)
        by_cases e3 : j' = a
        · exfalso
          rcases b5 with ⟨y, _⟩ | ⟨_, y, _⟩
          · omega
          · have := t2.2.2.2.1
            rw [e3] at y
            omega
        · have := ab_ownm (c := z) h (show j' + 1 ≤ a by omega) (by omega)
          omega
    have hk' : ab_zK Z j' = 1 := by
      rcases b5 with ⟨y, _⟩ | ⟨_, y, _⟩
      · omega
      · exact y
    have hja : ab_zn Z a < ab_zn Z j' := by
      have h1 := ab_nowm h (show a ≤ j' by omega) (by omega)
      by_cases e : ab_zn Z a = ab_zn Z j'
      · exfalso
        have na0 : ab_zn Z 0 < ab_zn Z a := by omega
        have naN : ab_zn Z a < ab_zn Z N := by
          have := ab_nowm h (show j ≤ N by omega) (Nat.le_refl _)
          have h0 : 0 < d z c := by
            rcases Nat.eq_zero_or_pos (d z c) with y | y
            · exact absurd (hG.2.2.2.1 z c y) (hl _ _ t2.2.2.1)
            · exact y
          omega
        obtain ⟨k, hk, kn, k2, ks, kp, kall⟩ := hL.2.1 (ab_zn Z a) z c na0 naN t2.2.2.1
        have eka := hL.2.2 k a hk haN k2 t2.2.2.2.1 kn (by rw [ks, t2.1]) (by rw [kp, t2.2.1])
        have := kall j' (by omega) e.symm hk'
        omega
      · omega
    have hdd : ab_zn Z j < ab_zn Z j' + d z c := by omega
    obtain ⟨a', ha'⟩ := ab_tbI h hL hG hl hq (show j' < N by omega) hb'' x3 (by omega)
    rw [s4] at ha'
    have nr : ab_zn Z r = ab_zX Z m 0 := by
      obtain ⟨q, _⟩ := ab_d1 hor m3
      exact q.symm
    have nm := ab_nowm h (show m ≤ i by omega) (by omega)
    have hsrc : ab_zX Z m 1 = ab_zp Z m := r1
    by_cases hg' : ab_zX Z m 7 + d (ab_zX Z m 5) (ab_zX Z m 1) = d (ab_zX Z m 5) z
    · obtain ⟨q2, qn, qz, qu, _⟩ := ab_tnr h hl (show j' < N by omega) ha' r (by omega) _ hor x3 mr hb'' s4 rfl
      by_cases hs : d (ab_zX Z m 5) (ab_zX Z m 1) < ab_zD Z (r + 1) 2 (ab_zX Z m 1) (ab_zX Z m 5)
      · exact ⟨ab_zX Z m 5, j', a', r, ab_zX Z m, ⟨by omega, hor, x3, s4, rfl, mr, hb'', by omega, ha', hg', hs⟩, by omega, hdd⟩
      · exfalso
        have hn0 := (ab_qf h (show a' < N by have := ha'.1; omega) ha'.2.1).2.1
        obtain ⟨_, _, _, _, _, _, _, hp⟩ := ab_wcI h (r + 1) (by omega) (ab_zX Z m 1) (ab_zX Z m 5) (by omega)
        have p28 : ab_zD Z (r + 1) 1 (ab_zX Z m 1) (ab_zX Z m 5) ≠ 8 := by
          rw [← q2]
          have := (h.2.1 _ _ qu).2.2.1
          omega
        obtain ⟨_, y2, _⟩ := hp p28
        rw [← q2, r2, s2] at y2
        have d7 := ha'.2.2.2.2.2.2.2.2.2.1
        have tri := ab_tri hG (ab_zX Z m 5) (w 1) (d (w 1) z) z rfl (by rw [hG.2.2.1]; omega)
        have sy := hG.2.2.1 (w 1) z
        omega
    · obtain ⟨i', w', h1, h2⟩ := ab_badp h hG hl (show j' < N by omega) ha' r (by omega) _ hor x3 mr hb'' s4 rfl hg'
      exact ⟨ab_zX Z m 5, j', a', i', w', h1, by omega, hdd⟩
/-! ## pauses between questions -/
theorem ab_hf6 {u : Nat → Nat → Prop} {ac : Nat → Nat → Nat} {s p f i j : Nat} {x : ab_F} {D : ab_D} (h : 5 ≤ f ∧ f ≤ 9) : (ab_h u ac s p x D).1 f i j = D f i j := by
  rcases ab_hf (u := u) (ac := ac) (s := s) (p := p) (x := x) (D := D) (f := f) (i := i) (j := j) (by omega) with z | z
  · exact z
  · omega
theorem ab_d6 {u lv : Nat → Nat → Prop} {cf ac : Nat → Nat → Nat} {k a b i j : Nat} {x : ab_F} {D : ab_D} : (ab_do u lv cf ac k a b x D).1 6 i j = D 6 i j ∨
    (i = a ∧ j = b ∧ ab_asks k a b D (ab_do u lv cf ac k a b x D).1) := by
  by_cases h0 : k = 0
  · subst h0
    rw [ab_do0]
    refine Or.inl ?_
    show ab_w D 0 0 0 (D 0 0 0 + 1) 6 i j = _
    exact ab_wf (by decide)
  · by_cases h1 : k = 1
    · subst h1
      rw [ab_do1]
      exact Or.inl (ab_hf6 (by omega))
    · by_cases h2 : k = 2
      · subst h2
        rw [ab_do2]
        rcases ab_uc (u := u) (lv := lv) (cf := cf) (a := a) (b := b) (D := D) with ⟨z, _⟩ | ⟨hl, _, ⟨z, _, _, _, y⟩ | ⟨_, y⟩⟩
        · rw [z]; exact Or.inl rfl
        · rw [y.2]
          refine Or.inl ?_
          show ab_w (ab_w (ab_w D 9 a b z) 7 a b 1) 8 a b (D 0 0 0) 6 i j = _
          rw [ab_wf (by decide), ab_wf (by decide), ab_wf (by decide)]
        · obtain ⟨y1, y7, y | y⟩ := ab_nwc y
          · exact Or.inl (y.2.2.2.1 i j)
          · by_cases e : i = a ∧ j = b
            · refine Or.inr ⟨e.1, e.2, rfl, y1, y7, y.1, y.2.2.2.1, ?_, ?_⟩
              · rw [y.2.2.1 a, if_pos rfl]
              · rw [y.2.1 a, if_pos rfl]
            · exact Or.inl (y.2.2.2.2.1 i j (by omega))
      · rw [ab_do3 (by omega)]
        exact Or.inl rfl
theorem ab_6m {Z : ab_Z} {d : Nat → Nat → Nat} {N i j a b : Nat} {lm : Nat} (h : ab_RL lm Z d N) (hij : i ≤ j) (hj : j ≤ N) : ab_zD Z i 6 a b ≤ ab_zD Z j 6 a b := by
  induction j with
  | zero => rw [show i = 0 by omega]; exact Nat.le_refl _
  | succ j ih =>
    by_cases e : i = j + 1
    · rw [e]; exact Nat.le_refl _
    · refine Nat.le_trans (ih (by omega) (by omega)) ?_
      rw [h.1 j (by omega)]
      rcases ab_d6 (u := ab_zu Z) (lv := ab_zl Z) (cf := ab_zc Z) (ac := ab_za Z) (k := ab_zK Z j) (a := ab_zs Z j) (b := ab_zp Z j) (i := a) (j := b) (x := ab_zX Z j) (D := ab_zD Z j) with z | ⟨e1, e2, _, _, _, z1, z2, _⟩
      · exact Nat.le_of_eq z.symm
      · unfold ab_zY
        rw [e1, e2, z2]
        omega
/-- two askings of one pair are 24 moments apart -/
theorem ab_sp {Z : ab_Z} {d : Nat → Nat → Nat} {N i j c g : Nat} {lm : Nat} (h : ab_RL lm Z d N) (hi : i < j) (hj : j < N) (h1 : ab_ask Z i c g) (h2 : ab_ask Z j c g) : ab_zn Z i + 24 ≤ ab_zn Z j := by
  have a1 := h1.2.2.2.2.2.2.2.1
  have a2 := h2.2.2.2.2.2.2.1
  have := ab_6m (a := c) (b := g) h (show i + 1 ≤ j by omega) (by omega)
  show ab_zD Z i 0 0 0 + 24 ≤ ab_zD Z j 0 0 0
  omega
/-- TELLs of one pair within 24 moments are one -/
theorem ab_tone {Z : ab_Z} {d : Nat → Nat → Nat} {N i j a b c z : Nat} {lm : Nat} (h : ab_RL lm Z d N) (hi : i < N) (hj : j < N) (h1 : ab_tb Z d i a c z) (h2 : ab_tb Z d j b c z) (l1 : ab_zn Z i < ab_zn Z j + 24) (l2 : ab_zn Z j < ab_zn Z i + 24) : i = j := by
  have e1 := h1.2.2.2.2.2.2.2.2.1
  have e2 := h2.2.2.2.2.2.2.2.2.1
  have hab : a = b := by
    rcases Nat.lt_trichotomy a b with y | y | y
    · have := ab_sp h y (by have := h2.1; omega) h1.2.1 h2.2.1
      omega
    · exact y
    · have := ab_sp h y (by have := h1.1; omega) h2.2.1 h1.2.1
      omega
  subst hab
  have haN : a < N := by have := h1.1; omega
  obtain ⟨_, t2, t3, t4, t5, t6, t7, t8, _, _, t11⟩ := h1
  obtain ⟨_, r2, r3, r4, r5, r6, r7, r8, _, _, r11⟩ := h2
  obtain ⟨q1, q2, q3⟩ := ab_qf h haN t2
  have K : ∀ i, i < N → ab_zK Z i = 1 → ab_zX Z i 3 = 0 → ab_zX Z i 4 = z → ab_zX Z i 6 = ab_zD Z (a + 1) 4 z 0 → ab_zX Z i 8 = ab_zD Z (a + 1) 5 z 0 := by
    intro i hi k1 x3 x4 x6
    have hr : ab_rc Z (ab_zX Z i) := ⟨by omega, Or.inl (by rw [x4, x6]; exact q2)⟩
    obtain ⟨m, hm, ma, m6, m8, _⟩ := ab_hask h hi k1 x3 hr
    rw [x4] at ma m6 m8
    have := ab_bone (n := ab_zD Z (a + 1) 4 z 0) h (show m < N by omega) haN (by have := (ab_qf h (show m < N by omega) ma).2.2; omega) (by omega) q3 rfl
    rw [← this]
    exact m8
  have k1 := K i hi t3 t5 t6 t8
  have k2 := K j hj r3 r5 r6 r8
  exact ab_fsu h q1 hi hj ⟨t3, t4, t5, t6, k1, by rw [← k1]; exact t11⟩ ⟨r3, r4, r5, r6, k2, by rw [← k2]; exact r11⟩
/-! ## three stations -/
theorem ab_path {u : Nat → Nat → Prop} {d : Nat → Nat → Nat} (h : ab_G u d) (c : Nat) : ∀ k v, d c v = k → k ≤ 7 → v < 8 → ∃ f : Nat → Nat, f k = v ∧ ∀ i, i ≤ k → f i < 8 ∧ d c (f i) = i ∧ d v (f i) + i ≤ k := by
  intro k
  induction k with
  | zero =>
    intro v hv _ h8
    refine ⟨fun _ => v, rfl, fun i hi => ⟨h8, by show d c v = i; omega, ?_⟩⟩
    show d v v + i ≤ 0
    rw [h.1]
    omega
  | succ k ih =>
    intro v hv h7 h8
    obtain ⟨p, hu, hp⟩ := h.2.2.2.2.1 c v (by omega) (by omega)
    obtain ⟨f, hf, hf2⟩ := ih p (by omega) (by omega) (h.2.2.2.2.2.1 p v hu).2.1
    refine ⟨fun i => if i = k + 1 then v else f i, if_pos rfl, fun i hi => ?_⟩
    show (if i = k + 1 then v else f i) < 8 ∧ d c (if i = k + 1 then v else f i) = i ∧ d v (if i = k + 1 then v else f i) + i ≤ k + 1
    by_cases e : i = k + 1
    · rw [if_pos e]
      refine ⟨h8, by omega, ?_⟩
      rw [h.1]
      omega
    · rw [if_neg e]
      obtain ⟨a1, a2, a3⟩ := hf2 i (by omega)
      refine ⟨a1, a2, ?_⟩
      have := h.2.1 (f i) p v hu
      rw [h.2.2.1 v (f i)]
      rw [h.2.2.1 p (f i)] at a3
      omega
theorem ab_peri {u : Nat → Nat → Prop} {d : Nat → Nat → Nat} {a b c : Nat} (h : ab_G u d) (ha : a < 8) (hb : b < 8) (h1 : d c a ≤ 7) (h2 : d c b ≤ 7) : d a b + d c a + d c b ≤ 14 := by
  obtain ⟨f, f0, hf⟩ := ab_path h c _ a rfl h1 ha
  obtain ⟨g, g0, hg⟩ := ab_path h c _ b rfl h2 hb
  have hr : ∀ n, n ≤ d c b → ∃ r, r ≤ n ∧ r ≤ d c a ∧ g r = f r ∧ ∀ i, r < i → i ≤ n → i ≤ d c a → g i ≠ f i := by
    intro n
    induction n with
    | zero =>
      intro _
      refine ⟨0, Nat.le_refl _, Nat.zero_le _, ?_, fun i hi hi2 => by omega⟩
      have e1 := (hf 0 (Nat.zero_le _)).2.1
      have e2 := (hg 0 (Nat.zero_le _)).2.1
      rw [← h.2.2.2.1 c (f 0) e1, ← h.2.2.2.1 c (g 0) e2]
    | succ n ih =>
      intro hn
      by_cases e : n + 1 ≤ d c a ∧ g (n + 1) = f (n + 1)
      · exact ⟨n + 1, Nat.le_refl _, e.1, e.2, fun i hi hi2 => by omega⟩
      · obtain ⟨r, r1, r2, r3, r4⟩ := ih (by omega)
        refine ⟨r, by omega, r2, r3, fun i hi hi2 hi3 => ?_⟩
        by_cases ei : i = n + 1
        · intro z
          exact e ⟨by omega, by rw [← ei]; exact z⟩
        · exact r4 i hi (by omega) hi3
  obtain ⟨r, r1, r2, r3, r4⟩ := hr (d c b) (Nat.le_refl _)
  have hcount : d c a + 1 + (d c b - r) ≤ 8 := by
    refine ab_inj 8 _ (fun i => if i ≤ d c a then f i else g (r + (i - d c a))) ?_ ?_
    · intro i hi
      show (if i ≤ d c a then f i else g (r + (i - d c a))) < 8
      split
      · rename_i e; exact (hf i e).1
      · exact (hg _ (by omega)).1
    · intro i j hi hj
      show (if i ≤ d c a then f i else g (r + (i - d c a))) = (if j ≤ d c a then f j else g (r + (j - d c a))) → i = j
      intro z
      have K : ∀ i l, i ≤ d c a → r < l → l ≤ d c b → f i ≠ g l := by
        intro i l hi hl hl2 e
        have e1 := (hf i hi).2.1
        have e2 := (hg l hl2).2.1
        rw [e] at e1
        have : i = l := by omega
        subst this
        exact r4 i hl hl2 hi e.symm
      by_cases ei : i ≤ d c a
      · by_cases ej : j ≤ d c a
        · rw [if_pos ei, if_pos ej] at z
          have e1 := (hf i ei).2.1
          have e2 := (hf j ej).2.1
          rw [z] at e1
          omega
        · rw [if_pos ei, if_neg ej] at z
          exact absurd z (K i _ ei (by omega) (by omega))
      · by_cases ej : j ≤ d c a
        · rw [if_neg ei, if_pos ej] at z
          exact absurd z.symm (K j _ ej (by omega) (by omega))
        · rw [if_neg ei, if_neg ej] at z
          have e1 := (hg (r + (i - d c a)) (by omega)).2.1
          have e2 := (hg (r + (j - d c a)) (by omega)).2.1
          rw [z] at e1
          omega
  have a3 := (hf r r2).2.2
  have b3 := (hg r r1).2.2
  rw [r3] at b3
  have tri := ab_tri h a (f r) (d (f r) b) b rfl (by rw [h.2.2.1]; omega)
  rw [h.2.2.1 (f r) b] at tri
  omega
/-! ## no bends -/
def ab_ev (Z : ab_Z) (d : Nat → Nat → Nat) (N c z j i : Nat) : Prop := ∃ a w, ab_be Z d N c z j a i w
/-- what the events are about: hubs h and k, and the source s with the one goal g, which is not k -/
def ab_hk (Z : ab_Z) (h k s g : Nat) : Prop := (∀ a b, ab_zl Z a b → (a = h ∨ a = k ∨ (a = s ∧ b = g)) ∧ a ≠ b ∧ a < 8 ∧ b < 8) ∧ h ≠ k ∧ s ≠ h ∧ s ≠ k ∧ g ≠ k
theorem ab_ev1 {Z : ab_Z} {d : Nat → Nat → Nat} {N c z j i : Nat} (hR : ab_R Z d N) (hG : ab_G (ab_zu Z) d) (hl : ∀ a b, ab_zl Z a b → a ≠ b) (e : ab_ev Z d N c z j i) :
    j < N ∧ i < N ∧ ab_zl Z z c ∧ ab_zn Z j ≤ ab_zn Z i ∧ ab_zn Z i < ab_zn Z j + d z c ∧ d z c ≤ 7 ∧ ∃ a, ab_tb Z d j a c z := by
  obtain ⟨a, w, hi, ho, w3, w4, w5, hr, hb, hj, ht, hg, _⟩ := e
  have h0 := (ab_d1 ho hr.1).1
  have h0' : w 0 = ab_zn Z i := h0
  have hb2 := hb.2.1
  have := (ab_tnr hR hl hj ht i hi w ho w3 hr hb w4 w5).2.2.1
  have hp : 0 < d z (w 1) := by
    rcases Nat.eq_zero_or_pos (d z (w 1)) with y | y
    · exact absurd (hG.2.2.2.1 z _ y).symm this
    · exact y
  exact ⟨hj, hi, ht.2.1.2.2.1, by omega, by omega, ht.2.2.2.2.2.2.2.2.2.1, a, ht⟩
theorem ab_ev2 {Z : ab_Z} {d : Nat → Nat → Nat} {N c z j i : Nat} (hR : ab_R Z d N) (hL : ab_L Z N) (hG : ab_G (ab_zu Z) d) (hl : ∀ a b, ab_zl Z a b → a ≠ b) (hq : ab_q20 Z N) (hNB : ab_NB Z d)
    (e : ab_ev Z d N c z j i) (ht : ab_zn Z 0 + 16 ≤ ab_zn Z j) : ∃ c' j' i', ab_ev Z d N z c' j' i' ∧ ab_zn Z i' < ab_zn Z i ∧ ab_zn Z j < ab_zn Z j' + d z c := by
  obtain ⟨a, w, hb⟩ := e
  obtain ⟨c', j', a', i', w', h1, h2, h3⟩ := ab_cause hR hL hG hl hq hNB hb ht
  exact ⟨c', j', i', ⟨a', w', h1⟩, h2, h3⟩
theorem ab_ev3 {Z : ab_Z} {d : Nat → Nat → Nat} {N c z j i j' i' : Nat} (hR : ab_R Z d N) (hG : ab_G (ab_zu Z) d) (hl : ∀ a b, ab_zl Z a b → a ≠ b) (e : ab_ev Z d N c z j i) (e' : ab_ev Z d N c z j' i')
    (l1 : ab_zn Z j < ab_zn Z j' + 24) (l2 : ab_zn Z j' < ab_zn Z j + 24) : j = j' := by
  obtain ⟨h1, _, _, _, _, _, a, h2⟩ := ab_ev1 hR hG hl e
  obtain ⟨h1', _, _, _, _, _, a', h2'⟩ := ab_ev1 hR hG hl e'
  exact ab_tone hR h1 h1' h2 h2' l1 l2
/-- from h to a hub and back -/
theorem ab_TA {Z : ab_Z} {d : Nat → Nat → Nat} {N h k s g j i : Nat} (hR : ab_R Z d N) (hL : ab_L Z N) (hG : ab_G (ab_zu Z) d) (hk : ab_hk Z h k s g) (hq : ab_q20 Z N) (hNB : ab_NB Z d)
    (e : ab_ev Z d N h k j i) (ht : ab_zn Z 0 + 22 ≤ ab_zn Z j) : ∃ j' i', (ab_ev Z d N h k j' i' ∨ ab_ev Z d N h s j' i') ∧ ab_zn Z i' < ab_zn Z i ∧ ab_zn Z j + 2 ≤ ab_zn Z j' + 2 * d h k := by
  have hl : ∀ a b, ab_zl Z a b → a ≠ b := fun a b z => (hk.1 a b z).2.1
  have f := ab_ev1 hR hG hl e
  obtain ⟨c', j', i', e', t1, t2⟩ := ab_ev2 hR hL hG hl hq hNB e (by omega)
  have f' := ab_ev1 hR hG hl e'
  have hc : c' = h := by
    rcases (hk.1 _ _ f'.2.2.1) with ⟨y | y | y, y2, _⟩
    · exact y
    · exact absurd y y2
    · exact absurd y.2.symm hk.2.2.2.2
  subst hc
  obtain ⟨c2, j2, i2, e2, t3, t4⟩ := ab_ev2 hR hL hG hl hq hNB e' (by omega)
  have f2 := ab_ev1 hR hG hl e2
  have hs := hG.2.2.1 k c'
  refine ⟨j2, i2, ?_, by omega, by omega⟩
  rcases (hk.1 _ _ f2.2.2.1) with ⟨y | y | y, y2, _⟩
  · exact absurd y y2
  · subst y; exact Or.inl e2
  · obtain ⟨rfl, _⟩ := y
    exact Or.inr e2
theorem ab_TB {Z : ab_Z} {d : Nat → Nat → Nat} {N h k s g j i : Nat} (hR : ab_R Z d N) (hL : ab_L Z N) (hG : ab_G (ab_zu Z) d) (hk : ab_hk Z h k s g) (hq : ab_q20 Z N) (hNB : ab_NB Z d)
    (e : ab_ev Z d N h s j i) (ht : ab_zn Z 0 + 28 ≤ ab_zn Z j) : ∃ j' i', (ab_ev Z d N h k j' i' ∨ ab_ev Z d N h s j' i') ∧ ab_zn Z i' < ab_zn Z i ∧
      (ab_zn Z j + 2 ≤ ab_zn Z j' + 2 * d h s ∨ (ab_zn Z j + 3 ≤ ab_zn Z j' + d h s + d k s + d h k ∧ d h k ≤ 7)) := by
  have hl : ∀ a b, ab_zl Z a b → a ≠ b := fun a b z => (hk.1 a b z).2.1
  have f := ab_ev1 hR hG hl e
  obtain ⟨c', j', i', e', t1, t2⟩ := ab_ev2 hR hL hG hl hq hNB e (by omega)
  have f' := ab_ev1 hR hG hl e'
  have fin : ∀ c j' i', ab_ev Z d N h c j' i' → ab_ev Z d N h k j' i' ∨ ab_ev Z d N h s j' i' := by
    intro c j' i' e2
    have f2 := ab_ev1 hR hG hl e2
    rcases (hk.1 _ _ f2.2.2.1) with ⟨y | y | y, y2, _⟩
    · exact absurd y y2
    · subst y; exact Or.inl e2
    · obtain ⟨rfl, _⟩ := y
      exact Or.inr e2
  have s1 := hG.2.2.1 s h
  have s2 := hG.2.2.1 s k
  have s3 := hG.2.2.1 k h
  rcases (hk.1 _ _ f'.2.2.1) with ⟨y | y | y, y2, _⟩
  · subst y
    obtain ⟨c2, j2, i2, e2, t3, t4⟩ := ab_ev2 hR hL hG hl hq hNB e' (by omega)
    exact ⟨j2, i2, fin _ _ _ e2, by omega, Or.inl (by omega)⟩
  · subst y
    obtain ⟨c2, j2, i2, e2, t3, t4⟩ := ab_ev2 hR hL hG hl hq hNB e' (by omega)
    have f2 := ab_ev1 hR hG hl e2
    have hc : c2 = h := by
      rcases (hk.1 _ _ f2.2.2.1) with ⟨y | y | y, y2, _⟩
      · exact y
      · exact absurd y y2
      · exact absurd y.2.symm hk.2.2.2.2
    subst hc
    obtain ⟨c3, j3, i3, e3, t5, t6⟩ := ab_ev2 hR hL hG hl hq hNB e2 (by omega)
    exact ⟨j3, i3, fin _ _ _ e3, by omega, Or.inr ⟨by omega, by omega⟩⟩
  · exact absurd y.1 y2
/-- two births that belong together -/
theorem ab_C1 {Z : ab_Z} {d : Nat → Nat → Nat} {N h k s g p q : Nat} (hR : ab_R Z d N) (hL : ab_L Z N) (hG : ab_G (ab_zu Z) d) (hk : ab_hk Z h k s g) (hq : ab_q20 Z N) (hNB : ab_NB Z d) {ip iq : Nat}
    (ep : ab_ev Z d N h k p ip) (eq : ab_ev Z d N h s q iq) (tp : ab_zn Z 0 + 28 ≤ ab_zn Z p) (tq : ab_zn Z 0 + 28 ≤ ab_zn Z q)
    (hrel : (ab_zn Z p + 2 ≤ ab_zn Z q + 2 * d h k ∧ ab_zn Z q ≤ ab_zn Z p + 5) ∨
      ((ab_zn Z q + 2 ≤ ab_zn Z p + 2 * d h s ∨ ab_zn Z q + 3 ≤ ab_zn Z p + d h s + d k s + d h k) ∧ ab_zn Z p ≤ ab_zn Z q + 5)) :
    ∀ t i, ab_zn Z i = t → ¬ ab_ev Z d N h k p i ∧ ¬ ab_ev Z d N h s q i := by
  have hl : ∀ a b, ab_zl Z a b → a ≠ b := fun a b z => (hk.1 a b z).2.1
  have fp := ab_ev1 hR hG hl ep
  have fq := ab_ev1 hR hG hl eq
  have h8k := hk.1 _ _ fp.2.2.1
  have h8s := hk.1 _ _ fq.2.2.1
  have sk := hG.2.2.1 k h
  have ss := hG.2.2.1 s h
  have per := ab_peri (a := k) (b := s) (c := h) hG h8k.2.2.1 h8s.2.2.1 (by omega) (by omega)
  have w1 : 0 < d k s := by
    rcases Nat.eq_zero_or_pos (d k s) with y | y
    · exact absurd (hG.2.2.2.1 k s y).symm hk.2.2.2.1
    · exact y
  have w2 : 0 < d h k := by
    rcases Nat.eq_zero_or_pos (d h k) with y | y
    · exact absurd (hG.2.2.2.1 h k y) hk.2.1
    · exact y
  have w3 : 0 < d h s := by
    rcases Nat.eq_zero_or_pos (d h s) with y | y
    · exact absurd (hG.2.2.2.1 h s y).symm hk.2.2.1
    · exact y
  intro t
  induction t using Nat.strongRecOn with
  | ind t ih =>
    intro i hi
    refine ⟨fun e => ?_, fun e => ?_⟩
    · have f := ab_ev1 hR hG hl e
      obtain ⟨j', i', e' | e', t1, t2⟩ := ab_TA hR hL hG hk hq hNB e (by omega)
      · have f' := ab_ev1 hR hG hl e'
        have := ab_ev3 hR hG hl e e' (by omega) (by omega)
        subst this
        exact (ih _ (by omega) i' rfl).1 e'
      · have f' := ab_ev1 hR hG hl e'
        have := ab_ev3 hR hG hl eq e' (by omega) (by omega)
        subst this
        exact (ih _ (by omega) i' rfl).2 e'
    · have f := ab_ev1 hR hG hl e
      obtain ⟨j', i', e' | e', t1, t2⟩ := ab_TB hR hL hG hk hq hNB e (by omega)
      · have f' := ab_ev1 hR hG hl e'
        have := ab_ev3 hR hG hl ep e' (by omega) (by omega)
        subst this
        exact (ih _ (by omega) i' rfl).1 e'
      · have f' := ab_ev1 hR hG hl e'
        have := ab_ev3 hR hG hl e e' (by omega) (by omega)
        subst this
        exact (ih _ (by omega) i' rfl).2 e'
theorem ab_C2 {Z : ab_Z} {d : Nat → Nat → Nat} {N h k s g p : Nat} (hR : ab_R Z d N) (hL : ab_L Z N) (hG : ab_G (ab_zu Z) d) (hk : ab_hk Z h k s g) (hq : ab_q20 Z N) (hNB : ab_NB Z d) (tp : ab_zn Z 0 + 40 ≤ ab_zn Z p) :
    ∀ t i, ab_zn Z i = t → ¬ ab_ev Z d N h k p i := by
  have hl : ∀ a b, ab_zl Z a b → a ≠ b := fun a b z => (hk.1 a b z).2.1
  intro t
  induction t using Nat.strongRecOn with
  | ind t ih =>
    intro i hi e
    have f := ab_ev1 hR hG hl e
    have sk := hG.2.2.1 k h
    obtain ⟨j', i', e' | e', t1, t2⟩ := ab_TA hR hL hG hk hq hNB e (by omega)
    · have f' := ab_ev1 hR hG hl e'
      have := ab_ev3 hR hG hl e e' (by omega) (by omega)
      subst this
      exact ih _ (by omega) i' rfl e'
    · have f' := ab_ev1 hR hG hl e'
      exact (ab_C1 hR hL hG hk hq hNB e e' (by omega) (by omega) (Or.inl ⟨t2, by omega⟩) _ i rfl).1 e
theorem ab_C3 {Z : ab_Z} {d : Nat → Nat → Nat} {N h k s g p : Nat} (hR : ab_R Z d N) (hL : ab_L Z N) (hG : ab_G (ab_zu Z) d) (hk : ab_hk Z h k s g) (hq : ab_q20 Z N) (hNB : ab_NB Z d) (tp : ab_zn Z 0 + 40 ≤ ab_zn Z p) :
    ∀ t i, ab_zn Z i = t → ¬ ab_ev Z d N h s p i := by
  have hl : ∀ a b, ab_zl Z a b → a ≠ b := fun a b z => (hk.1 a b z).2.1
  intro t
  induction t using Nat.strongRecOn with
  | ind t ih =>
    intro i hi e
    have f := ab_ev1 hR hG hl e
    have ss := hG.2.2.1 s h
    have h8s := hk.1 _ _ f.2.2.1
    have tb := ab_TB hR hL hG hk hq hNB e (by omega)
    obtain ⟨j', i', e', t1, t2⟩ := tb
    have bnd : ab_zn Z p ≤ ab_zn Z j' + 12 := by
      rcases t2 with t2 | ⟨t2, t7⟩
      · omega
      · by_cases hk8 : k < 8
        · have per := ab_peri (a := k) (b := s) (c := h) hG hk8 h8s.2.2.1 t7 (by omega)
          omega
        · rcases e' with e' | e'
          · exact absurd (hk.1 _ _ (ab_ev1 hR hG hl e').2.2.1).2.2.1 hk8
          · -- no station k
            exfalso
            have : d h k = 100 ∨ d h k ≤ 7 := by omega
            have hp : 0 < d h k := by
              rcases Nat.eq_zero_or_pos (d h k) with y | y
              · exact absurd (hG.2.2.2.1 h k y) hk.2.1
              · exact y
            obtain ⟨y, hu, _⟩ := hG.2.2.2.2.1 h k hp t7
            exact hk8 (hG.2.2.2.2.2.1 _ _ hu).2.2.1
    rcases e' with e' | e'
    · have f' := ab_ev1 hR hG hl e'
      refine (ab_C1 hR hL hG hk hq hNB e' e (by omega) (by omega) (Or.inr ⟨?_, by omega⟩) _ i rfl).2 e
      rcases t2 with t2 | t2
      · exact Or.inl t2
      · exact Or.inr t2.1
    · have f' := ab_ev1 hR hG hl e'
      have := ab_ev3 hR hG hl e e' (by omega) (by omega)
      subst this
      exact ih _ (by omega) i' rfl e'
/-- NO BENDS -/
theorem ab_nb {Z : ab_Z} {d : Nat → Nat → Nat} {N h k s g c z j i : Nat} (hR : ab_R Z d N) (hL : ab_L Z N) (hG : ab_G (ab_zu Z) d) (hk : ab_hk Z h k s g) (hq : ab_q20 Z N) (hNB : ab_NB Z d) (tp : ab_zn Z 0 + 58 ≤ ab_zn Z j) :
    ¬ ab_ev Z d N c z j i := by
  have hl : ∀ a b, ab_zl Z a b → a ≠ b := fun a b z => (hk.1 a b z).2.1
  intro e
  have f := ab_ev1 hR hG hl e
  have fin : ∀ c j i, ab_zn Z 0 + 40 ≤ ab_zn Z j → ¬ ab_ev Z d N h c j i := by
    intro c j i hj e2
    have f2 := ab_ev1 hR hG hl e2
    rcases (hk.1 _ _ f2.2.2.1) with ⟨y | y | y, y2, _⟩
    · exact absurd y y2
    · subst y; exact ab_C2 hR hL hG hk hq hNB hj _ i rfl e2
    · obtain ⟨rfl, _⟩ := y
      exact ab_C3 hR hL hG hk hq hNB hj _ i rfl e2
  have fink : ∀ c j i, ab_zn Z 0 + 46 ≤ ab_zn Z j → ¬ ab_ev Z d N k c j i := by
    intro c j i hj e2
    have f2 := ab_ev1 hR hG hl e2
    obtain ⟨c', j', i', e', t1, t2⟩ := ab_ev2 hR hL hG hl hq hNB e2 (by omega)
    have f' := ab_ev1 hR hG hl e'
    rcases (hk.1 _ _ f2.2.2.1) with ⟨y | y | y, y2, _⟩
    · subst y; exact fin _ _ _ (by omega) e'
    · exact absurd y y2
    · exact absurd y.2.symm hk.2.2.2.2
  obtain ⟨c', j', i', e', t1, t2⟩ := ab_ev2 hR hL hG hl hq hNB e (by omega)
  have f' := ab_ev1 hR hG hl e'
  rcases (hk.1 _ _ f.2.2.1) with ⟨y | y | y, y2, _⟩
  · subst y; exact fin _ _ _ (by omega) e'
  · subst y; exact fink _ _ _ (by omega) e'
  · obtain ⟨rfl, rfl⟩ := y
    obtain ⟨c2, j2, i2, e2, t3, t4⟩ := ab_ev2 hR hL hG hl hq hNB e' (by omega)
    have f2 := ab_ev1 hR hG hl e2
    rcases (hk.1 _ _ f'.2.2.1) with ⟨y | y | y, y2, _⟩
    · subst y; exact fin _ _ _ (by omega) e2
    · subst y; exact fink _ _ _ (by omega) e2
    · exact absurd y.1 y2
