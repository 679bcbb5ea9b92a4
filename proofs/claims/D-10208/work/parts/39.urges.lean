/-! ## moments and urges -/
theorem rf_nowq {S : zz_T} {B N : Nat} (hA : rf_A S B N) : ∀ n, n ≤ N → ab_zn (rf_Z S) n = ab_zn (rf_Z S) 0 + n / 1089 + (if n % 1089 = 0 then 0 else 1) := by
  intro n
  induction n with
  | zero => intro _; rfl
  | succ n ih =>
    intro hn
    have hi := ih (by omega)
    have hD := ((rf_main hA n (by omega)).2 (by omega)).1
    have hd : rf_a (rf_S S (n + 1)) 0 0 0 = if rf_K S n = 0 then rf_a (rf_S S n) 0 0 0 + 1 else rf_a (rf_S S n) 0 0 0 := by
      rw [hD]
      exact ab_d0
    have hd' : ab_zn (rf_Z S) (n + 1) = if rf_K S n = 0 then ab_zn (rf_Z S) n + 1 else ab_zn (rf_Z S) n := hd
    have hlt : n % 1089 < 1089 := Nat.mod_lt _ (by omega)
    by_cases h0 : n % 1089 = 0
    · rw [if_pos (show rf_K S n = 0 from if_pos h0)] at hd'
      rw [if_pos h0] at hi
      rw [hd', hi, if_neg (by omega)]
      omega
    · have hK : rf_K S n ≠ 0 := by
        unfold rf_K
        rw [if_neg h0]
        split
        · by_cases c : rf_hs (n % 1089 - 1) (rf_S S n)
          · rw [ab_ip c]; decide
          · rw [ab_in c]; decide
        · split <;> decide
      rw [if_neg hK] at hd'
      rw [if_neg h0] at hi
      rw [hd', hi]
      by_cases h1 : n % 1089 = 1088
      · rw [if_pos (by omega)]
        omega
      · rw [if_neg (by omega)]
        omega
theorem rf_K1 {S : zz_T} {n : Nat} (h : rf_K S n = 1) : n % 1089 ≠ 0 ∧ n % 1089 ≤ 1024 ∧ rf_hs (n % 1089 - 1) (rf_S S n) := by
  have h1 : n % 1089 ≠ 0 := by
    intro e
    have : rf_K S n = 0 := if_pos e
    omega
  have h2 : n % 1089 ≤ 1024 := by
    by_cases c : n % 1089 ≤ 1024
    · exact c
    · exfalso
      unfold rf_K at h
      rw [if_neg h1, if_neg c] at h
      split at h <;> omega
  refine ⟨h1, h2, ?_⟩
  unfold rf_K at h
  rw [if_neg h1, if_pos h2] at h
  by_cases c : rf_hs (n % 1089 - 1) (rf_S S n)
  · exact c
  · rw [ab_in c] at h
    omega
theorem rf_K2 {S : zz_T} {n : Nat} (h : rf_K S n = 2) : 1024 < n % 1089 := by
  by_cases c : 1024 < n % 1089
  · exact c
  · exfalso
    unfold rf_K at h
    by_cases h0 : n % 1089 = 0
    · rw [if_pos h0] at h
      omega
    · rw [if_neg h0, if_pos (by omega)] at h
      by_cases d : rf_hs (n % 1089 - 1) (rf_S S n)
      · rw [ab_ip d] at h; omega
      · rw [ab_in d] at h; omega
theorem rf_L2 {S : zz_T} {B N : Nat} (hA : rf_A S B N) : ∀ t a b, ab_zn (rf_Z S) 0 < t → t < ab_zn (rf_Z S) N → rf_l S a b → ∃ k, k < N ∧ ab_zn (rf_Z S) k = t ∧ rf_K S k = 2 ∧ rf_s S k = a ∧ rf_p S k = b ∧ ∀ j, j < N → ab_zn (rf_Z S) j = t → rf_K S j = 1 → j < k := by
  intro t a b h1 h2 hl
  have hN := rf_nowq hA N (Nat.le_refl _)
  have ha := hl.1
  have hb := hl.2.1
  have hab := hl.2.2.1
  have hq : N / 1089 + (if N % 1089 = 0 then 0 else 1) = ab_zn (rf_Z S) N - ab_zn (rf_Z S) 0 := by omega
  have hle : (if N % 1089 = 0 then 0 else 1) ≤ 1 := by split <;> omega
  obtain ⟨q, hq2⟩ : ∃ q, t = ab_zn (rf_Z S) 0 + q + 1 := ⟨t - ab_zn (rf_Z S) 0 - 1, by omega⟩
  have hk : 1089 * q + 1025 + (8 * a + b) < N := by
    have : q + 1 ≤ N / 1089 := by omega
    omega
  have km : (1089 * q + 1025 + (8 * a + b)) % 1089 = 1025 + (8 * a + b) := by omega
  have kd : (1089 * q + 1025 + (8 * a + b)) / 1089 = q := by omega
  refine ⟨1089 * q + 1025 + (8 * a + b), hk, ?_, ?_, ?_, ?_, fun j hj hjn hjK => ?_⟩
  · rw [rf_nowq hA _ (by omega), km, kd, if_neg (by omega)]
    omega
  · unfold rf_K
    rw [km, if_neg (by omega), if_neg (by omega), if_neg (by omega)]
  · unfold rf_s
    rw [km, if_neg (by omega)]
    omega
  · unfold rf_p
    rw [km, if_neg (by omega)]
    omega
  · obtain ⟨j1, j2, _⟩ := rf_K1 hjK
    have := rf_nowq hA j (by omega)
    rw [if_neg j1] at this
    omega
theorem rf_L3 {S : zz_T} {B N : Nat} (hA : rf_A S B N) : ∀ i j, i < N → j < N → rf_K S i = 2 → rf_K S j = 2 → ab_zn (rf_Z S) i = ab_zn (rf_Z S) j → rf_s S i = rf_s S j → rf_p S i = rf_p S j → i = j := by
  intro i j hi hj ki kj hn hs hp
  have i1 := rf_K2 ki
  have j1 := rf_K2 kj
  have ni := rf_nowq hA i (by omega)
  have nj := rf_nowq hA j (by omega)
  rw [if_neg (by omega)] at ni nj
  unfold rf_s at hs
  unfold rf_p at hp
  rw [if_neg (by omega), if_neg (by omega)] at hs hp
  omega
/-! ## no frame is lost while fewer than 1024 are put -/
/-- c n frames were put before step n: the places of the ring go round with them -/
def rf_ct (S : zz_T) (N : Nat) (c : Nat → Nat) : Prop := c 0 = 0 ∧ ∀ n, n < N → ∃ V m j, c (n + 1) = c n + m ∧ j < 1024 ∧ V 5 0 = nI j ∧ V 5 = rf_S S n 5 ∧ rf_S S (n + 1) 5 0 = nI ((j + m) % 1024) ∧ m ≤ 24 ∧
  (∀ i, i < 1024 → (∃ k, k < m ∧ i = (j + k) % 1024) ∨ ((∀ k, k < m → i ≠ (j + k) % 1024) ∧ rf_ss V (rf_S S (n + 1)) i)) ∧ (∀ i, i < 1024 → (rf_K S n = 1 ∧ i = n % 1089 - 1) ∨ (i = n % 1089 - 1 ∧ V 32 i = 0 ∧ n % 1089 ≠ 0 ∧ n % 1089 ≤ 1024) ∨ rf_ss (rf_S S n) V i) ∧ (n % 1089 ≠ 0 → n % 1089 ≤ 1024 → rf_S S n 4 0 < rf_S S n 35 (n % 1089 - 1) → rf_ss (rf_S S n) V (n % 1089 - 1)) ∧ (∀ w, ab_zO (rf_Z S) n w → ∃ k, k < m ∧ rf_sl (rf_S S (n + 1)) ((j + k) % 1024) = w ∧ ¬ rf_S S (n + 1) 32 ((j + k) % 1024) = 0)
theorem rf_ctI {S : zz_T} {B N : Nat} (hA : rf_A S B N) : ∃ c, rf_ct S N c := by
  have ex : ∀ n, ∃ m, n < N → ∃ V j, j < 1024 ∧ V 5 0 = nI j ∧ V 5 = rf_S S n 5 ∧ rf_S S (n + 1) 5 0 = nI ((j + m) % 1024) ∧ m ≤ 24 ∧
      (∀ i, i < 1024 → (∃ k, k < m ∧ i = (j + k) % 1024) ∨ ((∀ k, k < m → i ≠ (j + k) % 1024) ∧ rf_ss V (rf_S S (n + 1)) i)) ∧ (∀ i, i < 1024 → (rf_K S n = 1 ∧ i = n % 1089 - 1) ∨ (i = n % 1089 - 1 ∧ V 32 i = 0 ∧ n % 1089 ≠ 0 ∧ n % 1089 ≤ 1024) ∨ rf_ss (rf_S S n) V i) ∧ (n % 1089 ≠ 0 → n % 1089 ≤ 1024 → rf_S S n 4 0 < rf_S S n 35 (n % 1089 - 1) → rf_ss (rf_S S n) V (n % 1089 - 1)) ∧ (∀ w, ab_zO (rf_Z S) n w → ∃ k, k < m ∧ rf_sl (rf_S S (n + 1)) ((j + k) % 1024) = w ∧ ¬ rf_S S (n + 1) 32 ((j + k) % 1024) = 0) := by
    intro n
    by_cases hn : n < N
    · have hD := (rf_main hA n (by omega)).2 hn
      by_cases h0 : n % 1089 = 0
      · obtain ⟨z1, z2, z3⟩ := hD.2.1 h0
        obtain ⟨j, hj, ej⟩ := (rf_main hA n (by omega)).1.2.2.1
        refine ⟨0, fun _ => ⟨rf_S S n, j, hj, ej, rfl, ?_, by omega, fun i hi => Or.inr ⟨fun k hk => absurd hk (by omega), z1 i hi⟩, fun i hi => Or.inr (Or.inr ⟨rfl, rfl, rfl, rfl, fun _ _ => rfl⟩), fun z => absurd h0 z, fun w hw => absurd hw (z3 w)⟩⟩
        rw [z2, ej, show (j + 0) % 1024 = j by omega]
      · obtain ⟨V, m, ⟨hm, hT1⟩, ⟨j, hj, a1, a2, a3, a4, a5, a6⟩, v4, v5, vs, vk⟩ := hD.2.2 h0
        refine ⟨m, fun _ => ⟨V, j, hj, a1, v5, a2, hm, fun i hi => ?_, fun i hi => ?_, fun _ => vk.2, fun w hw => ?_⟩⟩
        · rcases a5 i hi with ⟨k, k1, k2, _⟩ | y
          · exact Or.inl ⟨k, k1, k2⟩
          · exact Or.inr y
        · rcases vs i hi with ⟨y1, y2, y3⟩ | y
          · exact Or.inr (Or.inl ⟨y1, y3, h0, y2⟩)
          · exact Or.inr (Or.inr y)
        · obtain ⟨k, k1, k2⟩ := a6 w hw
          refine ⟨k, k1, k2, ?_⟩
          rcases a5 ((j + k) % 1024) (by omega) with ⟨_, _, _, y, _⟩ | ⟨y, _⟩
          · exact y
          · exact absurd rfl (y k k1)
    · exact ⟨0, fun h => absurd h hn⟩
  obtain ⟨f, hf⟩ := Classical.axiomOfChoice ex
  refine ⟨fun n => zz_it (fun k s => s + f k) n 0, rfl, fun n hn => ?_⟩
  obtain ⟨V, j, h⟩ := hf n hn
  exact ⟨V, f n, j, rfl, h⟩
