/-! ## finer: a shortest walk uses one neighbour of z only -/
theorem ax_add {P Q : Nat → Prop} (h : ∀ k, P k → ¬ Q k) : ∀ n, ax_sm P (fun _ => 1) n + ax_sm Q (fun _ => 1) n ≤ ax_sm (fun k => P k ∨ Q k) (fun _ => 1) n := by
  intro n
  induction n with
  | zero => exact Nat.le_refl _
  | succ n ih =>
    show ax_sm P (fun _ => 1) n + ab_if (P n) 1 0 + (ax_sm Q (fun _ => 1) n + ab_if (Q n) 1 0) ≤ ax_sm (fun k => P k ∨ Q k) (fun _ => 1) n + ab_if (P n ∨ Q n) 1 0
    by_cases p : P n
    · rw [ab_ip p, ab_in (h n p), ab_ip (Or.inl p)]
      omega
    · by_cases q : Q n
      · rw [ab_in p, ab_ip q, ab_ip (Or.inr q)]
        omega
      · rw [ab_in p, ab_in q, ab_in (fun y => by rcases y with y | y; exact p y; exact q y)]
        omega
theorem ax_le {P : Nat → Prop} : ∀ n, ax_sm P (fun _ => 1) n ≤ n := by
  intro n
  induction n with
  | zero => exact Nat.le_refl _
  | succ n ih =>
    show ax_sm P (fun _ => 1) n + ab_if (P n) 1 0 ≤ n + 1
    by_cases p : P n
    · rw [ab_ip p]; omega
    · rw [ab_in p]; omega
theorem ax_itv {k : Nat} : ∀ n, n ≤ k + 1 → n ≤ ax_sm (fun i => 2 ≤ i ∧ i ≤ k) (fun _ => 1) n + 2 := by
  intro n
  induction n with
  | zero => intro _; omega
  | succ n ih =>
    intro hn
    have I := ih (by omega)
    show n + 1 ≤ ax_sm (fun i => 2 ≤ i ∧ i ≤ k) (fun _ => 1) n + ab_if (2 ≤ n ∧ n ≤ k) 1 0 + 2
    by_cases p : 2 ≤ n
    · rw [ab_ip ⟨p, by omega⟩]; omega
    · omega
theorem ax_smn {P : Nat → Prop} {E : Nat → Nat} {a : Nat} : ∀ b, a ≤ b → ax_sm P E a ≤ ax_sm P E b := by
  intro b
  induction b with
  | zero => intro h; rw [show a = 0 by omega]; exact Nat.le_refl _
  | succ b ih =>
    intro h
    by_cases e : a = b + 1
    · rw [e]; exact Nat.le_refl _
    · have := ih (by omega)
      show _ ≤ ax_sm P E b + ab_if (P b) (E b) 0
      omega
theorem ax_w7 {u : Nat → Nat → Prop} {d : Nat → Nat → Nat} {h z v k : Nat} (hG : ab_G u d) (hz : z < 8) (hh : h < 8) (hhz : h ≠ z) (hv : v ≠ h) (hw : ab_gd u h z k v) :
    ∃ k', ab_gd u h z k' v ∧ k' + ax_cn (fun v => d z v = 1) ≤ 8 ∧ (d z h ≠ 1 → k' + ax_cn (fun v => d z v = 1) ≤ 7) := by
  have mn : ∀ k, ab_gd u h z k v → ∃ k0, ab_gd u h z k0 v ∧ ∀ i, i < k0 → ¬ ab_gd u h z i v := by
    intro k
    induction k using Nat.strongRecOn with
    | ind k ih =>
      intro hk
      by_cases e : ∃ i, i < k ∧ ab_gd u h z i v
      · obtain ⟨i, i1, i2⟩ := e
        exact ih i i1 i2
      · exact ⟨k, hk, fun i hi hi2 => e ⟨i, hi, hi2⟩⟩
  obtain ⟨k0, hk0, hmin⟩ := mn k hw
  obtain ⟨k6, h6, hk6⟩ := ax_w6 hG hz hh hhz hv hk0
  have k06 : k0 ≤ 6 := by
    by_cases e : k0 ≤ 6
    · exact e
    · exact absurd hk6 (hmin k6 (by omega))
  have v8 : v < 8 := by
    cases k0 with
    | zero => rw [show v = z from hk0]; exact hz
    | succ k0 => obtain ⟨p, _, _, hu⟩ := hk0; exact (hG.2.2.2.2.2.1 p v hu).2.2.1
  have ch : ∀ n, n ≤ k0 → ∃ p, p < 8 ∧ p ≠ h ∧ ab_gd u h z (k0 - n) p ∧ ∀ i, i < k0 - n → ¬ ab_gd u h z i p := by
    intro n
    induction n with
    | zero => intro _; exact ⟨v, v8, hv, hk0, hmin⟩
    | succ n ih =>
      intro hn
      obtain ⟨p, p1, p2, p3, p4⟩ := ih (by omega)
      obtain ⟨m, hm⟩ : ∃ m, k0 - n = m + 1 := ⟨k0 - n - 1, by omega⟩
      rw [hm] at p3 p4
      obtain ⟨p', q1, q2, q3⟩ := p3
      rw [show k0 - (n + 1) = m by omega]
      exact ⟨p', (hG.2.2.2.2.2.1 p' p q3).2.1, q2, q1, fun i hi hi2 => p4 (i + 1) (by omega) ⟨p', hi2, q2, q3⟩⟩
  have ex : ∀ i, ∃ p, i ≤ k0 → p < 8 ∧ p ≠ h ∧ ab_gd u h z i p ∧ ∀ i', i' < i → ¬ ab_gd u h z i' p := by
    intro i
    by_cases e : i ≤ k0
    · obtain ⟨p, hp⟩ := ch (k0 - i) (by omega)
      rw [show k0 - (k0 - i) = i by omega] at hp
      exact ⟨p, fun _ => hp⟩
    · exact ⟨0, fun q => absurd q e⟩
  obtain ⟨f, hf⟩ := Classical.axiomOfChoice ex
  -- the stations of the walk beyond the neighbours of z
  have c2 : ax_cn (fun i => 2 ≤ i ∧ i ≤ k0) ≤ ax_cn (fun w => ∃ i, (2 ≤ i ∧ i ≤ k0) ∧ w = f i) := by
    refine ax_cni f (fun a a8 ha => ⟨(hf a ha.2).1, a, ha, rfl⟩) (fun a b a8 b8 ha hb e => ?_)
    obtain ⟨_, _, a3, a4⟩ := hf a ha.2
    obtain ⟨_, _, b3, b4⟩ := hf b hb.2
    rcases Nat.lt_trichotomy a b with y | y | y
    · exact absurd (by rw [← e]; exact a3) (b4 a y)
    · exact y
    · exact absurd (by rw [e]; exact b3) (a4 b y)
  have c3 : k0 + 1 ≤ ax_cn (fun i => 2 ≤ i ∧ i ≤ k0) + 2 := Nat.le_trans (ax_itv (k := k0) (k0 + 1) (Nat.le_refl _)) (Nat.add_le_add_right (ax_smn 8 (by omega)) 2)
  have nb : ∀ w i, 2 ≤ i → i ≤ k0 → w = f i → d z w ≠ 1 ∧ w ≠ z ∧ w ≠ h := by
    intro w i h2 hi e
    obtain ⟨a1, a2, a3, a4⟩ := hf i hi
    rw [e]
    refine ⟨fun q => ?_, fun q => ?_, a2⟩
    · obtain ⟨p, hu, hp⟩ := hG.2.2.2.2.1 z (f i) (by omega) (by omega)
      have pz : p = z := (hG.2.2.2.1 z p (by omega)).symm
      rw [pz] at hu
      exact a4 1 (by omega) ⟨z, rfl, fun y => hhz y.symm, hu⟩
    · exact a4 0 (by omega) q
  have s1 := ax_add (P := fun w => d z w = 1) (Q := fun w => ∃ i, (2 ≤ i ∧ i ≤ k0) ∧ w = f i) (fun w p ⟨i, hi, e⟩ => (nb w i hi.1 hi.2 e).1 p) 8
  have s2 := ax_add (P := fun w => w = z) (Q := fun w => d z w = 1 ∨ ∃ i, (2 ≤ i ∧ i ≤ k0) ∧ w = f i) (fun w p q => by
    rcases q with q | ⟨i, hi, e⟩
    · rw [p, hG.1] at q; omega
    · exact (nb w i hi.1 hi.2 e).2.1 p) 8
  have c1 : 1 ≤ ax_cn (fun w => w = z) := ax_cn1 hz rfl
  have l8 := ax_le (P := fun w => w = z ∨ (d z w = 1 ∨ ∃ i, (2 ≤ i ∧ i ≤ k0) ∧ w = f i)) 8
  refine ⟨k0, hk0, ?_, fun hh1 => ?_⟩
  · simp only [ax_cn] at *
    omega
  · have s3 := ax_add (P := fun w => w = h) (Q := fun w => w = z ∨ (d z w = 1 ∨ ∃ i, (2 ≤ i ∧ i ≤ k0) ∧ w = f i)) (fun w p q => by
      rcases q with q | q | ⟨i, hi, e⟩
      · exact hhz (by rw [← p, q])
      · rw [p] at q; exact hh1 q
      · exact (nb w i hi.1 hi.2 e).2.2 p) 8
    have c0 : 1 ≤ ax_cn (fun w => w = h) := ax_cn1 hh rfl
    have l9 := ax_le (P := fun w => w = h ∨ (w = z ∨ (d z w = 1 ∨ ∃ i, (2 ≤ i ∧ i ≤ k0) ∧ w = f i))) 8
    simp only [ax_cn] at *
    omega
noncomputable def ax_E2 (u : Nat → Nat → Prop) (d : Nat → Nat → Nat) (z h : Nat) : Nat := ab_if (ax_ef u d z h) (if d z h = 1 then 6 - ax_cn (fun v => d z v = 1) else 6 - ax_cn (fun v => d z v = 1) - d z h) 0
theorem ax_XI2 {Z : ab_Z} {d : Nat → Nat → Nat} {N z : Nat} (hW : ax_W Z d N) (hz : z < 8) : ax_X Z d z (ax_E2 (ab_zu Z) d z) := by
  obtain ⟨h, hL, hG, hl8, hq⟩ := hW
  intro g v k hl hw
  have h7 := ab_gd7 hG g z k v hw
  by_cases e : ab_gd (ab_zu Z) g z (d z v) v
  · exact ⟨d z v, by omega, e⟩
  · have hvg : v ≠ g := fun q => e (by rw [q]; exact ab_gdb hG g z _ g rfl (by rw [← q]; exact h7) (Nat.le_refl _))
    have hlv : d z g + 1 ≤ d z v := by
      by_cases q : d z v ≤ d z g
      · exact absurd (ab_gdb hG g z _ v rfl h7 q) e
      · omega
    obtain ⟨k', k2, k1, k3'⟩ := ax_w7 hG hz (hl8 _ _ hl).2.2 (fun q => (hl8 _ _ hl).1 q.symm) hvg hw
    have k3 := ab_gdd hG g z k' v k2
    refine ⟨k', ?_, k2⟩
    unfold ax_E2
    rw [ab_ip (show ax_ef (ab_zu Z) d z g from ⟨v, k, hw, e⟩)]
    by_cases e1 : d z g = 1
    · rw [if_pos e1]
      omega
    · rw [if_neg e1]
      have := k3' e1
      omega
theorem ax_Ec {u : Nat → Nat → Prop} {d : Nat → Nat → Nat} {z c1 c2 c3 c4 : Nat} : ∀ n, ax_sm (fun _ => True) (fun h => ab_if (ax_ef u d z h) (if d z h = 1 then c1 else if d z h = 2 then c2 else if d z h = 3 then c3 else if d z h = 4 then c4 else 0) 0) n =
    c1 * ax_sm (fun h => ax_ef u d z h ∧ d z h = 1) (fun _ => 1) n + c2 * ax_sm (fun h => ax_ef u d z h ∧ d z h = 2) (fun _ => 1) n + c3 * ax_sm (fun h => ax_ef u d z h ∧ d z h = 3) (fun _ => 1) n + c4 * ax_sm (fun h => ax_ef u d z h ∧ d z h = 4) (fun _ => 1) n := by
  intro n
  induction n with
  | zero => rfl
  | succ n ih =>
    have K : ∀ c e, c * ax_sm (fun h => ax_ef u d z h ∧ d z h = e) (fun _ => 1) (n + 1) = c * ax_sm (fun h => ax_ef u d z h ∧ d z h = e) (fun _ => 1) n + (if d z n = e then ab_if (ax_ef u d z n) c 0 else 0) := by
      intro c e
      show c * (ax_sm (fun h => ax_ef u d z h ∧ d z h = e) (fun _ => 1) n + ab_if (ax_ef u d z n ∧ d z n = e) 1 0) = _
      by_cases q : d z n = e
      · rw [if_pos q]
        by_cases f : ax_ef u d z n
        · rw [ab_ip ⟨f, q⟩, ab_ip f, Nat.mul_add, Nat.mul_one]
        · rw [ab_in (fun y => f y.1), ab_in f, Nat.add_zero, Nat.add_zero]
      · rw [if_neg q, ab_in (fun y => q y.2), Nat.add_zero, Nat.add_zero]
    have T : ∀ E : Nat → Nat, ax_sm (fun _ => True) E (n + 1) = ax_sm (fun _ => True) E n + E n := by
      intro E
      show ax_sm (fun _ => True) E n + ab_if True (E n) 0 = _
      rw [ab_ip trivial]
    rw [T, K, K, K, K, ih]
    by_cases f : ax_ef u d z n
    · rw [ab_ip f, ab_ip f, ab_ip f, ab_ip f, ab_ip f]
      split <;> split <;> split <;> split <;> omega
    · rw [ab_in f, ab_in f, ab_in f, ab_in f, ab_in f]
      split <;> split <;> split <;> split <;> omega
theorem ax_smE {E F : Nat → Nat} (h : ∀ k, E k ≤ F k) : ∀ n, ax_sm (fun _ => True) E n ≤ ax_sm (fun _ => True) F n := by
  intro n
  induction n with
  | zero => exact Nat.le_refl _
  | succ n ih =>
    show ax_sm (fun _ => True) E n + ab_if True (E n) 0 ≤ ax_sm (fun _ => True) F n + ab_if True (F n) 0
    rw [ab_ip trivial, ab_ip trivial]
    have := h n
    omega
/-- THE BOUND, finer -/
theorem ax_GB2 {u : Nat → Nat → Prop} {d : Nat → Nat → Nat} {z c : Nat} (h : ab_G u d) (hz : z < 8) (hc : c < 8) (h7 : d z c ≤ 7) : 2 * d z c + ax_sm (fun _ => True) (ax_E2 u d z) 8 ≤ 20 := by
  have h0 : ∀ g, d z g = 0 → ¬ ax_ef u d z g := by
    intro g hg ⟨v, k, hw, hb⟩
    have e := h.2.2.2.1 z g hg
    cases k with
    | zero =>
      rw [show v = z from hw, h.1] at hb
      exact hb rfl
    | succ k =>
      have : ∀ k p, ab_gd u g z k p → k = 0 ∨ ∃ p', ab_gd u g z 1 p' := by
        intro k
        induction k with
        | zero => intro p _; exact Or.inl rfl
        | succ k ih =>
          intro p ⟨p', q1, q2, q3⟩
          cases k with
          | zero => exact Or.inr ⟨p, p', q1, q2, q3⟩
          | succ k =>
            rcases ih p' q1 with y | y
            · omega
            · exact Or.inr y
      rcases this (k + 1) v hw with y | ⟨p', p'', y1, y2, _⟩
      · omega
      · exact y2 (by rw [show p'' = z from y1]; exact e)
  obtain ⟨a1, a2, a3⟩ := ax_pn (e := 1) (e' := 2) (z := z) rfl h hz
  obtain ⟨b1, b2, b3⟩ := ax_pn (e := 2) (e' := 3) (z := z) rfl h hz
  obtain ⟨c1, c2, c3⟩ := ax_pn (e := 3) (e' := 4) (z := z) rfl h hz
  obtain ⟨d1, d2, d3⟩ := ax_pn (e := 4) (e' := 5) (z := z) rfl h hz
  have L := ax_lvs (d := d) (z := z) 8
  have n0 : 1 ≤ ax_cn (fun v => d z v = 0) := ax_cn1 hz (h.1 z)
  have lv := ab_lev h z _ c rfl h7 hc
  have nn : ∀ i, d z c < i ∨ 1 ≤ ax_cn (fun v => d z v = i) := by
    intro i
    by_cases e : i ≤ d z c
    · obtain ⟨p, p1, p2⟩ := lv i e
      exact Or.inr (ax_cn1 p1 p2)
    · exact Or.inl (by omega)
  have m1 := nn 1
  have m2 := nn 2
  have m3 := nn 3
  have m4 := nn 4
  have m5 := nn 5
  have m6 := nn 6
  have m7 := nn 7
  have B : ∀ k, ax_cn (fun v => d z v = 1) = k → ax_sm (fun _ => True) (ax_E2 u d z) 8 ≤ (6 - k) * ax_cn (fun h => ax_ef u d z h ∧ d z h = 1) + (4 - k) * ax_cn (fun h => ax_ef u d z h ∧ d z h = 2) + (3 - k) * ax_cn (fun h => ax_ef u d z h ∧ d z h = 3) + (2 - k) * ax_cn (fun h => ax_ef u d z h ∧ d z h = 4) ∨ k = 0 := by
    intro k hk
    by_cases k0 : k = 0
    · exact Or.inr k0
    · refine Or.inl ?_
      show _ ≤ (6 - k) * ax_sm (fun h => ax_ef u d z h ∧ d z h = 1) (fun _ => 1) 8 + (4 - k) * ax_sm (fun h => ax_ef u d z h ∧ d z h = 2) (fun _ => 1) 8 + (3 - k) * ax_sm (fun h => ax_ef u d z h ∧ d z h = 3) (fun _ => 1) 8 + (2 - k) * ax_sm (fun h => ax_ef u d z h ∧ d z h = 4) (fun _ => 1) 8
      rw [← ax_Ec 8]
      refine ax_smE (fun g => ?_) 8
      unfold ax_E2
      by_cases f : ax_ef u d z g
      · rw [ab_ip f, ab_ip f, hk]
        have hne : d z g ≠ 0 := fun q => h0 g q f
        split
        · omega
        · split
          · omega
          · split
            · omega
            · split <;> omega
      · rw [ab_in f, ab_in f]
        omega
  have n18 := ax_le (P := fun v => d z v = 1) 8
  have hk : ∃ k, ax_cn (fun v => d z v = 1) = k := ⟨_, rfl⟩
  obtain ⟨k, hk⟩ := hk
  have hk8 : k ≤ 8 := by rw [← hk]; exact n18
  have BB := B k hk
  simp only [ax_cn] at *
  have kc : k = 0 ∨ k = 1 ∨ k = 2 ∨ k = 3 ∨ k = 4 ∨ k = 5 ∨ k = 6 ∨ k = 7 ∨ k = 8 := by omega
  rcases kc with e | e | e | e | e | e | e | e | e <;> subst e
  · have noef : ∀ g, ¬ ax_ef u d z g := by
      intro g ⟨v, kk, hw, hb⟩
      have hv7 := ab_gd7 h g z kk v hw
      have hv8 : v < 8 := by
        cases kk with
        | zero => rw [show v = z from hw]; exact hz
        | succ kk => obtain ⟨p, _, _, hu⟩ := hw; exact (h.2.2.2.2.2.1 p v hu).2.2.1
      rcases Nat.eq_zero_or_pos (d z v) with q | q
      · rw [q] at hb
        exact hb (h.2.2.2.1 z v q).symm
      · obtain ⟨p, p1, p2⟩ := ab_lev h z _ v rfl hv7 hv8 1 q
        have := ax_cn1 (P := fun v => d z v = 1) p1 p2
        simp only [ax_cn] at this
        omega
    have z0 : ax_sm (fun _ => True) (ax_E2 u d z) 8 ≤ ax_sm (fun _ => True) (fun _ => 0) 8 := ax_smE (fun g => by
      unfold ax_E2
      rw [ab_in (noef g)]
      omega) 8
    have z1 : ∀ n, ax_sm (fun _ => True) (fun _ => 0) n = 0 := by
      intro n
      induction n with
      | zero => rfl
      | succ n ih =>
        show ax_sm (fun _ => True) (fun _ => 0) n + ab_if True 0 0 = 0
        rw [ih, ab_ip trivial]
    rw [z1 8] at z0
    omega
  all_goals (rcases BB with BB | BB <;> omega)
