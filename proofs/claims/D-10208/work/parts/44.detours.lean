/-! ## what detours can cost in a graph of 8 stations -/
/-- a shortest walk round h makes at most 6 links -/
theorem ax_w6 {u : Nat → Nat → Prop} {d : Nat → Nat → Nat} {h z v k : Nat} (hG : ab_G u d) (hz : z < 8) (hh : h < 8) (hhz : h ≠ z) (hv : v ≠ h) (hw : ab_gd u h z k v) : ∃ k', k' ≤ 6 ∧ ab_gd u h z k' v := by
  have mn : ∀ k, ab_gd u h z k v → ∃ k0, ab_gd u h z k0 v ∧ ∀ i, i < k0 → ¬ ab_gd u h z i v := by
    intro k
    induction k using Nat.strongRecOn with
    | ind k ih =>
      intro hk
      by_cases e : ∃ i, i < k ∧ ab_gd u h z i v
      · obtain ⟨i, i1, i2⟩ := e
        exact ih i i1 i2
      · exact ⟨k, hk, fun i hi hi2 => e ⟨i, hi, hi2⟩⟩
  obtain ⟨k0, hk0, hmin⟩ := mn k hw
  have v8 : v < 8 := by
    cases k0 with
    | zero => rw [show v = z from hk0]; exact hz
    | succ k0 => obtain ⟨p, _, _, hu⟩ := hk0; exact (hG.2.2.2.2.2.1 p v hu).2.2.1
  have ch : ∀ n, n ≤ k0 → ∃ p, p < 8 ∧ p ≠ h ∧ ab_gd u h z (k0 - n) p ∧ ∀ i, i < k0 - n → ¬ ab_gd u h z i p := by
    intro n
    induction n with
    | zero => intro _; exact ⟨v, v8, hv, hk0, hmin⟩
    | succ n ih =>
      intro hn
      obtain ⟨p, p1, p2, p3, p4⟩ := ih (by omega)
      obtain ⟨m, hm⟩ : ∃ m, k0 - n = m + 1 := ⟨k0 - n - 1, by omega⟩
      rw [hm] at p3 p4
      obtain ⟨p', q1, q2, q3⟩ := p3
      rw [show k0 - (n + 1) = m by omega]
      exact ⟨p', (hG.2.2.2.2.2.1 p' p q3).2.1, q2, q1, fun i hi hi2 => p4 (i + 1) (by omega) ⟨p', hi2, q2, q3⟩⟩
  have ex : ∀ i, ∃ p, i ≤ k0 → p < 8 ∧ p ≠ h ∧ ab_gd u h z i p ∧ ∀ i', i' < i → ¬ ab_gd u h z i' p := by
    intro i
    by_cases e : i ≤ k0
    · obtain ⟨p, hp⟩ := ch (k0 - i) (by omega)
      rw [show k0 - (k0 - i) = i by omega] at hp
      exact ⟨p, fun _ => hp⟩
    · exact ⟨0, fun q => absurd q e⟩
  obtain ⟨f, hf⟩ := Classical.axiomOfChoice ex
  have := ab_inj 8 (k0 + 2) (fun i => if i ≤ k0 then f i else h) (fun i hi => by
    show (if i ≤ k0 then f i else h) < 8
    split
    · rename_i e; exact (hf i e).1
    · exact hh) (fun i j hi hj => by
    show (if i ≤ k0 then f i else h) = (if j ≤ k0 then f j else h) → i = j
    intro q
    by_cases ei : i ≤ k0
    · rw [if_pos ei] at q
      by_cases ej : j ≤ k0
      · rw [if_pos ej] at q
        obtain ⟨_, _, a3, a4⟩ := hf i ei
        obtain ⟨_, _, b3, b4⟩ := hf j ej
        rcases Nat.lt_trichotomy i j with y | y | y
        · exact absurd (by rw [← q]; exact a3) (b4 i y)
        · exact y
        · exact absurd (by rw [q]; exact b3) (a4 j y)
      · rw [if_neg ej] at q
        exact absurd q (hf i ei).2.1
    · rw [if_neg ei] at q
      by_cases ej : j ≤ k0
      · rw [if_pos ej] at q
        exact absurd q.symm (hf j ej).2.1
      · omega)
  exact ⟨k0, by omega, hk0⟩
/-- going round h makes a difference -/
def ax_ef (u : Nat → Nat → Prop) (d : Nat → Nat → Nat) (z h : Nat) : Prop := ∃ v k, ab_gd u h z k v ∧ ¬ ab_gd u h z (d z v) v
noncomputable def ax_Eh (u : Nat → Nat → Prop) (d : Nat → Nat → Nat) (z h : Nat) : Nat := ab_if (ax_ef u d z h) (5 - d z h) 0
theorem ax_XI {Z : ab_Z} {d : Nat → Nat → Nat} {N z : Nat} (hW : ax_W Z d N) (hz : z < 8) : ax_X Z d z (ax_Eh (ab_zu Z) d z) := by
  obtain ⟨h, hL, hG, hl8, hq⟩ := hW
  intro g v k hl hw
  have h7 := ab_gd7 hG g z k v hw
  by_cases e : ab_gd (ab_zu Z) g z (d z v) v
  · exact ⟨d z v, by omega, e⟩
  · have hvg : v ≠ g := fun q => e (by rw [q]; exact ab_gdb hG g z _ g rfl (by rw [← q]; exact h7) (Nat.le_refl _))
    have hlv : d z g + 1 ≤ d z v := by
      by_cases q : d z v ≤ d z g
      · exact absurd (ab_gdb hG g z _ v rfl h7 q) e
      · omega
    obtain ⟨k', k1, k2⟩ := ax_w6 hG hz (hl8 _ _ hl).2.2 (fun q => (hl8 _ _ hl).1 q.symm) hvg hw
    have k3 := ab_gdd hG g z k' v k2
    refine ⟨k', ?_, k2⟩
    unfold ax_Eh
    rw [ab_ip (show ax_ef (ab_zu Z) d z g from ⟨v, k, hw, e⟩)]
    omega
/-- counting stations -/
noncomputable abbrev ax_cn (P : Nat → Prop) : Nat := ax_sm P (fun _ => 1) 8
theorem ax_smf {E : Nat → Nat} : ∀ n, ax_sm (fun _ => False) E n = 0 := by
  intro n
  induction n with
  | zero => rfl
  | succ n ih =>
    show ax_sm (fun _ => False) E n + ab_if False (E n) 0 = 0
    rw [ih, ab_in (fun z => z)]
theorem ax_cn1 {P : Nat → Prop} {a : Nat} (h8 : a < 8) (ha : P a) : 1 ≤ ax_cn P := by
  have := ax_sma (P := fun _ => False) (Q := P) (E := fun _ => 1) (k := a) (fun _ q => q.elim) (fun q => q) ha 8 h8
  rw [ax_smf] at this
  exact this
theorem ax_cn2 {P : Nat → Prop} {a b : Nat} (h8 : a < 8) (hb8 : b < 8) (ha : P a) (hb : P b) (hab : a ≠ b) : 2 ≤ ax_cn P := by
  have h1 := ax_cn1 (P := fun k => k = a) h8 rfl
  have := ax_sma (P := fun k => k = a) (Q := P) (E := fun _ => 1) (k := b) (fun k q => by rw [q]; exact ha) (fun q => hab q.symm) hb 8 hb8
  have h1' : 1 ≤ ax_sm (fun k => k = a) (fun _ => 1) 8 := h1
  show 2 ≤ ax_sm P (fun _ => 1) 8
  omega
theorem ax_cni {P Q : Nat → Prop} (f : Nat → Nat) (hf : ∀ a, a < 8 → P a → f a < 8 ∧ Q (f a)) (hi : ∀ a b, a < 8 → b < 8 → P a → P b → f a = f b → a = b) : ax_cn P ≤ ax_cn Q := by
  have K : ∀ n, n ≤ 8 → ax_sm P (fun _ => 1) n ≤ ax_cn (fun b => ∃ a, a < n ∧ P a ∧ f a = b) := by
    intro n
    induction n with
    | zero => intro _; exact Nat.zero_le _
    | succ n ih =>
      intro hn
      have I := ih (by omega)
      show ax_sm P (fun _ => 1) n + ab_if (P n) 1 0 ≤ _
      by_cases p : P n
      · rw [ab_ip p]
        have := ax_sma (P := fun b => ∃ a, a < n ∧ P a ∧ f a = b) (Q := fun b => ∃ a, a < n + 1 ∧ P a ∧ f a = b) (E := fun _ => 1) (k := f n)
          (fun k ⟨a, a1, a2, a3⟩ => ⟨a, by omega, a2, a3⟩) (fun ⟨a, a1, a2, a3⟩ => by
            have := hi a n (by omega) (by omega) a2 p a3
            omega) ⟨n, by omega, p, rfl⟩ 8 (hf n (by omega) p).1
        exact Nat.le_trans (Nat.add_le_add_right I 1) this
      · rw [ab_in p]
        exact Nat.le_trans I (ax_smm (fun k ⟨a, a1, a2, a3⟩ => ⟨a, by omega, a2, a3⟩) 8)
  refine Nat.le_trans (K 8 (Nat.le_refl _)) (ax_smm (fun k ⟨a, a1, a2, a3⟩ => ?_) 8)
  rw [← a3]
  exact (hf a a1 a2).2
/-- what an effective station brings along -/
theorem ax_efs {u : Nat → Nat → Prop} {d : Nat → Nat → Nat} {z g : Nat} (h : ab_G u d) (hz : z < 8) (hg8 : g < 8) (he : ax_ef u d z g) :
    (∃ b, b < 8 ∧ b ≠ g ∧ d z b = d z g) ∧ (∃ b, b < 8 ∧ d z b = d z g + 1 ∧ ab_gd u g z (d z b) b) ∧ (∃ q, q < 8 ∧ d z q = d z g + 1 ∧ ¬ ab_gd u g z (d z q) q) := by
  obtain ⟨v, k, hw, hb⟩ := he
  have hv7 := ab_gd7 h g z k v hw
  have hv8 : v < 8 := by
    cases k with
    | zero => rw [show v = z from hw]; exact hz
    | succ k => obtain ⟨p, _, _, hu⟩ := hw; exact (h.2.2.2.2.2.1 p v hu).2.2.1
  have hvg : d z g + 1 ≤ d z v := by
    by_cases e : d z v ≤ d z g
    · exact absurd (ab_gdb h g z _ v rfl hv7 e) hb
    · omega
  have hc : ∀ v, d z v ≤ 7 ∨ ∀ k, ¬ ab_gd u g z k v := by
    intro v
    by_cases e : ∃ k, ab_gd u g z k v
    · obtain ⟨k, hk⟩ := e
      exact Or.inl (ab_gd7 h g z k v hk)
    · exact Or.inr (fun k hk => e ⟨k, hk⟩)
  obtain ⟨q, q8, ql, qb⟩ := ab_bad h g z _ v rfl hv7 hv8 hb hvg
  rcases ab_gb h g z hc k v hw with y | ⟨b, hb1, hb2⟩
  · exact absurd y hb
  · have good : ∀ n b, ab_gd u g z (d z b) b → d z b = d z g + 1 + n → ∃ b, ab_gd u g z (d z b) b ∧ d z b = d z g + 1 := by
      intro n
      induction n with
      | zero => intro b h1 h2; exact ⟨b, h1, h2⟩
      | succ n ih =>
        intro b h1 h2
        obtain ⟨p, p1, p2, _, _⟩ := ab_gdw (k := d z g + 1 + n) h h1 (by omega)
        exact ih p p1 p2
    obtain ⟨b1, g1, l1⟩ := good (d z b - (d z g + 1)) b hb1 (by omega)
    obtain ⟨b0, g0, l0, n0, u0⟩ := ab_gdw (k := d z g) h g1 l1
    exact ⟨⟨b0, (h.2.2.2.2.2.1 b0 b1 u0).2.1, n0, l0⟩, ⟨b1, (h.2.2.2.2.2.1 b0 b1 u0).2.2.1, l1, g1⟩, ⟨q, q8, ql, qb⟩⟩
/-- a station behind two effective ones of one level: they are one -/
theorem ax_efi {u : Nat → Nat → Prop} {d : Nat → Nat → Nat} {z a b q : Nat} (h : ab_G u d) (hab : d z a = d z b) (hq : d z q = d z a + 1) (h7 : d z q ≤ 7) (ha : ¬ ab_gd u a z (d z q) q) (hb : ¬ ab_gd u b z (d z q) q) : a = b := by
  obtain ⟨p, hu, hp⟩ := h.2.2.2.2.1 z q (by omega) h7
  have pa : p = a := by
    by_cases e : p = a
    · exact e
    · exact absurd (ab_gdn (ab_gdb h a z _ p rfl (by omega) (by omega)) e hu (by omega)) ha
  have pb : p = b := by
    by_cases e : p = b
    · exact e
    · exact absurd (ab_gdn (ab_gdb h b z _ p rfl (by omega) (by omega)) e hu (by omega)) hb
  omega
/-- levels -/
theorem ax_lvs {d : Nat → Nat → Nat} {z : Nat} : ∀ n, ax_sm (fun v => d z v = 0) (fun _ => 1) n + ax_sm (fun v => d z v = 1) (fun _ => 1) n + ax_sm (fun v => d z v = 2) (fun _ => 1) n + ax_sm (fun v => d z v = 3) (fun _ => 1) n + ax_sm (fun v => d z v = 4) (fun _ => 1) n + ax_sm (fun v => d z v = 5) (fun _ => 1) n + ax_sm (fun v => d z v = 6) (fun _ => 1) n + ax_sm (fun v => d z v = 7) (fun _ => 1) n ≤ n := by
  intro n
  induction n with
  | zero => exact Nat.le_refl _
  | succ n ih =>
    have K : ∀ e, ax_sm (fun v => d z v = e) (fun _ => 1) (n + 1) = ax_sm (fun v => d z v = e) (fun _ => 1) n + (if d z n = e then 1 else 0) := by
      intro e
      show ax_sm (fun v => d z v = e) (fun _ => 1) n + ab_if (d z n = e) 1 0 = _
      by_cases q : d z n = e
      · rw [ab_ip q, if_pos q]
      · rw [ab_in q, if_neg q]
    rw [K 0, K 1, K 2, K 3, K 4, K 5, K 6, K 7]
    split <;> split <;> split <;> split <;> split <;> split <;> split <;> split <;> omega
theorem ax_Es {u : Nat → Nat → Prop} {d : Nat → Nat → Nat} {z : Nat} (h0 : ∀ h, d z h = 0 → ¬ ax_ef u d z h) : ∀ n, ax_sm (fun _ => True) (ax_Eh u d z) n =
    4 * ax_sm (fun h => ax_ef u d z h ∧ d z h = 1) (fun _ => 1) n + 3 * ax_sm (fun h => ax_ef u d z h ∧ d z h = 2) (fun _ => 1) n + 2 * ax_sm (fun h => ax_ef u d z h ∧ d z h = 3) (fun _ => 1) n + ax_sm (fun h => ax_ef u d z h ∧ d z h = 4) (fun _ => 1) n := by
  intro n
  induction n with
  | zero => rfl
  | succ n ih =>
    have K : ∀ e, ax_sm (fun h => ax_ef u d z h ∧ d z h = e) (fun _ => 1) (n + 1) = ax_sm (fun h => ax_ef u d z h ∧ d z h = e) (fun _ => 1) n + ab_if (ax_ef u d z n ∧ d z n = e) 1 0 := fun e => rfl
    have T : ax_sm (fun _ => True) (ax_Eh u d z) (n + 1) = ax_sm (fun _ => True) (ax_Eh u d z) n + ax_Eh u d z n := by
      show ax_sm (fun _ => True) (ax_Eh u d z) n + ab_if True (ax_Eh u d z n) 0 = _
      rw [ab_ip trivial]
    rw [T, K 1, K 2, K 3, K 4, ih]
    unfold ax_Eh
    by_cases e : ax_ef u d z n
    · rw [ab_ip e]
      have C : ∀ k, ab_if (ax_ef u d z n ∧ d z n = k) 1 0 = if d z n = k then 1 else 0 := by
        intro k
        by_cases q : d z n = k
        · rw [ab_ip ⟨e, q⟩, if_pos q]
        · rw [ab_in (fun y => q y.2), if_neg q]
      rw [C 1, C 2, C 3, C 4]
      have : d z n ≠ 0 := fun q => h0 n q e
      split <;> split <;> split <;> split <;> omega
    · rw [ab_in e, ab_in (fun y => e y.1), ab_in (fun y => e y.1), ab_in (fun y => e y.1), ab_in (fun y => e y.1)]
      omega
theorem ax_pn {u : Nat → Nat → Prop} {d : Nat → Nat → Nat} {z e e' : Nat} (he : e' = e + 1) (h : ab_G u d) (hz : z < 8) :
    ax_cn (fun g => ax_ef u d z g ∧ d z g = e) ≤ ax_cn (fun v => d z v = e) ∧ ax_cn (fun g => ax_ef u d z g ∧ d z g = e) ≤ ax_cn (fun v => d z v = e') ∧
    (ax_cn (fun g => ax_ef u d z g ∧ d z g = e) = 0 ∨ (2 ≤ ax_cn (fun v => d z v = e) ∧ 2 ≤ ax_cn (fun v => d z v = e'))) := by
  refine ⟨ax_smm (fun k q => q.2) 8, ?_, ?_⟩
  · have ex : ∀ g, ∃ q, g < 8 → ax_ef u d z g ∧ d z g = e → q < 8 ∧ d z q = d z g + 1 ∧ ¬ ab_gd u g z (d z q) q := by
      intro g
      by_cases y : g < 8 ∧ ax_ef u d z g
      · obtain ⟨_, _, q, q1⟩ := ax_efs h hz y.1 y.2
        exact ⟨q, fun _ _ => q1⟩
      · exact ⟨0, fun a b => absurd ⟨a, b.1⟩ y⟩
    obtain ⟨f, hf⟩ := Classical.axiomOfChoice ex
    refine ax_cni f (fun a a8 ha => ?_) (fun a b a8 b8 ha hb hab => ?_)
    · obtain ⟨y1, y2, _⟩ := hf a a8 ha
      exact ⟨y1, by rw [y2, ha.2, he]⟩
    · obtain ⟨x1, x2, x3⟩ := hf a a8 ha
      obtain ⟨y1, y2, y3⟩ := hf b b8 hb
      have h7 : d z (f a) ≤ 7 := by
        rcases h.2.2.2.2.2.2 z (f a) with y | y
        · exact y
        · have := h.2.2.2.2.2.2 z a
          omega
      rw [← hab] at y2 y3
      exact ax_efi h (by rw [ha.2, hb.2]) x2 h7 x3 y3
  · by_cases y : ∃ g, g < 8 ∧ ax_ef u d z g ∧ d z g = e
    · obtain ⟨g, g8, ge, gl⟩ := y
      obtain ⟨⟨b, b1, b2, b3⟩, ⟨c, c1, c2, c3⟩, ⟨q, q1, q2, q3⟩⟩ := ax_efs h hz g8 ge
      refine Or.inr ⟨ax_cn2 (a := g) (b := b) g8 b1 gl (by omega) (fun y => b2 y.symm), ax_cn2 (a := c) (b := q) c1 q1 (by omega) (by omega) (fun y => q3 (by rw [← y]; exact c3))⟩
    · refine Or.inl ?_
      have : ∀ n, n ≤ 8 → ax_sm (fun g => ax_ef u d z g ∧ d z g = e) (fun _ => 1) n = 0 := by
        intro n
        induction n with
        | zero => intro _; rfl
        | succ n ih =>
          intro hn
          show ax_sm (fun g => ax_ef u d z g ∧ d z g = e) (fun _ => 1) n + ab_if (ax_ef u d z n ∧ d z n = e) 1 0 = 0
          rw [ih (by omega), ab_in (fun q => y ⟨n, by omega, q⟩)]
      exact this 8 (Nat.le_refl _)
/-- THE BOUND: twice the distance and all detours are at most 22 -/
theorem ax_GB {u : Nat → Nat → Prop} {d : Nat → Nat → Nat} {z c : Nat} (h : ab_G u d) (hz : z < 8) (hc : c < 8) (h7 : d z c ≤ 7) : 2 * d z c + ax_sm (fun _ => True) (ax_Eh u d z) 8 ≤ 22 := by
  have h0 : ∀ g, d z g = 0 → ¬ ax_ef u d z g := by
    intro g hg ⟨v, k, hw, hb⟩
    have e := h.2.2.2.1 z g hg
    cases k with
    | zero =>
      rw [show v = z from hw, h.1] at hb
      exact hb rfl
    | succ k =>
      have : ∀ k p, ab_gd u g z k p → k = 0 ∨ ∃ p', ab_gd u g z 1 p' := by
        intro k
        induction k with
        | zero => intro p _; exact Or.inl rfl
        | succ k ih =>
          intro p ⟨p', q1, q2, q3⟩
          cases k with
          | zero => exact Or.inr ⟨p, p', q1, q2, q3⟩
          | succ k =>
            rcases ih p' q1 with y | y
            · omega
            · exact Or.inr y
      rcases this (k + 1) v hw with y | ⟨p', p'', y1, y2, _⟩
      · omega
      · exact y2 (by rw [show p'' = z from y1]; exact e)
  rw [ax_Es h0 8]
  obtain ⟨a1, a2, a3⟩ := ax_pn (e := 1) (e' := 2) (z := z) rfl h hz
  obtain ⟨b1, b2, b3⟩ := ax_pn (e := 2) (e' := 3) (z := z) rfl h hz
  obtain ⟨c1, c2, c3⟩ := ax_pn (e := 3) (e' := 4) (z := z) rfl h hz
  obtain ⟨d1, d2, d3⟩ := ax_pn (e := 4) (e' := 5) (z := z) rfl h hz
  have L := ax_lvs (d := d) (z := z) 8
  have n0 : 1 ≤ ax_cn (fun v => d z v = 0) := ax_cn1 hz (h.1 z)
  have lv := ab_lev h z _ c rfl h7 hc
  have nn : ∀ i, d z c < i ∨ 1 ≤ ax_cn (fun v => d z v = i) := by
    intro i
    by_cases e : i ≤ d z c
    · obtain ⟨p, p1, p2⟩ := lv i e
      exact Or.inr (ax_cn1 p1 p2)
    · exact Or.inl (by omega)
  have m1 := nn 1
  have m2 := nn 2
  have m3 := nn 3
  have m4 := nn 4
  have m5 := nn 5
  have m6 := nn 6
  have m7 := nn 7
  simp only [ax_cn] at *
  omega
