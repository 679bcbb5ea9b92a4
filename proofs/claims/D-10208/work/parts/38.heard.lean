/-! ## where the frames in the ring come from -/
/-- what a step sends bears its moment -/
theorem rf_o0 {u lv : Nat → Nat → Prop} {cf ac : Nat → Nat → Nat} {k a b : Nat} {x w : ab_F} {D : ab_D} (h : (ab_do u lv cf ac k a b x D).2 w) : w 0 = D 0 0 0 ∧ w 1 = a := by
  by_cases h0 : k = 0
  · subst h0
    rw [ab_do0] at h
    exact absurd h (fun z => z)
  · by_cases h1 : k = 1
    · subst h1
      rw [ab_do1] at h
      obtain ⟨_, y⟩ := ab_hho h
      rcases y with ⟨_, _, _, e⟩ | ⟨_, _, _, e, _⟩ | ⟨_, _, e, _⟩ | ⟨_, _, _, e, _⟩ | ⟨_, _, e, _⟩ | ⟨c, r, e, _⟩ <;> (rw [e]; exact ⟨rfl, rfl⟩)
    · by_cases h2 : k = 2
      · subst h2
        rw [ab_do2] at h
        rcases ab_uc (u := u) (lv := lv) (cf := cf) (a := a) (b := b) (D := D) with ⟨z, _⟩ | ⟨hl, _, ⟨z, _, _, _, y⟩ | ⟨_, y⟩⟩
        · rw [z] at h
          exact absurd h (fun z => z)
        · rw [y.2] at h
          have e : w = ab_pt (ab_w (ab_w (ab_w D 9 a b z) 7 a b 1) 8 a b (D 0 0 0) 0 0 0) a (D 1 a b) (ab_fr 3 a b (cf a b) 0 8) := h
          rw [ab_wf (by decide), ab_wf (by decide), ab_wf (by decide)] at e
          rw [e]; exact ⟨rfl, rfl⟩
        · obtain ⟨_, _, y | y⟩ := ab_nwc y
          · obtain ⟨r, _, e⟩ := y.2.2.2.2.2 w h
            rw [e]; exact ⟨rfl, rfl⟩
          · rcases y.2.2.2.2.2.2.2 w h with ⟨r, _, _, e⟩ | ⟨r, _, e⟩ <;> (rw [e]; exact ⟨rfl, rfl⟩)
      · have hlt : 3 ≤ k := by omega
        rw [ab_do3 hlt] at h
        exact absurd h (fun z => z)
/-- the moment of a micro step -/
theorem rf_nowS {S : zz_T} {B N n : Nat} (hA : rf_A S B N) (hn : n ≤ N) : ∃ t, t < B + n ∧ rf_S S n 4 0 = nI t ∧ ab_zn (rf_Z S) n = t := by
  obtain ⟨t, ht, e⟩ := ((rf_main hA n hn).1.1).1
  refine ⟨t, ht, e, ?_⟩
  show rf_a (rf_S S n) 0 0 0 = t
  have := hA.1
  rw [rf_0r, e, rf_cn (by omega)]
/-- a used slot: put by an earlier step of the run, or as it was at the start -/
theorem rf_prov {S : zz_T} {B N : Nat} (hA : rf_A S B N) : ∀ n, n ≤ N → ∀ i, i < 1024 → ¬ rf_S S n 32 i = 0 → (∃ j, j < n ∧ ab_zO (rf_Z S) j (rf_sl (rf_S S n) i)) ∨ rf_ss S (rf_S S n) i := by
  intro n
  induction n with
  | zero => intro _ i _ _; exact Or.inr ⟨rfl, rfl, rfl, rfl, fun _ _ => rfl⟩
  | succ n ih =>
    intro hn i hi hu
    have hD := (rf_main hA n (by omega)).2 (by omega)
    have tr : rf_ss (rf_S S n) (rf_S S (n + 1)) i → (∃ j, j < n + 1 ∧ ab_zO (rf_Z S) j (rf_sl (rf_S S (n + 1)) i)) ∨ rf_ss S (rf_S S (n + 1)) i := by
      intro z
      rw [z.1] at hu
      rcases ih (by omega) i hi hu with ⟨j, hj, y⟩ | y
      · refine Or.inl ⟨j, by omega, ?_⟩
        rw [rf_sss z]
        exact y
      · exact Or.inr ⟨z.1.trans y.1, z.2.1.trans y.2.1, z.2.2.1.trans y.2.2.1, z.2.2.2.1.trans y.2.2.2.1, fun q hq => (z.2.2.2.2 q hq).trans (y.2.2.2.2 q hq)⟩
    by_cases h0 : n % 1089 = 0
    · exact tr ((hD.2.1 h0).1 i hi)
    · obtain ⟨V, m, ⟨hm, hT1⟩, ⟨j, hj, a1, a2, a3, a4, a5, a6⟩, v4, v5, vs, _⟩ := hD.2.2 h0
      rcases a5 i hi with ⟨q, _, _, _, _, q5, _⟩ | ⟨_, q2⟩
      · exact Or.inl ⟨n, by omega, q5⟩
      · rcases vs i hi with ⟨_, _, z⟩ | z
        · rw [q2.1, z] at hu
          exact absurd rfl hu
        · exact tr ⟨q2.1.trans z.1, q2.2.1.trans z.2.1, q2.2.2.1.trans z.2.2.1, q2.2.2.2.1.trans z.2.2.2.1, fun k hk => (q2.2.2.2.2 k hk).trans (z.2.2.2.2 k hk)⟩
/-- when frames are due: in the next moment, or in this one and not listened to yet -/
def rf_du (S : zz_T) (n : Nat) : Prop := ∀ i, i < 1024 → ¬ rf_S S n 32 i = 0 → rf_c (rf_S S n 35 i) = ab_zn (rf_Z S) n + 1 ∨ (rf_c (rf_S S n 35 i) = ab_zn (rf_Z S) n ∧ n % 1089 ≠ 0 ∧ n % 1089 ≤ 1024 ∧ n % 1089 ≤ i + 1)
theorem rf_duI {S : zz_T} {B N : Nat} (hA : rf_A S B N) (h0 : rf_du S 0) : ∀ n, n ≤ N → rf_du S n := by
  intro n
  induction n with
  | zero => intro _; exact h0
  | succ n ih =>
    intro hn i hi hu
    have hlim := hA.1
    have hD := (rf_main hA n (by omega)).2 (by omega)
    have ihn := ih (by omega)
    obtain ⟨t, ht, e4, en⟩ := rf_nowS hA (show n ≤ N by omega)
    obtain ⟨t', ht', e4', en'⟩ := rf_nowS hA hn
    have hlt : n % 1089 < 1089 := Nat.mod_lt _ (by omega)
    by_cases h0 : n % 1089 = 0
    · have z := (hD.2.1 h0).1 i hi
      rw [z.1] at hu
      have hd : rf_a (rf_S S (n + 1)) 0 0 0 = rf_a (rf_S S n) 0 0 0 + 1 := by
        rw [hD.1]
        show (ab_do _ _ _ _ (rf_K S n) _ _ _ _).1 0 0 0 = _
        rw [ab_d0, if_pos (show rf_K S n = 0 from if_pos h0)]
        rfl
      have hd' : ab_zn (rf_Z S) (n + 1) = ab_zn (rf_Z S) n + 1 := hd
      rw [z.2.2.2.1, hd']
      rcases ihn i hi hu with y | y
      · exact Or.inr ⟨y, by omega, by omega, by omega⟩
      · exact absurd h0 y.2.1
    · obtain ⟨V, m, ⟨hm, hT1⟩, ⟨j, hj, a1, a2, a3, a4, a5, a6⟩, v4, v5, vs, vk⟩ := hD.2.2 h0
      have hK0 : rf_K S n ≠ 0 := by
        unfold rf_K
        rw [if_neg h0]
        split
        · by_cases c : rf_hs (n % 1089 - 1) (rf_S S n)
          · rw [ab_ip c]; decide
          · rw [ab_in c]; decide
        · split <;> decide
      have hd : rf_a (rf_S S (n + 1)) 0 0 0 = rf_a (rf_S S n) 0 0 0 := by
        rw [hD.1]
        show (ab_do _ _ _ _ (rf_K S n) _ _ _ _).1 0 0 0 = _
        rw [ab_d0, if_neg hK0]
        rfl
      have hd' : ab_zn (rf_Z S) (n + 1) = ab_zn (rf_Z S) n := hd
      rw [hd']
      rcases a5 i hi with ⟨q, _, _, _, q4, _, _⟩ | ⟨_, q2⟩
      · refine Or.inl ?_
        rw [q4, v4, e4, nI_1, rf_cn (by omega), en]
      · rcases vs i hi with ⟨_, _, z⟩ | z
        · rw [q2.1, z] at hu
          exact absurd rfl hu
        · rw [q2.1] at hu
          have huV := hu
          rw [z.1] at hu
          rw [q2.2.2.2.1, z.2.2.2.1]
          rcases ihn i hi hu with y | ⟨y1, y2, y3, y4⟩
          · exact Or.inl y
          · by_cases e : i = n % 1089 - 1
            · exfalso
              have := (vk.1 y3 (by rw [← e]; exact huV)).2
              rw [← e, e4] at this
              have e35 := ((rf_main hA n (by omega)).1.2.1 i hi hu).1.2.2.1.1
              rw [e35, Int32.lt_iff_toInt_lt, nI_toInt (by omega), nI_toInt (by omega)] at this
              omega
            · exact Or.inr ⟨y1, by omega, by omega, by omega⟩

/-- what is heard: over a link that is up, a frame of the run sent a moment ago, or one from the start -/
theorem rf_heard {S : zz_T} {B N n : Nat} (hA : rf_A S B N) (h0 : rf_du S 0) (hn : n < N) (hK : rf_K S n = 1) : rf_u S (rf_p S n) (rf_s S n) ∧ rf_X S n 1 = rf_p S n ∧ rf_X S n 2 = rf_s S n ∧ rf_X S n 0 + 1 = ab_zn (rf_Z S) n ∧
    ((∃ j, j < n ∧ ab_zO (rf_Z S) j (rf_X S n)) ∨ (∃ i, i < 1024 ∧ ¬ S 32 i = 0 ∧ rf_X S n = rf_sl S i)) := by
  have hlim := hA.1
  have hlt : n % 1089 < 1089 := Nat.mod_lt _ (by omega)
  have h1 : n % 1089 ≠ 0 := by
    intro e
    have : rf_K S n = 0 := if_pos e
    omega
  have h2 : n % 1089 ≤ 1024 := by
    by_cases c : n % 1089 ≤ 1024
    · exact c
    · exfalso
      unfold rf_K at hK
      rw [if_neg h1, if_neg c] at hK
      split at hK <;> omega
  have hs : rf_hs (n % 1089 - 1) (rf_S S n) := by
    unfold rf_K at hK
    rw [if_neg h1, if_pos h2] at hK
    by_cases c : rf_hs (n % 1089 - 1) (rf_S S n)
    · exact c
    · rw [ab_in c] at hK
      omega
  have hi : n % 1089 - 1 < 1024 := by omega
  obtain ⟨pb, pQ, _, _⟩ := (rf_main hA n (by omega)).1
  obtain ⟨hsm, s33, s34, _⟩ := pQ _ hi hs.1
  have es : rf_s S n = rf_c (rf_S S n 34 (n % 1089 - 1)) := if_pos h2
  have ep : rf_p S n = rf_c (rf_S S n 33 (n % 1089 - 1)) := if_pos h2
  obtain ⟨t, ht, e4, en⟩ := rf_nowS hA (show n ≤ N by omega)
  have e6 : rf_S S n 6 = S 6 := hA.2.2.2.2.2.2.2.1 n 6 (by omega) (by decide)
  have due : rf_c (rf_S S n 35 (n % 1089 - 1)) = ab_zn (rf_Z S) n ∧ 1 ≤ ab_zn (rf_Z S) n := by
    have h3 := hs.2.1
    have e35 := hsm.2.2.1.1
    have b35 := hsm.2.2.1.2
    rw [e4, e35, Int32.lt_iff_toInt_lt, nI_toInt (by omega), nI_toInt (by omega)] at h3
    rcases rf_duI hA h0 n (by omega) _ hi hs.1 with y | y
    · omega
    · refine ⟨y.1, ?_⟩
      -- a tick has gone by
      have hm : ∀ k, k ≤ N → ∀ j, j ≤ k → ab_zn (rf_Z S) j ≤ ab_zn (rf_Z S) k := by
        intro k
        induction k with
        | zero => intro _ j hj; rw [show j = 0 by omega]; exact Nat.le_refl _
        | succ k ih =>
          intro hk j hj
          by_cases e : j = k + 1
          · rw [e]; exact Nat.le_refl _
          · refine Nat.le_trans (ih (by omega) j (by omega)) ?_
            have hD := ((rf_main hA k (by omega)).2 (by omega)).1
            have hd : rf_a (rf_S S (k + 1)) 0 0 0 = if rf_K S k = 0 then rf_a (rf_S S k) 0 0 0 + 1 else rf_a (rf_S S k) 0 0 0 := by
              rw [hD]
              exact ab_d0
            show rf_a (rf_S S k) 0 0 0 ≤ rf_a (rf_S S (k + 1)) 0 0 0
            rw [hd]
            split <;> omega
      have hD0 := ((rf_main hA 0 (by omega)).2 (by omega)).1
      have hd0 : rf_a (rf_S S 1) 0 0 0 = rf_a (rf_S S 0) 0 0 0 + 1 := by
        rw [hD0]
        show (ab_do _ _ _ _ (rf_K S 0) _ _ _ _).1 0 0 0 = _
        rw [ab_d0, if_pos (show rf_K S 0 = 0 from if_pos rfl)]
        rfl
      have := hm n (by omega) 1 (by omega)
      have h1' : ab_zn (rf_Z S) 1 = ab_zn (rf_Z S) 0 + 1 := hd0
      omega
  refine ⟨⟨by rw [ep]; exact s33, by rw [es]; exact s34, ?_⟩, ep.symm, es.symm, ?_, ?_⟩
  · rw [ep, es, ← hsm.2.1.1]
    have := hs.2.2
    unfold mm_up at this ⊢
    rw [e6] at this
    exact this
  · show rf_c (rf_S S n 35 (n % 1089 - 1)) - 1 + 1 = _
    omega
  · rcases rf_prov hA n (by omega) _ hi hs.1 with z | z
    · exact Or.inl z
    · refine Or.inr ⟨n % 1089 - 1, hi, ?_, ?_⟩
      · rw [← z.1]; exact hs.1
      · exact rf_sss z
/-! ## the run of a stretch, as the machine sees it -/
theorem rf_usy {S : zz_T} (h : zz_lk S) (p q : Nat) (hu : rf_u S p q) : rf_u S q p ∧ p < 8 ∧ q < 8 ∧ p ≠ q := by
  obtain ⟨hp, hq, hm⟩ := hu
  have hb : zz_b (S 6 p) q := hm
  refine ⟨⟨hq, hp, (h p q hp hq).1 hb⟩, hp, hq, fun e => ?_⟩
  rw [← e] at hb
  exact (h p p hp hp).2 hb
theorem rf_nowN {S : zz_T} {B N : Nat} (hA : rf_A S B N) : ∀ n, n ≤ N → ab_zn (rf_Z S) n ≤ ab_zn (rf_Z S) 0 + n := by
  intro n
  induction n with
  | zero => intro _; exact Nat.le_refl _
  | succ n ih =>
    intro hn
    have := ih (by omega)
    have hD := ((rf_main hA n (by omega)).2 (by omega)).1
    have hd : rf_a (rf_S S (n + 1)) 0 0 0 = if rf_K S n = 0 then rf_a (rf_S S n) 0 0 0 + 1 else rf_a (rf_S S n) 0 0 0 := by
      rw [hD]
      exact ab_d0
    have hd' : ab_zn (rf_Z S) (n + 1) = if rf_K S n = 0 then ab_zn (rf_Z S) n + 1 else ab_zn (rf_Z S) n := hd
    rw [hd']
    split <;> omega
/-- the start: numbers known are numbers given out; frames in the air, the seen table -/
def rf_s0 (S : zz_T) : Prop := (∀ v c, rf_a S 3 v c ≤ rf_a S 4 c 0) ∧ (∀ s f q, ab_sn s f q (rf_a S) → q ≤ rf_a S 5 f 0) ∧ (∀ i, i < 1024 → ¬ S 32 i = 0 → ab_old (rf_Z S) (rf_sl S i) ∧ rf_c (S 35 i) = rf_c (S 4 0) + 1)
/-- the seen table does its work -/
def rf_se (S : zz_T) (N : Nat) : Prop := ∀ i j, i < j → j < N → rf_K S j = 1 → rf_X S j 3 = 0 → rf_K S i = 1 → rf_s S i = rf_s S j → rf_X S i 3 = 0 → rf_X S i 4 = rf_X S j 4 → rf_X S i 8 = rf_X S j 8 → ab_zn (rf_Z S) j ≤ ab_zn (rf_Z S) i + 20 → ab_sn (rf_s S j) (rf_X S j 4) (rf_X S j 8) (rf_a (rf_S S j))
theorem rf_du0 {S : zz_T} (h : rf_s0 S) : rf_du S 0 := by
  intro i hi hu
  have e : rf_S S 0 = S := rf_Sm S 0
  have en : ab_zn (rf_Z S) 0 = rf_c (S 4 0) := by
    show rf_a (rf_S S 0) 0 0 0 = _
    rw [e, rf_0r]
  rw [e] at hu ⊢
  exact Or.inl (by rw [(h.2.2 i hi hu).2, en])
theorem rf_RL {S : zz_T} {B N : Nat} {d : Nat → Nat → Nat} (hA : rf_A S B N) (hs : rf_s0 S) (hl : zz_lk S) (hse : rf_se S N) (hd0 : ∀ c, d c c = 0) (hd1 : ∀ c p q, rf_u S p q → d c q ≤ d c p + 1) : ab_RL N (rf_Z S) d N := by
  have e : rf_S S 0 = S := rf_Sm S 0
  have eD0 : ab_zD (rf_Z S) 0 = rf_a S := by
    show rf_a (rf_S S 0) = _
    rw [e]
  have hdu := rf_du0 hs
  refine ⟨fun i hi => ((rf_main hA i (by omega)).2 hi).1, rf_usy hl, hd0, hd1, ?_, ?_, fun i hi => ?_, hse, ?_⟩
  · rw [eD0]; exact hs.1
  · intro i hi hK
    obtain ⟨a1, a2, a3, a4, a5⟩ := rf_heard hA hdu hi hK
    refine ⟨a1, a2, a3, ?_⟩
    rcases a5 with z | ⟨j, hj, hu, ex⟩
    · exact Or.inl ⟨z, a4⟩
    · refine Or.inr ⟨?_, ?_⟩
      · show ab_old (rf_Z S) (rf_X S i)
        rw [ex]
        exact (hs.2.2 j hj hu).1
      · have h35 := (hs.2.2 j hj hu).2
        have hx : rf_X S i 0 = rf_c (S 35 j) - 1 := by rw [ex]; rfl
        have en : ab_zn (rf_Z S) 0 = rf_c (S 4 0) := by
          show ab_zD (rf_Z S) 0 0 0 0 = _
          rw [eD0, rf_0r]
        have a4' : rf_X S i 0 + 1 = ab_zn (rf_Z S) i := a4
        omega
  · have := rf_nowN hA i hi
    omega
  · rw [eD0]; exact hs.2.1
