/-! ## trails: ways of one number form a chain -/
/-- no V on c with a number n or newer before step i -/
def ax_nv (Z : ab_Z) (c n i : Nat) : Prop := ∀ j q, j < i → ab_vv Z j q c → ab_zD Z j 3 q c < n
/-- PRESENT: without such a V every way of a number n or newer is there -/
theorem ax_pres {Z : ab_Z} {d : Nat → Nat → Nat} {N c n : Nat} (h : ab_R Z d N) (hn0 : ab_zD Z 0 4 c 0 < n) : ∀ i, i ≤ N → ax_nv Z c n i → ∀ v, v ≠ c → n ≤ ab_zD Z i 3 v c → ab_zD Z i 1 v c ≠ 8 := by
  intro i
  induction i using Nat.strongRecOn with
  | ind i ih =>
    cases i with
    | zero =>
      intro _ _ v _ hn
      have := h.2.2.2.2.1 v c
      omega
    | succ i =>
      intro hi hnv v hv hn
      have hi' : i < N := by omega
      have hD := h.1 i hi'
      rcases ab_Ry h hi' v c with ⟨s1, s2, s3⟩ | ⟨hk, ev, ec, hs', hl, l1, l2, l3⟩ | ⟨ev, ⟨y0, y1, y2, y3, _⟩, y⟩
      · rw [← hD] at s1 s3
        rw [s1]
        rw [s3] at hn
        exact ih i (by omega) (by omega) (fun j q hj => hnv j q (by omega)) v hv hn
      · rw [← hD] at l1
        rw [l1]
        have := (h.2.1 _ _ (h.2.2.2.2.2.1 i hi' hk).1).2.1
        omega
      · exfalso
        rw [← hD] at y1 y2 y3
        rw [y3] at hn
        obtain ⟨t', hb', _, ht', _, _, _, hp⟩ := ab_wcI h i (by omega) v c (by omega)
        obtain ⟨p1, p2, p3⟩ := hp y0
        rcases y with y | ⟨k1, x3, x5, xv, xb, xn⟩ | ⟨k2, kc, kV, kl⟩
        · exact absurd p1 y
        · obtain ⟨hu, e1, e2, ho⟩ := h.2.2.2.2.2.1 i hi' k1
          rcases ho with ⟨⟨j, hj, ho⟩, e0⟩ | ho
          · obtain ⟨f1, f0, f8, f6⟩ := ab_d2 ho x3
            have hDj := h.1 j (by omega)
            have f8' : ab_zD Z (j + 1) 1 (ab_zs Z j) c = 8 := by rw [hDj, x5]; exact f8
            have f6' : ab_zX Z i 6 = ab_zD Z (j + 1) 3 (ab_zs Z j) c := by rw [hDj, x5]; exact f6
            have ep : ab_zs Z j = ab_zD Z i 1 v c := by rw [xb, ← e1, f1]
            rw [ep] at f8' f6'
            have hne : ab_zD Z i 1 v c ≠ c := by
              intro e
              rw [e] at f6'
              have := ab_self h c (j + 1) (by omega)
              omega
            exact ih (j + 1) (by omega) (by omega) (fun a q ha => hnv a q (by omega)) _ hne (by omega) f8'
          · have := ho.1.2.1 x3
            rw [← x5] at this
            omega
        · have := hnv i v (by omega) ⟨k2, ev.symm, kc.symm, kV, kl⟩
          omega
/-- while ways are there, the links of one number only get fewer -/
theorem ax_mon {Z : ab_Z} {d : Nat → Nat → Nat} {N c n a v : Nat} (h : ab_R Z d N) (hn0 : ab_zD Z 0 4 c 0 < n) (hv : v ≠ c) (ha : n ≤ ab_zD Z a 3 v c) : ∀ b, a ≤ b → b ≤ N → ax_nv Z c n b → ab_zD Z b 3 v c = ab_zD Z a 3 v c → ab_zD Z b 2 v c ≤ ab_zD Z a 2 v c := by
  intro b
  induction b with
  | zero => intro h1 _ _ _; rw [show a = 0 by omega]; exact Nat.le_refl _
  | succ b ih =>
    intro h1 h2 hnv he
    by_cases e : a = b + 1
    · rw [e]; exact Nat.le_refl _
    · have m1 := ab_nrm (v := v) (c := c) h (show a ≤ b by omega) (by omega)
      have m2 := ab_nr1 (v := v) (c := c) h (show b < N by omega)
      have I := ih (by omega) (by omega) (fun j q hj => hnv j q (by omega)) (by omega)
      have hD := h.1 b (by omega)
      have hp := ax_pres h hn0 b (by omega) (fun j q hj => hnv j q (by omega)) v hv (by omega)
      rcases ab_Ry h (show b < N by omega) v c with ⟨s1, s2, s3⟩ | ⟨hk, ev, ec, hs', hl, l1, l2, l3⟩ | ⟨ev, ⟨y0, y1, y2, y3, _⟩, y⟩
      · rw [← hD] at s2
        rw [s2]; exact I
      · rw [← hD] at l2 l3
        rcases hl.2 with z | ⟨z1, z | z⟩
        · omega
        · exact absurd z hp
        · have : ab_c8 (ab_zX Z b 7 + 1) ≤ ab_zX Z b 7 + 1 := by
            unfold ab_c8
            split
            · exact Nat.mod_le _ _
            · omega
          omega
      · rw [← hD] at y2
        rw [y2]; exact I
theorem ax_lnl {s c p l n : Nat} {D : ab_D} (hn : s ≠ c) (e : ab_ln s c p l n D 3 s c = n) (h8 : ab_ln s c p l n D 1 s c ≠ 8) : ab_ln s c p l n D 2 s c ≤ l := by
  rcases ab_lnc (s := s) (c := c) (p := p) (l := l) (n := n) (D := D) with ⟨h, e'⟩ | ⟨h, e'⟩
  · rw [e', ab_wf (by decide), ab_we]
    unfold ab_c8
    split
    · exact Nat.mod_le _ _
    · omega
  · rw [e'] at e h8 ⊢
    by_cases z : l < D 2 s c
    · exact absurd ⟨hn, Or.inr ⟨e.symm, Or.inr z⟩⟩ h
    · omega
theorem ax_hnl {u : Nat → Nat → Prop} {ac : Nat → Nat → Nat} {s p : Nat} {x : ab_F} {D : ab_D} (h : (x 3 = 0 ∧ ¬ ab_sn s (x 4) (x 8) D) ∨ x 3 = 1) (hn : s ≠ x 4) (e : (ab_h u ac s p x D).1 3 s (x 4) = x 6) (h8 : (ab_h u ac s p x D).1 1 s (x 4) ≠ 8) :
    (ab_h u ac s p x D).1 2 s (x 4) ≤ x 7 + 1 := by
  have P8 : ∀ (w : ab_F) (E : ab_D), (ab_ps u s w E).1 1 s (x 4) ≠ 8 → E 1 s (x 4) ≠ 8 := by
    intro w E hE
    rcases ab_psw (u := u) (s := s) (w := w) (v := s) (g := x 4) (D := E) with z | ⟨_, _, _, z⟩
    · rw [← z.1]; exact hE
    · exact absurd z.2.1 hE
  unfold ab_h at e h8 ⊢
  rcases h with ⟨h, hs⟩ | h
  · rw [ab_ip h] at e h8 ⊢
    unfold ab_hA at e h8 ⊢
    rw [ab_in hs] at e h8 ⊢
    by_cases g : x 5 = s
    · rw [ab_ip g] at e h8 ⊢
      rw [ab_psf (by decide), ab_wf (by decide)] at e ⊢
      have h8' := P8 _ _ h8
      rw [ab_wf (by decide)] at h8'
      unfold ab_hA1 at e h8' ⊢
      exact ax_lnl hn e h8'
    · rw [ab_in g] at e h8 ⊢
      have e' : ab_hA1 s p x D 3 s (x 4) = x 6 := e
      have h8' : ab_hA1 s p x D 1 s (x 4) ≠ 8 := h8
      show ab_hA1 s p x D 2 s (x 4) ≤ _
      unfold ab_hA1 at e' h8' ⊢
      exact ax_lnl hn e' h8'
  · rw [ab_in (by omega), ab_ip h] at e h8 ⊢
    unfold ab_hT at e h8 ⊢
    by_cases g : x 5 = s
    · rw [ab_ip g] at e h8 ⊢
      exact ax_lnl hn e h8
    · rw [ab_in g] at e h8 ⊢
      rw [ab_psf (by decide)] at e ⊢
      exact ax_lnl hn e (P8 _ _ h8)
/-- who sends on a number knows it with as few links -/
theorem ax_fl {Z : ab_Z} {d : Nat → Nat → Nat} {N i : Nat} {w : ab_F} {lm : Nat} (h : ab_RL lm Z d N) (hi : i < N) (ho : ab_zO Z i w) (h3 : w 3 ≤ 1) (hne : w 1 ≠ w 4) (e : ab_zD Z (i + 1) 3 (w 1) (w 4) = w 6) (h8 : ab_zD Z (i + 1) 1 (w 1) (w 4) ≠ 8) : ab_zD Z (i + 1) 2 (w 1) (w 4) ≤ w 7 := by
  obtain ⟨_, e1, _, y⟩ := ab_d1 ho h3
  rcases y with ⟨hk, e3, e4, e5, e6, e7, ng, y0, y1⟩ | ⟨e4, _⟩
  · rw [e1, e4] at hne
    rw [h.1 i hi, e1, e4] at e h8 ⊢
    rw [e6] at e
    rw [e7]
    have hc : (ab_zX Z i 3 = 0 ∧ ¬ ab_sn (ab_zs Z i) (ab_zX Z i 4) (ab_zX Z i 8) (ab_zD Z i)) ∨ ab_zX Z i 3 = 1 := by
      by_cases z : ab_zX Z i 3 = 0
      · exact Or.inl ⟨z, (y0 z).2⟩
      · exact Or.inr (by omega)
    unfold ab_zY at e h8 ⊢
    rw [hk, ab_do1] at e h8 ⊢
    exact ax_hnl hc hne e h8
  · exact absurd (by rw [e1, e4]) hne
/-- THE CHAIN: the next station knows a newer number, or the same one with fewer links -/
theorem ax_ch {Z : ab_Z} {d : Nat → Nat → Nat} {N c n : Nat} (h : ab_R Z d N) (hn0 : ab_zD Z 0 4 c 0 < n) : ∀ i, i ≤ N → ax_nv Z c n i → ∀ v, v ≠ c → n ≤ ab_zD Z i 3 v c → ab_zD Z i 1 v c = c ∨ ab_zD Z i 3 v c < ab_zD Z i 3 (ab_zD Z i 1 v c) c ∨
    (ab_zD Z i 3 (ab_zD Z i 1 v c) c = ab_zD Z i 3 v c ∧ ab_zD Z i 2 (ab_zD Z i 1 v c) c < ab_zD Z i 2 v c) := by
  intro i
  induction i with
  | zero =>
    intro _ _ v _ hn
    have := h.2.2.2.2.1 v c
    omega
  | succ i ih =>
    intro hi hnv v hv hn
    have hi' : i < N := by omega
    have hD := h.1 i hi'
    have hnv' : ax_nv Z c n i := fun j q hj => hnv j q (by omega)
    have h8 := ax_pres h hn0 (i + 1) hi hnv v hv hn
    rcases ab_Ry h hi' v c with ⟨s1, s2, s3⟩ | ⟨hk, ev, ec, hs', hl, l1, l2, l3⟩ | ⟨ev, ⟨y0, y1, y2, y3, _⟩, y⟩
    · rw [← hD] at s1 s2 s3
      rw [s1, s2, s3]
      rw [s3] at hn
      by_cases hpc : ab_zD Z i 1 v c = c
      · exact Or.inl hpc
      · refine Or.inr ?_
        have m1 := ab_nr1 (v := ab_zD Z i 1 v c) (c := c) h hi'
        rcases ih (by omega) hnv' v hv hn with z | z | ⟨z1, z2⟩
        · exact absurd z hpc
        · exact Or.inl (by omega)
        · by_cases e : ab_zD Z (i + 1) 3 (ab_zD Z i 1 v c) c = ab_zD Z i 3 (ab_zD Z i 1 v c) c
          · refine Or.inr ⟨by omega, ?_⟩
            have := ax_mon h hn0 hpc (show n ≤ ab_zD Z i 3 (ab_zD Z i 1 v c) c by omega) (i + 1) (by omega) hi hnv e
            omega
          · exact Or.inl (by omega)
    · rw [← hD] at l1 l2 l3
      rw [l1, l2, l3]
      rw [l3] at hn
      by_cases hpc : ab_zp Z i = c
      · exact Or.inl hpc
      · refine Or.inr ?_
        have x3 : ab_zX Z i 3 ≤ 1 := by rcases hs' with ⟨z, _⟩ | z <;> omega
        obtain ⟨j, hj, ho, e0, e1, e2, hu⟩ := ab_hrd h hi' hk x3 (by rw [← ec]; omega)
        have f4 : ab_zX Z i 4 = c := ec.symm
        have nr : ab_zX Z i 6 ≤ ab_zD Z (j + 1) 3 (ab_zp Z i) c := by
          rcases ab_fnr h (show j < N by omega) ho x3 with z | z
          · rw [e1, f4] at z
            exact absurd z hpc
          · rw [e1, f4] at z
            exact z
        have hvp : ab_zp Z i ≠ v := by
          intro z
          have := (h.2.1 _ _ hu).2.2.2
          rw [z, ev] at this
          exact this rfl
        have mm := ab_nrm (v := ab_zp Z i) (c := c) h (show j + 1 ≤ i + 1 by omega) hi
        by_cases e : ab_zD Z (i + 1) 3 (ab_zp Z i) c = ab_zX Z i 6
        · refine Or.inr ⟨e, ?_⟩
          have ej : ab_zD Z (j + 1) 3 (ab_zp Z i) c = ab_zX Z i 6 := by omega
          have p8 := ax_pres h hn0 (j + 1) (by omega) (fun a q ha => hnv a q (by omega)) (ab_zp Z i) hpc (by omega)
          have fl := ax_fl h (show j < N by omega) ho x3 (by rw [e1, f4]; exact hpc) (by rw [e1, f4]; exact ej) (by rw [e1, f4]; exact p8)
          rw [e1, f4] at fl
          have mo := ax_mon h hn0 hpc (show n ≤ ab_zD Z (j + 1) 3 (ab_zp Z i) c by omega) (i + 1) (by omega) hi hnv (by omega)
          have fc := ab_fcI h j (by omega) _ ho x3 (by rw [f4]; omega)
          have lm := h.2.2.2.2.2.2.1 i (by omega)
          obtain ⟨c1, c2, c3, c4, c5, c6⟩ := fc
          have : ab_c8 (ab_zX Z i 7 + 1) = ab_zX Z i 7 + 1 := ab_c8e (by omega)
          omega
        · exact Or.inl (by omega)
    · rw [← hD] at y1
      exact absurd y1 h8
/-- while ways are there, the links of one number stay -/
theorem ax_cst {Z : ab_Z} {d : Nat → Nat → Nat} {N c n a v : Nat} (h : ab_R Z d N) (hn0 : ab_zD Z 0 4 c 0 < n) (hv : v ≠ c) (ha : n ≤ ab_zD Z a 3 v c) : ∀ b, a ≤ b → b ≤ N → ax_nv Z c n b → ab_zD Z b 3 v c = ab_zD Z a 3 v c → ab_zD Z b 2 v c = ab_zD Z a 2 v c := by
  intro b
  induction b with
  | zero => intro h1 _ _ _; rw [show a = 0 by omega]
  | succ b ih =>
    intro h1 h2 hnv he
    by_cases e : a = b + 1
    · rw [e]
    · have m1 := ab_nrm (v := v) (c := c) h (show a ≤ b by omega) (by omega)
      have m2 := ab_nr1 (v := v) (c := c) h (show b < N by omega)
      have I := ih (by omega) (by omega) (fun j q hj => hnv j q (by omega)) (by omega)
      have hD := h.1 b (by omega)
      have hp := ax_pres h hn0 b (by omega) (fun j q hj => hnv j q (by omega)) v hv (by omega)
      rcases ab_Ry h (show b < N by omega) v c with ⟨s1, s2, s3⟩ | ⟨hk, ev, ec, hs', hl, l1, l2, l3⟩ | ⟨ev, ⟨y0, y1, y2, y3, _⟩, y⟩
      · rw [← hD] at s2
        rw [s2]; exact I
      · exfalso
        rw [← hD] at l2 l3
        rcases hl.2 with z | ⟨z1, z | z⟩
        · omega
        · exact absurd z hp
        · have x3 : ab_zX Z b 3 ≤ 1 := by rcases hs' with ⟨z, _⟩ | z <;> omega
          obtain ⟨j, hj, ho, e0, e1, e2, hu⟩ := ab_hrd h (show b < N by omega) hk x3 (by rw [← ec]; omega)
          obtain ⟨c1, c2, c3, c4, c5, c6⟩ := ab_fcI h j (by omega) _ ho x3 (by rw [← ec]; omega)
          obtain ⟨t', hb', _, ht', _⟩ := ab_wcI h b (by omega) v c (by omega)
          rw [← ec, z1] at c1
          have := ab_bnu h hb' c1
          omega
      · rw [← hD] at y2
        rw [y2]; exact I
/-- A RIDE ON ONE NUMBER, the newest one, makes at most 7 links -/
theorem ax_r1 {Z : ab_Z} {d : Nat → Nat → Nat} {N c n k f nn l m E : Nat} (hW : ax_W Z d N) (hc8 : c < 8) (hn0 : ab_zD Z 0 4 c 0 < n) (hnm : n ≤ m) (hk : 3 ≤ k) (hnv : ∀ j q, j < N → ab_zn Z j ≤ E → ab_vv Z j q c → ab_zD Z j 3 q c < n)
    (htop : ∀ j v, j ≤ N → ab_zn Z j ≤ E → v ≠ c → ab_zD Z j 3 v c ≤ m) : ∀ q s i p (g : Nat → Nat), i < N → p ≠ c → p < 8 → ab_zD Z i 3 p c = m →
    (∀ a, a < s → g a < 8 ∧ g a ≠ c ∧ ab_zD Z i 3 (g a) c = m ∧ ab_zD Z i 2 p c < ab_zD Z i 2 (g a) c) → (∀ a b, a < b → b < s → ab_zD Z i 2 (g b) c < ab_zD Z i 2 (g a) c) → 7 ≤ q + s →
    ab_zO Z i (ab_pt (ab_zn Z i) p (ab_zD Z i 1 p c) (ab_fr k f c nn l q)) → ab_zn Z i + q + 2 ≤ ab_zn Z N → ab_zn Z i + q ≤ E →
    ∃ m', i < m' ∧ m' < N ∧ ab_zK Z m' = 1 ∧ ab_zs Z m' = c ∧ ab_zX Z m' 3 = k ∧ ab_zX Z m' 4 = f ∧ ab_zX Z m' 5 = c ∧ ab_zX Z m' 6 = nn ∧ ab_zn Z m' ≤ ab_zn Z i + q + 1 := by
  have h := hW.1
  intro q
  induction q with
  | zero =>
    intro s i p g hi hp hp8 hm hg hgm hq ho hN hE
    exfalso
    have hs : 7 ≤ s := by omega
    have := ab_inj 8 9 (fun a => if a < 7 then g a else if a = 7 then p else c) (fun a ha => by
      show (if a < 7 then g a else if a = 7 then p else c) < 8
      split
      · exact (hg a (by omega)).1
      · split
        · exact hp8
        · exact hc8) (fun a b ha hb => by
      show (if a < 7 then g a else if a = 7 then p else c) = (if b < 7 then g b else if b = 7 then p else c) → a = b
      intro z
      have G : ∀ a b, a < 7 → b < 7 → g a = g b → a = b := by
        intro a b ha hb z
        rcases Nat.lt_trichotomy a b with y | y | y
        · have := hgm a b y (by omega); rw [z] at this; omega
        · exact y
        · have := hgm b a y (by omega); rw [z] at this; omega
      have GP : ∀ a, a < 7 → g a ≠ p := by
        intro a ha z
        have := (hg a (by omega)).2.2.2
        rw [z] at this
        omega
      by_cases a7 : a < 7
      · rw [if_pos a7] at z
        by_cases b7 : b < 7
        · rw [if_pos b7] at z
          exact G a b a7 b7 z
        · rw [if_neg b7] at z
          by_cases b8 : b = 7
          · rw [if_pos b8] at z
            exact absurd z (GP a a7)
          · rw [if_neg b8] at z
            exact absurd z (hg a (by omega)).2.1
      · rw [if_neg a7] at z
        by_cases b7 : b < 7
        · rw [if_pos b7] at z
          by_cases a8 : a = 7
          · rw [if_pos a8] at z
            exact absurd z.symm (GP b b7)
          · rw [if_neg a8] at z
            exact absurd z.symm (hg b (by omega)).2.1
        · rw [if_neg b7] at z
          by_cases a8 : a = 7
          · by_cases b8 : b = 7
            · omega
            · rw [if_pos a8, if_neg b8] at z
              exact absurd z hp
          · by_cases b8 : b = 7
            · rw [if_neg a8, if_pos b8] at z
              exact absurd z.symm hp
            · omega)
    omega
  | succ q ih =>
    intro s i p g hi hp hp8 hm hg hgm hq ho hN hE
    have hnvi : ∀ j, j ≤ N → ab_zn Z j ≤ E → ax_nv Z c n j := by
      intro j hj hjE a b ha hv
      have := ab_nowm h (show a ≤ j by omega) hj
      exact hnv a b (by omega) (by omega) hv
    have hEi : ab_zn Z i ≤ E := by omega
    have h8 := ax_pres h hn0 i (by omega) (hnvi i (by omega) hEi) p hp (by omega)
    obtain ⟨_, _, _, _, _, _, _, hpn⟩ := ab_wcI h i (by omega) p c (by omega)
    obtain ⟨p1, _, _⟩ := hpn h8
    obtain ⟨m1, hm1, hmN, k1, kx, kn, ks, kp⟩ := hW.2.1.1 i _ hi ho (by show ab_zn Z i + 2 ≤ _; omega)
    have kn' : ab_zn Z m1 = ab_zn Z i + 1 := kn
    have ks' : ab_zs Z m1 = ab_zD Z i 1 p c := ks
    by_cases hc : ab_zD Z i 1 p c = c
    · refine ⟨m1, hm1, hmN, k1, by rw [ks', hc], by rw [kx]; rfl, by rw [kx]; rfl, by rw [kx]; rfl, by rw [kx]; rfl, by omega⟩
    · have hE1 : ab_zn Z m1 ≤ E := by omega
      have hch := ax_ch h hn0 i (by omega) (hnvi i (by omega) hEi) p hp (by omega)
      have ht := htop i (ab_zD Z i 1 p c) (by omega) hEi hc
      have hch2 : ab_zD Z i 3 (ab_zD Z i 1 p c) c = m ∧ ab_zD Z i 2 (ab_zD Z i 1 p c) c < ab_zD Z i 2 p c := by
        rcases hch with z | z | z
        · exact absurd z hc
        · omega
        · exact ⟨by omega, z.2⟩
      have keep : ∀ w, w ≠ c → ab_zD Z i 3 w c = m → ab_zD Z m1 3 w c = m ∧ ab_zD Z m1 2 w c = ab_zD Z i 2 w c := by
        intro w hw hwm
        have a1 := ab_nrm (v := w) (c := c) h (show i ≤ m1 by omega) (by omega)
        have a2 := htop m1 w (by omega) hE1 hw
        have a3 : ab_zD Z m1 3 w c = ab_zD Z i 3 w c := by omega
        exact ⟨by omega, ax_cst h hn0 hw (by omega) m1 (by omega) (by omega) (hnvi m1 (by omega) hE1) a3⟩
      obtain ⟨n1, n2⟩ := keep _ hc hch2.1
      obtain ⟨n3, n4⟩ := keep p hp hm
      have h82 := ax_pres h hn0 m1 (by omega) (hnvi m1 (by omega) hE1) _ hc (by omega)
      obtain ⟨_, _, _, _, _, _, _, hpn2⟩ := ab_wcI h m1 (by omega) (ab_zD Z i 1 p c) c (by omega)
      obtain ⟨b1, _, _⟩ := hpn2 h82
      have hp28 : ab_zD Z i 1 p c < 8 := (h.2.1 _ _ p1).2.2.1
      have hg' : ∀ a, a < s + 1 → (if a < s then g a else p) < 8 ∧ (if a < s then g a else p) ≠ c ∧ ab_zD Z m1 3 (if a < s then g a else p) c = m ∧ ab_zD Z m1 2 (ab_zD Z i 1 p c) c < ab_zD Z m1 2 (if a < s then g a else p) c := by
        intro a ha
        by_cases e : a < s
        · rw [if_pos e]
          obtain ⟨x1, x2, x3, x4⟩ := hg a e
          obtain ⟨x5, x6⟩ := keep _ x2 x3
          exact ⟨x1, x2, x5, by omega⟩
        · rw [if_neg e]
          exact ⟨hp8, hp, n3, by omega⟩
      have hgm' : ∀ a b, a < b → b < s + 1 → ab_zD Z m1 2 (if b < s then g b else p) c < ab_zD Z m1 2 (if a < s then g a else p) c := by
        intro a b hab hb
        have ea : a < s := by omega
        rw [if_pos ea]
        obtain ⟨x1, x2, x3, x4⟩ := hg a ea
        obtain ⟨x5, x6⟩ := keep _ x2 x3
        by_cases e : b < s
        · rw [if_pos e]
          obtain ⟨y1, y2, y3, y4⟩ := hg b e
          obtain ⟨y5, y6⟩ := keep _ y2 y3
          have := hgm a b hab e
          omega
        · rw [if_neg e]
          omega
      have life : 1 < q + 1 := by
        rcases Nat.eq_zero_or_pos q with e | e
        · exfalso
          have hs : 6 ≤ s := by omega
          have := ab_inj 8 9 (fun a => if a < 7 then (if a < s then g a else p) else if a = 7 then ab_zD Z i 1 p c else c) (fun a ha => by
            show (if a < 7 then (if a < s then g a else p) else if a = 7 then ab_zD Z i 1 p c else c) < 8
            split
            · exact (hg' a (by omega)).1
            · split
              · exact hp28
              · exact hc8) (fun a b ha hb => by
            show (if a < 7 then (if a < s then g a else p) else if a = 7 then ab_zD Z i 1 p c else c) = (if b < 7 then (if b < s then g b else p) else if b = 7 then ab_zD Z i 1 p c else c) → a = b
            intro z
            by_cases a7 : a < 7
            · rw [if_pos a7] at z
              by_cases b7 : b < 7
              · rw [if_pos b7] at z
                rcases Nat.lt_trichotomy a b with y | y | y
                · have := hgm' a b y (by omega); rw [z] at this; omega
                · exact y
                · have := hgm' b a y (by omega); rw [z] at this; omega
              · rw [if_neg b7] at z
                by_cases b8 : b = 7
                · rw [if_pos b8] at z
                  have := (hg' a (by omega)).2.2.2
                  rw [z] at this
                  omega
                · rw [if_neg b8] at z
                  exact absurd z (hg' a (by omega)).2.1
            · rw [if_neg a7] at z
              by_cases b7 : b < 7
              · rw [if_pos b7] at z
                by_cases a8 : a = 7
                · rw [if_pos a8] at z
                  have := (hg' b (by omega)).2.2.2
                  rw [← z] at this
                  omega
                · rw [if_neg a8] at z
                  exact absurd z.symm (hg' b (by omega)).2.1
              · rw [if_neg b7] at z
                by_cases a8 : a = 7
                · by_cases b8 : b = 7
                  · omega
                  · rw [if_pos a8, if_neg b8] at z
                    exact absurd z hc
                · by_cases b8 : b = 7
                  · rw [if_neg a8, if_pos b8] at z
                    exact absurd z.symm hc
                  · omega)
          omega
        · omega
      have ho2 : ab_zO Z m1 (ab_pt (ab_zn Z m1) (ab_zD Z i 1 p c) (ab_zD Z m1 1 (ab_zD Z i 1 p c) c) (ab_fr k f c nn l (q + 1 - 1))) := by
        unfold ab_zO ab_zY
        rw [k1, ab_do1, ks', kx]
        exact ab_cyo (x := ab_pt (ab_zn Z i) p (ab_zD Z i 1 p c) (ab_fr k f c nn l (q + 1))) (s := ab_zD Z i 1 p c) hk (fun z => hc z.symm) life h82 b1
      obtain ⟨m2, c1, c2, c3, c4, c5, c6, c7, c8, c9⟩ := ih (s + 1) m1 (ab_zD Z i 1 p c) (fun a => if a < s then g a else p) hmN hc hp28 n1 hg' hgm' (by omega) ho2 (by omega) (by omega)
      exact ⟨m2, by omega, c2, c3, c4, c5, c6, c7, c8, by omega⟩
