/-! ## straight ways -/
/-- from the birth moment on, a TELL is straight all the way -/
def ab_cln (Z : ab_Z) (d : Nat → Nat → Nat) (N : Nat) : Prop := ∀ c z j i, ab_zn Z 0 + 58 ≤ ab_zn Z j → ¬ ab_ev Z d N c z j i
/-- what stays of the assumptions -/
def ab_W (Z : ab_Z) (d : Nat → Nat → Nat) (N : Nat) : Prop := ab_R Z d N ∧ ab_L Z N ∧ ab_G (ab_zu Z) d ∧ (∀ a b, ab_zl Z a b → a ≠ b ∧ a < 8 ∧ b < 8) ∧ ab_q20 Z N ∧ ab_cln Z d N
theorem ab_str {Z : ab_Z} {d : Nat → Nat → Nat} {N i v c t : Nat} (hW : ab_W Z d N) (hi : i ≤ N) (hn : ab_zD Z 0 4 c 0 < ab_zD Z i 3 v c) (hb : ab_bn Z N c (ab_zD Z i 3 v c) t) (ht : ab_zn Z 0 + 58 ≤ t)
    (hg : ∀ g, ab_zl Z c g → d c v ≤ d c g) : ab_zD Z i 2 v c = d c v ∧ d c v ≤ 7 := by
  obtain ⟨h, hL, hG, hl8, hq, hc⟩ := hW
  have hl : ∀ a b, ab_zl Z a b → a ≠ b := fun a b z => (hl8 a b z).1
  obtain ⟨t', hb', hd, _⟩ := ab_wcI h i hi v c hn
  have ett : t' = t := ab_bnu h hb' hb
  obtain ⟨m, hm, s1, s2, s3, s4, s5, s6, s7, s8⟩ := ab_srcI h i hi v c hn
  have m3 : ab_zX Z m 3 ≤ 1 := by rcases s3 with ⟨y, _⟩ | y <;> omega
  have mr : ab_rc Z (ab_zX Z m) := ⟨m3, Or.inl (by rw [s4]; omega)⟩
  rcases s3 with ⟨x3, xs⟩ | x3
  · obtain ⟨b, hbm, hba, hb6, hb8, hbt'⟩ := ab_hask h (by omega) s1 x3 mr
    have hwk := ab_hatr h hl (by omega) s1 x3 mr
    rw [s4] at hba hb6 hb8 hwk
    rw [s2] at hwk
    have h7 := ab_gd7 hG _ _ _ _ hwk
    have := ab_qx h hL (show b < N by omega) hba hi (by rw [← s5, hb6]) (ab_gdb hG _ _ _ _ rfl h7 (hg _ hba.2.2.1))
    exact ⟨by omega, h7⟩
  · obtain ⟨r, hrm, hor, r0, r1, r2, ru⟩ := ab_hrc h (show m < N by omega) s1 mr
    obtain ⟨j, hj, hbj⟩ := ab_fbI h r (by omega) _ hor mr
    have hbj' := hbj
    obtain ⟨b1, b2, b3, b4, b5⟩ := hbj
    rw [s4] at b1 b3 b4
    have ejt : ab_zn Z j = t := by
      refine ab_bnu (c := c) (n := ab_zD Z i 3 v c) h ⟨j, by omega, rfl, ?_, ?_⟩ hb
      · omega
      · omega
    obtain ⟨a, ha⟩ := ab_tbI h hL hG hl hq (show j < N by omega) hbj' x3 (by omega)
    rw [s4] at ha
    have hev := hc c (ab_zX Z m 5) j
    have hgood : ab_zX Z m 7 + d (ab_zX Z m 5) (ab_zX Z m 1) = d (ab_zX Z m 5) c := by
      by_cases e : ab_zX Z m 7 + d (ab_zX Z m 5) (ab_zX Z m 1) = d (ab_zX Z m 5) c
      · exact e
      · exfalso
        obtain ⟨i', w', h1, _⟩ := ab_badp h hG hl (show j < N by omega) ha r (by omega) _ hor x3 mr hbj' s4 rfl e
        exact hev i' (by omega) ⟨a, w', h1⟩
    obtain ⟨q2, qn, qz, qu, _⟩ := ab_tnr h hl (show j < N by omega) ha r (by omega) _ hor x3 mr hbj' s4 rfl
    have hs : ¬ d (ab_zX Z m 5) (ab_zX Z m 1) < ab_zD Z (r + 1) 2 (ab_zX Z m 1) (ab_zX Z m 5) := by
      intro e
      exact hev r (by omega) ⟨a, ab_zX Z m, ⟨by omega, hor, x3, s4, rfl, mr, hbj', by omega, ha, hgood, e⟩⟩
    have hn0 := (ab_qf h (show a < N by have := ha.1; omega) ha.2.1).2.1
    obtain ⟨_, _, _, _, _, _, _, hp⟩ := ab_wcI h (r + 1) (by omega) (ab_zX Z m 1) (ab_zX Z m 5) (by omega)
    have p28 : ab_zD Z (r + 1) 1 (ab_zX Z m 1) (ab_zX Z m 5) ≠ 8 := by
      rw [← q2]
      have := (h.2.1 _ _ qu).2.2.1
      omega
    obtain ⟨_, y2, _⟩ := hp p28
    rw [← q2, r2, s2] at y2
    have d7 := ha.2.2.2.2.2.2.2.2.2.1
    have hfc := ab_fcI h r (by omega) _ hor m3 (by rw [s4]; omega)
    have hdx : d c (ab_zX Z m 1) ≤ ab_zX Z m 7 := by rw [← s4]; exact hfc.2.2.2.1
    have hlip := hG.2.1 c _ _ qu
    rw [r2, s2] at hlip
    have tri := ab_tri hG (ab_zX Z m 5) v (d v c) c rfl (by rw [hG.2.2.1]; omega)
    have sy := hG.2.2.1 v c
    exact ⟨by omega, by omega⟩
/-! ## LOSS frames -/
theorem ab_d2 {u lv : Nat → Nat → Prop} {cf ac : Nat → Nat → Nat} {k a b : Nat} {x w : ab_F} {D : ab_D} (h : (ab_do u lv cf ac k a b x D).2 w) (h3 : w 3 = 2) :
    w 1 = a ∧ w 0 = D 0 0 0 ∧ (ab_do u lv cf ac k a b x D).1 1 a (w 5) = 8 ∧ w 6 = (ab_do u lv cf ac k a b x D).1 3 a (w 5) := by
  have K : ∀ E : ab_D, ab_oL E a (D 0 0 0) w → w 1 = a ∧ w 0 = D 0 0 0 ∧ E 1 a (w 5) = 8 ∧ w 6 = E 3 a (w 5) := by
    intro E ⟨c, r, e, e8⟩
    have e5 : w 5 = c := by rw [e]; rfl
    have e6 : w 6 = E 3 a c := by rw [e]; rfl
    refine ⟨by rw [e]; rfl, by rw [e]; rfl, by rw [e5]; exact e8, by rw [e5]; exact e6⟩
  by_cases h0 : k = 0
  · subst h0
    rw [ab_do0] at h
    exact absurd h (fun z => z)
  · by_cases h1 : k = 1
    · subst h1
      rw [ab_do1] at h ⊢
      obtain ⟨hu, y⟩ := ab_hho h
      rcases y with ⟨_, _, _, e⟩ | ⟨_, _, _, e, _⟩ | ⟨_, _, e, _⟩ | ⟨e3, _, _, e, _⟩ | ⟨_, _, e, _⟩ | y
      · have : w 3 = 0 := by rw [e]; rfl
        omega
      · have : w 3 = 1 := by rw [e]; rfl
        omega
      · have : w 3 = 1 := by rw [e]; rfl
        omega
      · have : w 3 = x 3 := by rw [e]; rfl
        omega
      · have : w 3 = 4 := by rw [e]; rfl
        omega
      · exact K _ y
    · by_cases h2 : k = 2
      · subst h2
        rw [ab_do2] at h ⊢
        rcases ab_uc (u := u) (lv := lv) (cf := cf) (a := a) (b := b) (D := D) with ⟨z, _⟩ | ⟨hl, _, ⟨z, _, _, _, y⟩ | ⟨_, y⟩⟩
        · rw [z] at h
          exact absurd h (fun z => z)
        · rw [y.2] at h
          have e : w = ab_pt _ a (D 1 a b) (ab_fr 3 a b (cf a b) 0 8) := h
          have : w 3 = 3 := by rw [e]; rfl
          omega
        · have hy := y
          obtain ⟨E, ⟨p1, p7, pw, p2, p3, pf, pp⟩, e1, o1, o2⟩ := y
          have e3 : (ab_u u lv cf a b D).1 3 a b = D 3 a b := by
            rw [e1]
            have : ab_same E (ab_k u a b E).1 a b := ab_kw
            rw [this.2.2, p3]
          obtain ⟨y1, y7, y | y⟩ := ab_nwc hy
          · obtain ⟨r, _, e⟩ := y.2.2.2.2.2 w h
            have e5 : w 5 = b := by rw [e]; rfl
            refine ⟨by rw [e]; rfl, by rw [e]; rfl, by rw [e5]; exact y1, ?_⟩
            rw [e5, e3, e]
            rfl
          · rcases y.2.2.2.2.2.2.2 w h with ⟨r, hr, ur, e⟩ | ⟨r, _, e⟩
            · have : w 3 = 0 := by rw [e]; rfl
              omega
            · have e5 : w 5 = b := by rw [e]; rfl
              refine ⟨by rw [e]; rfl, by rw [e]; rfl, by rw [e5]; exact y1, ?_⟩
              rw [e5, e3, e]
              rfl
      · rw [ab_do3 (by omega)] at h
        exact absurd h (fun z => z)
/-- the number c keeps for itself is never touched -/
theorem ab_self {Z : ab_Z} {d : Nat → Nat → Nat} {N : Nat} (h : ab_R Z d N) (c : Nat) : ∀ i, i ≤ N → ab_zD Z i 3 c c ≤ ab_zD Z 0 4 c 0 := by
  intro i hi
  by_cases e : ab_zD Z i 3 c c ≤ ab_zD Z 0 4 c 0
  · exact e
  · obtain ⟨_, _, _, _, _, y, _⟩ := ab_wcI h i hi c c (by omega)
    exact absurd rfl y
/-- V(v,c) in step i -/
def ab_vv (Z : ab_Z) (i v c : Nat) : Prop := ab_zK Z i = 2 ∧ ab_zs Z i = v ∧ ab_zp Z i = c ∧ ab_V v c (ab_zD Z i) ∧ ab_zl Z v c
/-- NOT LOST: in the ball of radius r round c, where no source of c lies inside, a straight recent way is lost only by V at its edge -/
theorem ab_nl {Z : ab_Z} {d : Nat → Nat → Nat} {N c r : Nat} (hW : ab_W Z d N) (hg : ∀ g, ab_zl Z c g → r ≤ d c g) (hs : ∀ z, ab_zl Z z c → r ≤ d c z) :
    ∀ i, i ≤ N → ∀ v t, v ≠ c → d c v ≤ r → ab_zD Z 0 4 c 0 < ab_zD Z i 3 v c → ab_bn Z N c (ab_zD Z i 3 v c) t → ab_zn Z 0 + 58 ≤ t → ab_zD Z i 1 v c ≠ 8 ∨
      (d c v = r ∧ ∃ j, j < i ∧ ab_vv Z j v c ∧ t + d c v ≤ ab_zn Z j ∧ ab_zD Z j 3 v c = ab_zD Z i 3 v c) := by
  obtain ⟨h, hL, hG, hl8, hq, hc⟩ := hW
  have hW : ab_W Z d N := ⟨h, hL, hG, hl8, hq, hc⟩
  intro i
  induction i using Nat.strongRecOn with
  | ind i ih =>
    cases i with
    | zero =>
      intro _ v t _ _ hn _ _
      have := h.2.2.2.2.1 v c
      omega
    | succ i =>
      intro hi v t hv hr hn hb ht
      have hi' : i < N := by omega
      have hD := h.1 i hi'
      rcases ab_Ry h hi' v c with ⟨s1, s2, s3⟩ | ⟨hk, ev, ec, hs', hl, l1, l2, l3⟩ | ⟨ev, ⟨y0, y1, y2, y3, _⟩, y⟩
      · rw [← hD] at s1 s2 s3
        rw [s1, s3]
        rw [s3] at hn hb
        rcases ih i (by omega) (by omega) v t hv hr hn hb ht with z | ⟨z1, j, z2, z3⟩
        · exact Or.inl z
        · exact Or.inr ⟨z1, j, by omega, z3⟩
      · rw [← hD] at l1
        refine Or.inl ?_
        rw [l1]
        have := (h.2.1 _ _ (h.2.2.2.2.2.1 i hi' hk).1).2.1
        omega
      · rw [← hD] at y1 y2 y3
        rw [y3] at hn hb
        have hst := ab_str (i := i) (v := v) hW (by omega) hn hb ht (fun g hg' => Nat.le_trans hr (hg g hg'))
        obtain ⟨t', hb', _, _, _, _, _, hp⟩ := ab_wcI h i (by omega) v c hn
        obtain ⟨p1, p2, p3⟩ := hp y0
        rcases y with y | ⟨k1, x3, x5, xv, xb, xn⟩ | ⟨k2, kc, kV, kl⟩
        · exact absurd p1 y
        · exfalso
          obtain ⟨hu, e1, e2, ho⟩ := h.2.2.2.2.2.1 i hi' k1
          rcases ho with ⟨⟨j, hj, ho⟩, e0⟩ | ho
          · obtain ⟨f1, f0, f8, f6⟩ := ab_d2 ho x3
            have hjN : j < N := by omega
            have hDj := h.1 j hjN
            have f8' : ab_zD Z (j + 1) 1 (ab_zs Z j) c = 8 := by rw [hDj, x5]; exact f8
            have f6' : ab_zX Z i 6 = ab_zD Z (j + 1) 3 (ab_zs Z j) c := by rw [hDj, x5]; exact f6
            have ep : ab_zs Z j = ab_zD Z i 1 v c := by rw [xb, ← e1, f1]
            rw [ep] at f8' f6'
            have hne : ab_zD Z i 1 v c ≠ c := by
              intro e
              rw [e] at f6'
              have := ab_self h c (j + 1) (by omega)
              omega
            have hn2 : ab_zD Z 0 4 c 0 < ab_zD Z (j + 1) 3 (ab_zD Z i 1 v c) c := by omega
            obtain ⟨t2, hb2, hd2, ht2, _⟩ := ab_wcI h (j + 1) (by omega) (ab_zD Z i 1 v c) c hn2
            have htt : t ≤ t2 := ab_bnl h hb hb2 (by omega)
            have hdp : d c (ab_zD Z i 1 v c) + 1 ≤ d c v := by omega
            rcases ih (j + 1) (by omega) (by omega) (ab_zD Z i 1 v c) t2 hne (by omega) hn2 hb2 (by omega) with z | ⟨z, _⟩
            · exact z f8'
            · omega
          · have := ho.1.2.1 x3
            rw [← x5] at this
            omega
        · refine Or.inr ⟨?_, i, by omega, ⟨k2, ev.symm, kc.symm, kV, kl⟩, ?_, ?_⟩
          · have := hs v kl
            omega
          · have : t' = t := ab_bnu h hb' hb
            omega
          · rw [y3]
/-! ## riding along straight ways -/
theorem ab_cyo {u : Nat → Nat → Prop} {ac : Nat → Nat → Nat} {s p : Nat} {x : ab_F} {D : ab_D} (h3 : 3 ≤ x 3) (h5 : x 5 ≠ s) (h8 : 1 < x 8) (hn : D 1 s (x 5) ≠ 8) (hu : u s (D 1 s (x 5))) :
    (ab_h u ac s p x D).2 (ab_pt (D 0 0 0) s (D 1 s (x 5)) (ab_fr (x 3) (x 4) (x 5) (x 6) (x 7) (x 8 - 1))) := by
  have K : (ab_cy u s x D).2 (ab_pt (D 0 0 0) s (D 1 s (x 5)) (ab_fr (x 3) (x 4) (x 5) (x 6) (x 7) (x 8 - 1))) := by
    unfold ab_cy
    rw [ab_in (by omega)]
    unfold ab_ps
    show (ab_if (D 1 s (x 5) = 8) (ab_nil D) (ab_if (u s (D 1 s (x 5))) (ab_sd s (D 1 s (x 5)) (ab_fr (x 3) (x 4) (x 5) (x 6) (x 7) (x 8 - 1)) D) (ab_gv u s (x 5) D))).2 _
    rw [ab_in hn, ab_ip hu]
    rfl
  unfold ab_h
  rw [ab_in (by omega), ab_in (by omega), ab_in (by omega)]
  by_cases e : x 3 = 3
  · rw [ab_ip e]
    unfold ab_hP
    rw [ab_in h5]
    exact K
  · rw [ab_in e]
    unfold ab_hW
    rw [ab_in h5]
    exact K
/-- an answer goes off -/
theorem ab_ano {u : Nat → Nat → Prop} {ac : Nat → Nat → Nat} {s p : Nat} {x : ab_F} {D : ab_D} (h3 : x 3 = 3) (h5 : x 5 = s) (hn : D 1 s (x 4) ≠ 8) (hu : u s (D 1 s (x 4))) :
    (ab_h u ac s p x D).2 (ab_pt (D 0 0 0) s (D 1 s (x 4)) (ab_fr 4 s (x 4) (ac (x 4) s) 0 8)) := by
  unfold ab_h
  rw [ab_in (by omega), ab_in (by omega), ab_in (by omega), ab_ip h3]
  unfold ab_hP
  rw [ab_ip h5]
  unfold ab_ps
  show (ab_if (D 1 s (x 4) = 8) (ab_nil D) (ab_if (u s (D 1 s (x 4))) (ab_sd s (D 1 s (x 4)) (ab_fr 4 s (x 4) (ac (x 4) s) 0 8) D) (ab_gv u s (x 4) D))).2 _
  rw [ab_in hn, ab_ip hu]
  rfl
theorem ab_pso2 {u : Nat → Nat → Prop} {s : Nat} {w : ab_F} {D : ab_D} (hn : (ab_ps u s w D).1 1 s (w 5) ≠ 8) : (ab_ps u s w D).2 (ab_pt (D 0 0 0) s ((ab_ps u s w D).1 1 s (w 5)) w) := by
  rcases ab_psc (u := u) (s := s) (w := w) (D := D) with ⟨e8, e⟩ | ⟨_, hu, e⟩ | ⟨_, _, e⟩
  · rw [e] at hn
    exact absurd e8 hn
  · rw [e]
    rfl
  · rw [e] at hn
    exact absurd ab_we hn
/-- a TELL goes off, and on -/
theorem ab_tlo {u : Nat → Nat → Prop} {ac : Nat → Nat → Nat} {s p : Nat} {x : ab_F} {D : ab_D} (h3 : x 3 = 0) (hs : ¬ ab_sn s (x 4) (x 8) D) (h5 : x 5 = s) (hn : (ab_h u ac s p x D).1 1 s (x 4) ≠ 8) :
    (ab_h u ac s p x D).2 (ab_pt (D 0 0 0) s ((ab_h u ac s p x D).1 1 s (x 4)) (ab_fr 1 s (x 4) ((ab_h u ac s p x D).1 4 s 0) 0 0)) := by
  unfold ab_h at hn ⊢
  rw [ab_ip h3] at hn ⊢
  unfold ab_hA at hn ⊢
  rw [ab_in hs, ab_ip h5] at hn ⊢
  have := ab_pso2 (w := ab_fr 1 s (x 4) (ab_hA1 s p x D 4 s 0 + 1) 0 0) hn
  rw [ab_wf (by decide), ab_hA1n (f := 0) (by decide)] at this
  rw [ab_psf (f := 4) (by decide), ab_we]
  exact this
theorem ab_tfo {u : Nat → Nat → Prop} {ac : Nat → Nat → Nat} {s p : Nat} {x : ab_F} {D : ab_D} (h3 : x 3 = 1) (h5 : x 5 ≠ s) (hn : (ab_h u ac s p x D).1 1 s (x 5) ≠ 8) :
    (ab_h u ac s p x D).2 (ab_pt (D 0 0 0) s ((ab_h u ac s p x D).1 1 s (x 5)) (ab_fr 1 (x 4) (x 5) (x 6) (x 7 + 1) 0)) := by
  unfold ab_h at hn ⊢
  rw [ab_in (by omega), ab_ip h3] at hn ⊢
  unfold ab_hT at hn ⊢
  rw [ab_in h5] at hn ⊢
  have := ab_pso2 (w := ab_fr 1 (x 4) (x 5) (x 6) (x 7 + 1) 0) hn
  rw [ab_lno (Or.inl (by decide))] at this
  exact this
/-- c's ball: goals and sources of c are at distance r or more -/
def ab_bal (Z : ab_Z) (d : Nat → Nat → Nat) (c r : Nat) : Prop := (∀ g, ab_zl Z c g → r ≤ d c g) ∧ (∀ z, ab_zl Z z c → r ≤ d c z)
/-- a good way: recent, its number born late -/
def ab_gw (Z : ab_Z) (N i v c : Nat) : Prop := ab_zD Z 0 4 c 0 < ab_zD Z i 3 v c ∧ ∃ t, ab_bn Z N c (ab_zD Z i 3 v c) t ∧ ab_zn Z 0 + 58 ≤ t
theorem ab_gwm {Z : ab_Z} {d : Nat → Nat → Nat} {N i j v w c : Nat} (h : ab_R Z d N) (hg : ab_gw Z N i v c) (hj : j ≤ N) (hn : ab_zD Z i 3 v c ≤ ab_zD Z j 3 w c) : ab_gw Z N j w c := by
  obtain ⟨g1, t, g2, g3⟩ := hg
  obtain ⟨t2, b2, _⟩ := ab_wcI h j hj w c (by omega)
  exact ⟨by omega, t2, b2, Nat.le_trans g3 (ab_bnl h g2 b2 hn)⟩
/-- a good way that is there leads straight on -/
theorem ab_gws {Z : ab_Z} {d : Nat → Nat → Nat} {N i v c r : Nat} (hW : ab_W Z d N) (hi : i ≤ N) (hb : ab_bal Z d c r) (hv : d c v ≤ r) (hg : ab_gw Z N i v c) (h8 : ab_zD Z i 1 v c ≠ 8) :
    ab_zu Z v (ab_zD Z i 1 v c) ∧ d c (ab_zD Z i 1 v c) + 1 = d c v ∧ d c v ≤ 7 ∧ (ab_zD Z i 1 v c ≠ c → ∀ j, i ≤ j → j ≤ N → ab_gw Z N j (ab_zD Z i 1 v c) c) := by
  obtain ⟨g1, t, g2, g3⟩ := hg
  have hst := ab_str hW hi g1 g2 g3 (fun g hg' => Nat.le_trans hv (hb.1 g hg'))
  obtain ⟨_, _, _, _, _, _, _, hp⟩ := ab_wcI hW.1 i hi v c g1
  obtain ⟨p1, p2, p3⟩ := hp h8
  have hlip := hW.2.2.1.2.1 c _ _ (hW.1.2.1 _ _ p1).1
  refine ⟨p1, by omega, hst.2, fun hne j hij hj => ?_⟩
  refine ab_gwm hW.1 ⟨g1, t, g2, g3⟩ hj ?_
  rcases p3 with p3 | p3
  · exact absurd p3 hne
  · exact Nat.le_trans p3 (ab_nrm hW.1 hij hj)
/-- inside the ball a good way is there -/
theorem ab_gwi {Z : ab_Z} {d : Nat → Nat → Nat} {N i v c r : Nat} (hW : ab_W Z d N) (hi : i ≤ N) (hb : ab_bal Z d c r) (hv : d c v < r) (hvc : v ≠ c) (hg : ab_gw Z N i v c) : ab_zD Z i 1 v c ≠ 8 := by
  obtain ⟨g1, t, g2, g3⟩ := hg
  rcases ab_nl hW hb.1 hb.2 i hi v t hvc (by omega) g1 g2 g3 with z | z
  · exact z
  · omega
/-- THE RIDE of a piece or an answer -/
theorem ab_ride {Z : ab_Z} {d : Nat → Nat → Nat} {N c r k f n l : Nat} (hW : ab_W Z d N) (hb : ab_bal Z d c r) (hk : 3 ≤ k) : ∀ e i p q, i < N → d c p = e → 1 ≤ e → e ≤ r → e ≤ q → ab_gw Z N i p c → ab_zD Z i 1 p c ≠ 8 →
    ab_zO Z i (ab_pt (ab_zn Z i) p (ab_zD Z i 1 p c) (ab_fr k f c n l q)) → ab_zn Z i + e + 1 ≤ ab_zn Z N →
    ∃ m, i < m ∧ m < N ∧ ab_zK Z m = 1 ∧ ab_zs Z m = c ∧ ab_zX Z m 3 = k ∧ ab_zX Z m 4 = f ∧ ab_zX Z m 5 = c ∧ ab_zX Z m 6 = n ∧ ab_zn Z m = ab_zn Z i + e := by
  intro e
  induction e with
  | zero => intro i p q _ _ h1; omega
  | succ e ih =>
    intro i p q hi hd _ hr hq hg h8 ho ht
    obtain ⟨a1, a2, a3, a4⟩ := ab_gws hW (by omega) hb (by omega) hg h8
    obtain ⟨m, hm, hmN, k1, kx, kn, ks, kp⟩ := hW.2.1.1 i _ hi ho (by show ab_zn Z i + 2 ≤ _; omega)
    have kn' : ab_zn Z m = ab_zn Z i + 1 := kn
    have ks' : ab_zs Z m = ab_zD Z i 1 p c := ks
    by_cases hc : ab_zD Z i 1 p c = c
    · rw [hc] at a2
      have := hW.2.2.1.1 c
      refine ⟨m, hm, hmN, k1, by rw [ks', hc], by rw [kx]; rfl, by rw [kx]; rfl, by rw [kx]; rfl, by rw [kx]; rfl, by omega⟩
    · have hg2 := a4 hc m (by omega) (by omega)
      have h82 := ab_gwi hW (by omega) hb (by omega) hc hg2
      obtain ⟨b1, b2, _, _⟩ := ab_gws hW (show m ≤ N by omega) hb (by omega) hg2 h82
      have he : 1 ≤ e := by
        rcases Nat.eq_zero_or_pos e with y | y
        · have : d c (ab_zD Z i 1 p c) = 0 := by omega
          exact absurd (hW.2.2.1.2.2.2.1 _ _ this).symm hc
        · exact y
      have ho2 : ab_zO Z m (ab_pt (ab_zn Z m) (ab_zD Z i 1 p c) (ab_zD Z m 1 (ab_zD Z i 1 p c) c) (ab_fr k f c n l (q - 1))) := by
        unfold ab_zO ab_zY
        rw [k1, ab_do1, ks', kx]
        exact ab_cyo (x := ab_pt (ab_zn Z i) p (ab_zD Z i 1 p c) (ab_fr k f c n l q)) (s := ab_zD Z i 1 p c) hk (fun z => hc z.symm) (by show 1 < q; omega) h82 b1
      obtain ⟨m2, c1, c2, c3, c4, c5, c6, c7, c8, c9⟩ := ih m _ (q - 1) hmN (by omega) he (by omega) (by omega) hg2 h82 ho2 (by omega)
      exact ⟨m2, by omega, c2, c3, c4, c5, c6, c7, c8, by omega⟩
/-- THE RIDE of a TELL -/
theorem ab_ridt {Z : ab_Z} {d : Nat → Nat → Nat} {N c r f n : Nat} (hW : ab_W Z d N) (hb : ab_bal Z d c r) : ∀ e i p l, i < N → d c p = e → 1 ≤ e → e ≤ r → ab_gw Z N (i + 1) p c → ab_zD Z (i + 1) 1 p c ≠ 8 →
    ab_zO Z i (ab_pt (ab_zn Z i) p (ab_zD Z (i + 1) 1 p c) (ab_fr 1 f c n l 0)) → ab_zn Z i + e + 1 ≤ ab_zn Z N →
    ∃ m, i < m ∧ m < N ∧ ab_zK Z m = 1 ∧ ab_zs Z m = c ∧ ab_zX Z m 3 = 1 ∧ ab_zX Z m 4 = f ∧ ab_zX Z m 5 = c ∧ ab_zX Z m 6 = n ∧ ab_zn Z m = ab_zn Z i + e := by
  intro e
  induction e with
  | zero => intro i p q _ _ h1; omega
  | succ e ih =>
    intro i p l hi hd _ hr hg h8 ho ht
    obtain ⟨a1, a2, a3, a4⟩ := ab_gws hW (by omega) hb (by omega) hg h8
    obtain ⟨m, hm, hmN, k1, kx, kn, ks, kp⟩ := hW.2.1.1 i _ hi ho (by show ab_zn Z i + 2 ≤ _; omega)
    have kn' : ab_zn Z m = ab_zn Z i + 1 := kn
    have ks' : ab_zs Z m = ab_zD Z (i + 1) 1 p c := ks
    by_cases hc : ab_zD Z (i + 1) 1 p c = c
    · rw [hc] at a2
      have := hW.2.2.1.1 c
      refine ⟨m, hm, hmN, k1, by rw [ks', hc], by rw [kx]; rfl, by rw [kx]; rfl, by rw [kx]; rfl, by rw [kx]; rfl, by omega⟩
    · have hg2 := a4 hc (m + 1) (by omega) (by omega)
      have h82 := ab_gwi hW (by omega) hb (by omega) hc hg2
      have he : 1 ≤ e := by
        rcases Nat.eq_zero_or_pos e with y | y
        · have : d c (ab_zD Z (i + 1) 1 p c) = 0 := by omega
          exact absurd (hW.2.2.1.2.2.2.1 _ _ this).symm hc
        · exact y
      have ho2 : ab_zO Z m (ab_pt (ab_zn Z m) (ab_zD Z (i + 1) 1 p c) (ab_zD Z (m + 1) 1 (ab_zD Z (i + 1) 1 p c) c) (ab_fr 1 f c n (l + 1) 0)) := by
        have hY := hW.1.1 m hmN
        rw [hY] at h82 ⊢
        unfold ab_zO
        unfold ab_zY at h82 ⊢
        rw [k1, ab_do1, ks', kx] at h82 ⊢
        exact ab_tfo (x := ab_pt (ab_zn Z i) p (ab_zD Z (i + 1) 1 p c) (ab_fr 1 f c n l 0)) (s := ab_zD Z (i + 1) 1 p c) rfl (fun z => hc z.symm) h82
      obtain ⟨m2, c1, c2, c3, c4, c5, c6, c7, c8, c9⟩ := ih m _ (l + 1) hmN (by omega) he (by omega) hg2 h82 ho2 (by omega)
      exact ⟨m2, by omega, c2, c3, c4, c5, c6, c7, c8, by omega⟩
/-! ## timers -/
def ab_pev (u : Nat → Nat → Prop) (cf : Nat → Nat → Nat) (a b : Nat) (D : ab_D) (Y : ab_S) : Prop :=
  ∃ z, z < 2 ∧ (D 7 a b = 0 → z = 0) ∧ (D 7 a b ≠ 0 → z = D 9 a b + 1) ∧ ab_hw u a b D ∧ Y.1 7 a b = 1 ∧ Y.1 8 a b = D 0 0 0 ∧ Y.1 9 a b = z ∧ Y.1 6 a b = D 6 a b ∧ Y.2 (ab_pt (D 0 0 0) a (D 1 a b) (ab_fr 3 a b (cf a b) 0 8))
def ab_tsm (D E : ab_D) (i j : Nat) : Prop := E 6 i j = D 6 i j ∧ E 7 i j = D 7 i j ∧ E 8 i j = D 8 i j ∧ E 9 i j = D 9 i j
theorem ab_dt {u lv : Nat → Nat → Prop} {cf ac : Nat → Nat → Nat} {k a b i j : Nat} {x : ab_F} {D : ab_D} : ab_tsm D (ab_do u lv cf ac k a b x D).1 i j ∨
    (k = 2 ∧ i = a ∧ j = b ∧ lv a b ∧ (D 7 a b = 0 ∨ D 8 a b + 26 ≤ D 0 0 0) ∧ (ab_pev u cf a b D (ab_do u lv cf ac k a b x D) ∨
      ((¬ ab_hw u a b D ∨ (D 7 a b ≠ 0 ∧ 1 ≤ D 9 a b)) ∧ (ab_do u lv cf ac k a b x D).1 7 a b = 0 ∧ (ab_do u lv cf ac k a b x D).1 1 a b = 8 ∧
        (ab_asks k a b D (ab_do u lv cf ac k a b x D).1 ∨ (D 0 0 0 < D 6 a b ∧ (ab_do u lv cf ac k a b x D).1 6 a b = D 6 a b))))) := by
  by_cases h0 : k = 0
  · subst h0
    rw [ab_do0]
    refine Or.inl ⟨?_, ?_, ?_, ?_⟩
    · show ab_w D 0 0 0 (D 0 0 0 + 1) 6 i j = _; exact ab_wf (by decide)
    · show ab_w D 0 0 0 (D 0 0 0 + 1) 7 i j = _; exact ab_wf (by decide)
    · show ab_w D 0 0 0 (D 0 0 0 + 1) 8 i j = _; exact ab_wf (by decide)
    · show ab_w D 0 0 0 (D 0 0 0 + 1) 9 i j = _; exact ab_wf (by decide)
  · by_cases h1 : k = 1
    · subst h1
      rw [ab_do1]
      exact Or.inl ⟨ab_hf6 (by omega), ab_hf6 (by omega), ab_hf6 (by omega), ab_hf6 (by omega)⟩
    · by_cases h2 : k = 2
      · subst h2
        rw [ab_do2]
        rcases ab_uc (u := u) (lv := lv) (cf := cf) (a := a) (b := b) (D := D) with ⟨z, _⟩ | ⟨hl, hc, ⟨z, z2, z0, z1, y⟩ | ⟨hy, y⟩⟩
        · rw [z]; exact Or.inl ⟨rfl, rfl, rfl, rfl⟩
        · by_cases e : i = a ∧ j = b
          · refine Or.inr ⟨rfl, e.1, e.2, hl, hc, Or.inl ⟨z, z2, z0, z1, y.1, ?_, ?_, ?_, ?_, ?_⟩⟩
            · rw [y.2]
              show ab_w (ab_w (ab_w D 9 a b z) 7 a b 1) 8 a b (D 0 0 0) 7 a b = _
              rw [ab_wf (by decide), ab_we]
            · rw [y.2]
              show ab_w (ab_w (ab_w D 9 a b z) 7 a b 1) 8 a b (D 0 0 0) 8 a b = _
              rw [ab_we]
            · rw [y.2]
              show ab_w (ab_w (ab_w D 9 a b z) 7 a b 1) 8 a b (D 0 0 0) 9 a b = _
              rw [ab_wf (by decide), ab_wf (by decide), ab_we]
            · rw [y.2]
              show ab_w (ab_w (ab_w D 9 a b z) 7 a b 1) 8 a b (D 0 0 0) 6 a b = _
              rw [ab_wf (by decide), ab_wf (by decide), ab_wf (by decide)]
            · rw [y.2]
              show ab_pt (D 0 0 0) a (D 1 a b) (ab_fr 3 a b (cf a b) 0 8) = ab_pt (ab_w (ab_w (ab_w D 9 a b z) 7 a b 1) 8 a b (D 0 0 0) 0 0 0) a (D 1 a b) (ab_fr 3 a b (cf a b) 0 8)
              rw [ab_wf (by decide), ab_wf (by decide), ab_wf (by decide)]
          · rw [y.2]
            refine Or.inl ⟨?_, ?_, ?_, ?_⟩
            · show ab_w (ab_w (ab_w D 9 a b z) 7 a b 1) 8 a b (D 0 0 0) 6 i j = _
              rw [ab_wne (by omega), ab_wne (by omega), ab_wne (by omega)]
            · show ab_w (ab_w (ab_w D 9 a b z) 7 a b 1) 8 a b (D 0 0 0) 7 i j = _
              rw [ab_wne (by omega), ab_wne (by omega), ab_wne (by omega)]
            · show ab_w (ab_w (ab_w D 9 a b z) 7 a b 1) 8 a b (D 0 0 0) 8 i j = _
              rw [ab_wne (by omega), ab_wne (by omega), ab_wne (by omega)]
            · show ab_w (ab_w (ab_w D 9 a b z) 7 a b 1) 8 a b (D 0 0 0) 9 i j = _
              rw [ab_wne (by omega), ab_wne (by omega), ab_wne (by omega)]
        · have hy' := y
          by_cases e : i = a ∧ j = b
          · obtain ⟨y1, y7, y | y⟩ := ab_nwc y
            · exact Or.inr ⟨rfl, e.1, e.2, hl, hc, Or.inr ⟨hy, y7, y1, Or.inr ⟨y.1, y.2.2.2.1 a b⟩⟩⟩
            · refine Or.inr ⟨rfl, e.1, e.2, hl, hc, Or.inr ⟨hy, y7, y1, Or.inl ⟨rfl, y1, y7, y.1, y.2.2.2.1, ?_, ?_⟩⟩⟩
              · rw [y.2.2.1 a, if_pos rfl]
              · rw [y.2.1 a, if_pos rfl]
          · obtain ⟨E, ⟨p1, p7, pw, p2, p3, pf, pp⟩, e1, o1, o2⟩ := hy'
            have f : ∀ f, (f = 6 ∨ f = 7 ∨ f = 8 ∨ f = 9) → (ab_k u a b E).1 f i j = E f i j := by
              intro f hf
              by_cases hk : E 0 0 0 < E 6 a b
              · rw [ab_kn hk]; rfl
              · rw [ab_ky hk]
                show ab_k1 a b E f i j = _
                by_cases e6 : f = 6
                · subst e6
                  exact ab_k17 (by omega)
                · exact ab_k1f (by omega)
            refine Or.inl ⟨?_, ?_, ?_, ?_⟩
            · rw [e1, f 6 (by omega)]; exact pf 6 i j (by decide) (by decide) (by decide) (by decide) (by decide)
            · rw [e1, f 7 (by omega)]; exact (pp i j (by omega)).1
            · rw [e1, f 8 (by omega)]; exact pf 8 i j (by decide) (by decide) (by decide) (by decide) (by decide)
            · rw [e1, f 9 (by omega)]; exact (pp i j (by omega)).2
      · rw [ab_do3 (by omega)]
        exact Or.inl ⟨rfl, rfl, rfl, rfl⟩
/-- the timers at the start -/
def ab_t0 (Z : ab_Z) (N : Nat) : Prop := (∀ a b, ab_zD Z 0 6 a b ≤ ab_zn Z 0 + 24 ∧ (ab_zD Z 0 7 a b ≠ 0 → ab_zD Z 0 6 a b + 26 * ab_zD Z 0 9 a b < ab_zD Z 0 8 a b + 24 ∧ ab_zD Z 0 8 a b ≤ ab_zn Z 0)) ∧
  (∀ k, k < N → ab_zK Z k = 2 → ab_zn Z 0 < ab_zn Z k)
theorem ab_la {Z : ab_Z} {d : Nat → Nat → Nat} {N a b : Nat} {lm : Nat} (h : ab_RL lm Z d N) : ∀ i, i ≤ N → ab_zD Z i 6 a b = ab_zD Z 0 6 a b ∨ ∃ j, j < i ∧ ab_ask Z j a b ∧ ab_zD Z i 6 a b = ab_zn Z j + 24 := by
  intro i
  induction i with
  | zero => intro _; exact Or.inl rfl
  | succ i ih =>
    intro hi
    have hD := h.1 i (by omega)
    rcases ab_dt (u := ab_zu Z) (lv := ab_zl Z) (cf := ab_zc Z) (ac := ab_za Z) (k := ab_zK Z i) (a := ab_zs Z i) (b := ab_zp Z i) (i := a) (j := b) (x := ab_zX Z i) (D := ab_zD Z i) with z | ⟨k2, e1, e2, hl, _, ⟨z, _, _, _, _, _, _, _, z6, _⟩ | ⟨_, _, _, z | ⟨_, z⟩⟩⟩
    · have e : ab_zD Z (i + 1) 6 a b = ab_zD Z i 6 a b := by rw [hD]; exact z.1
      rw [e]
      rcases ih (by omega) with y | ⟨j, hj, y⟩
      · exact Or.inl y
      · exact Or.inr ⟨j, by omega, y⟩
    · have e : ab_zD Z (i + 1) 6 a b = ab_zD Z i 6 a b := by rw [hD, e1, e2]; exact z6
      rw [e]
      rcases ih (by omega) with y | ⟨j, hj, y⟩
      · exact Or.inl y
      · exact Or.inr ⟨j, by omega, y⟩
    · refine Or.inr ⟨i, by omega, ⟨e1.symm, e2.symm, by rw [e1, e2]; exact hl, ?_⟩, ?_⟩
      · rw [e1, e2, hD]; exact z
      · rw [e1, e2, hD]; exact z.2.2.2.2.1
    · have e : ab_zD Z (i + 1) 6 a b = ab_zD Z i 6 a b := by rw [hD, e1, e2]; exact z
      rw [e]
      rcases ih (by omega) with y | ⟨j, hj, y⟩
      · exact Or.inl y
      · exact Or.inr ⟨j, by omega, y⟩
theorem ab_la1 {Z : ab_Z} {d : Nat → Nat → Nat} {N k : Nat} {lm : Nat} (h : ab_RL lm Z d N) (hL : ab_L Z N) (h0 : ab_t0 Z N) (hk : k < N) (k2 : ab_zK Z k = 2) : ab_zD Z k 6 (ab_zs Z k) (ab_zp Z k) < ab_zn Z k + 24 := by
  rcases ab_la (a := ab_zs Z k) (b := ab_zp Z k) h k (by omega) with z | ⟨j, hj, ha, z⟩
  · have := (h0.1 (ab_zs Z k) (ab_zp Z k)).1
    have := h0.2 k hk k2
    omega
  · have h1 := ab_nowm h (show j ≤ k by omega) (by omega)
    have : ab_zn Z j ≠ ab_zn Z k := fun e => by
      have := hL.2.2 j k (by omega) hk ha.2.2.2.1 k2 e ha.1 ha.2.1
      omega
    omega
theorem ab_TI {Z : ab_Z} {d : Nat → Nat → Nat} {N a b : Nat} {lm : Nat} (h : ab_RL lm Z d N) (hL : ab_L Z N) (h0 : ab_t0 Z N) : ∀ i, i ≤ N → ab_zD Z i 7 a b ≠ 0 → ab_zD Z i 6 a b + 26 * ab_zD Z i 9 a b < ab_zD Z i 8 a b + 24 ∧ ab_zD Z i 8 a b ≤ ab_zn Z i := by
  intro i
  induction i with
  | zero => intro _; exact (h0.1 a b).2
  | succ i ih =>
    intro hi h7
    have hD := h.1 i (by omega)
    have hnm : ab_zn Z i ≤ ab_zn Z (i + 1) := ab_nowm h (Nat.le_succ i) hi
    rcases ab_dt (u := ab_zu Z) (lv := ab_zl Z) (cf := ab_zc Z) (ac := ab_za Z) (k := ab_zK Z i) (a := ab_zs Z i) (b := ab_zp Z i) (i := a) (j := b) (x := ab_zX Z i) (D := ab_zD Z i) with z | ⟨k2, e1, e2, hl, hc, ⟨z, z2, z0, z1, _, y7, y8, y9, y6, _⟩ | ⟨_, y7, _⟩⟩
    · have e6 : ab_zD Z (i + 1) 6 a b = ab_zD Z i 6 a b := by rw [hD]; exact z.1
      have e7 : ab_zD Z (i + 1) 7 a b = ab_zD Z i 7 a b := by rw [hD]; exact z.2.1
      have e8 : ab_zD Z (i + 1) 8 a b = ab_zD Z i 8 a b := by rw [hD]; exact z.2.2.1
      have e9 : ab_zD Z (i + 1) 9 a b = ab_zD Z i 9 a b := by rw [hD]; exact z.2.2.2
      rw [e7] at h7
      have := ih (by omega) h7
      rw [e6, e8, e9]
      omega
    · have q := ab_la1 h hL h0 (show i < N by omega) k2
      rw [← e1, ← e2] at z0 z1 hc q
      have e6 : ab_zD Z (i + 1) 6 a b = ab_zD Z i 6 a b := by rw [hD, e1, e2]; exact y6
      have e8 : ab_zD Z (i + 1) 8 a b = ab_zn Z i := by rw [hD, e1, e2]; exact y8
      have e9 : ab_zD Z (i + 1) 9 a b = z := by rw [hD, e1, e2]; exact y9
      rw [e6, e8, e9]
      by_cases e : ab_zD Z i 7 a b = 0
      · rw [z0 e]
        omega
      · have := ih (by omega) e
        have e9' := z1 e
        rcases hc with y | y
        · exact absurd y e
        · have y' : ab_zD Z i 8 a b + 26 ≤ ab_zn Z i := y
          omega
    · exfalso
      apply h7
      rw [hD, e1, e2]
      exact y7
/-- V asks, and long after the last asking -/
theorem ab_vask {Z : ab_Z} {d : Nat → Nat → Nat} {N j v c : Nat} {lm : Nat} (h : ab_RL lm Z d N) (hL : ab_L Z N) (h0 : ab_t0 Z N) (hj : j < N) (hv : ab_vv Z j v c) : ab_ask Z j v c := by
  obtain ⟨k2, e1, e2, ⟨v7, v9, v8⟩, hl⟩ := hv
  have ti := ab_TI (a := v) (b := c) h hL h0 j (by omega) v7
  have hD := h.1 j hj
  have v8' : ab_zD Z j 8 v c + 26 ≤ ab_zn Z j := v8
  refine ⟨e1, e2, hl, ?_⟩
  rcases ab_dt (u := ab_zu Z) (lv := ab_zl Z) (cf := ab_zc Z) (ac := ab_za Z) (k := ab_zK Z j) (a := ab_zs Z j) (b := ab_zp Z j) (i := v) (j := c) (x := ab_zX Z j) (D := ab_zD Z j) with z | ⟨_, _, _, _, hc, ⟨z, z2, z0, z1, _⟩ | ⟨_, y7, y1, y | y⟩⟩
  · -- a live pair that is due does something
    exfalso
    have hu := ab_uc (u := ab_zu Z) (lv := ab_zl Z) (cf := ab_zc Z) (a := v) (b := c) (D := ab_zD Z j)
    rw [k2, ab_do2, e1, e2] at z
    rcases hu with ⟨_, y⟩ | ⟨_, _, ⟨z', z2, z0, z1, _⟩ | ⟨_, y⟩⟩
    · exact y ⟨hl, Or.inr v8⟩
    · have := z1 v7
      omega
    · have := (ab_nwc y).2.1
      rw [z.2.1] at this
      exact v7 this
  · rw [e1, e2] at z1
    have := z1 v7
    omega
  · rw [hD]
    rw [e1, e2] at y
    unfold ab_zY
    rw [e1, e2]
    exact y
  · exfalso
    rw [e1, e2] at y
    have y' : ab_zn Z j < ab_zD Z j 6 v c := y.1
    omega
theorem ab_vsp {Z : ab_Z} {d : Nat → Nat → Nat} {N i j v c : Nat} {lm : Nat} (h : ab_RL lm Z d N) (hL : ab_L Z N) (h0 : ab_t0 Z N) (hij : i < j) (hj : j < N) (hv : ab_vv Z j v c) (ha : ab_ask Z i v c) : ab_zn Z i + 53 ≤ ab_zn Z j := by
  obtain ⟨k2, e1, e2, ⟨v7, v9, v8⟩, hl⟩ := hv
  have ti := ab_TI (a := v) (b := c) h hL h0 j (by omega) v7
  have v8' : ab_zD Z j 8 v c + 26 ≤ ab_zn Z j := v8
  have h6 := ab_6m (a := v) (b := c) h (show i + 1 ≤ j by omega) (by omega)
  have h7 : ab_zD Z (i + 1) 6 v c = ab_zn Z i + 24 := ha.2.2.2.2.2.2.2.1
  omega
/-- behind an asking: the first piece goes off as soon as there is a way -/
def ab_go (Z : ab_Z) (k x y : Nat) : Prop := ab_zK Z k = 2 ∧ ab_zs Z k = x ∧ ab_zp Z k = y ∧ ab_zD Z k 1 x y ≠ 8 ∧ ab_zu Z x (ab_zD Z k 1 x y) ∧ ab_zO Z k (ab_pt (ab_zn Z k) x (ab_zD Z k 1 x y) (ab_fr 3 x y (ab_zc Z x y) 0 8)) ∧ ab_zD Z k 7 x y = 0
theorem ab_att {Z : ab_Z} {d : Nat → Nat → Nat} {N a x y : Nat} {lm : Nat} (h : ab_RL lm Z d N) (hL : ab_L Z N) (haN : a < N) (ha : ab_ask Z a x y) : ∀ i, a < i → i ≤ N → ab_zn Z i ≤ ab_zn Z a + 23 →
    (∃ k, a < k ∧ k < i ∧ ab_go Z k x y ∧ ab_zn Z a < ab_zn Z k) ∨ (ab_zD Z i 7 x y = 0 ∧ ab_zD Z i 6 x y = ab_zn Z a + 24) := by
  intro i
  induction i with
  | zero => intro h1; omega
  | succ i ih =>
    intro h1 hi hn
    have hD := h.1 i (by omega)
    by_cases e : i = a
    · subst e
      exact Or.inr ⟨ha.2.2.2.2.2.1, ha.2.2.2.2.2.2.2.1⟩
    · have hnm : ab_zn Z i ≤ ab_zn Z (i + 1) := ab_nowm h (Nat.le_succ i) hi
      rcases ih (by omega) (by omega) (by omega) with ⟨k, k1, k2, k3⟩ | ⟨z7, z6⟩
      · exact Or.inl ⟨k, k1, by omega, k3⟩
      · rcases ab_dt (u := ab_zu Z) (lv := ab_zl Z) (cf := ab_zc Z) (ac := ab_za Z) (k := ab_zK Z i) (a := ab_zs Z i) (b := ab_zp Z i) (i := x) (j := y) (x := ab_zX Z i) (D := ab_zD Z i) with z | ⟨k2, e1, e2, hl, hc, ⟨z, z2, z0, z1, zh, y7, y8, y9, y6, yo⟩ | ⟨_, y7, y1, yy⟩⟩
        · refine Or.inr ⟨?_, ?_⟩
          · rw [hD]; exact z.2.1.trans z7
          · rw [hD]; exact z.1.trans z6
        · refine Or.inl ⟨i, by omega, by omega, ⟨k2, e1.symm, e2.symm, ?_, ?_, ?_, z7⟩, ?_⟩
          · rw [e1, e2]; exact zh.1
          · rw [e1, e2]; exact zh.2
          · rw [e1, e2]; exact yo
          · have h2 := ab_nowm h (show a ≤ i by omega) (by omega)
            have : ab_zn Z a ≠ ab_zn Z i := fun q => by
              have := hL.2.2 a i haN (by omega) ha.2.2.2.1 k2 q (by rw [ha.1, ← e1]) (by rw [ha.2.1, ← e2])
              omega
            omega
        · have z6' := z6
          rw [e1, e2] at z6'
          rcases yy with yy | yy
          · exfalso
            have := yy.2.2.2.1
            have q : ab_zD Z i 6 (ab_zs Z i) (ab_zp Z i) ≤ ab_zn Z i := this
            omega
          · refine Or.inr ⟨?_, ?_⟩
            · rw [hD, e1, e2]; exact y7
            · rw [hD, e1, e2]; exact yy.2.trans z6'
/-! ## an attempt of a pair of smallest distance -/
/-- no progress -/
def ab_np (Z : ab_Z) (N : Nat) : Prop := (∀ i, i < N → ab_zK Z i = 1 → ab_zX Z i 3 = 3 → ab_zX Z i 5 = ab_zs Z i → ab_zX Z i 6 ≠ ab_za Z (ab_zX Z i 4) (ab_zs Z i)) ∧
  (∀ i, i < N → ab_zK Z i = 1 → ab_zX Z i 3 = 4 → ab_zX Z i 5 = ab_zs Z i → ab_zX Z i 6 ≠ ab_zc Z (ab_zs Z i) (ab_zX Z i 4) + 1) ∧ (∀ a b, ab_zl Z a b → ab_za Z a b = ab_zc Z a b ∨ ab_za Z a b = ab_zc Z a b + 1)
theorem ab_gwn {Z : ab_Z} {d : Nat → Nat → Nat} {N i v c n t : Nat} (h : ab_R Z d N) (hi : i ≤ N) (hb : ab_bn Z N c n t) (ht : ab_zn Z 0 + 58 ≤ t) (h0 : ab_zD Z 0 4 c 0 < n) (hn : n ≤ ab_zD Z i 3 v c) : ab_gw Z N i v c := by
  obtain ⟨t2, b2, _⟩ := ab_wcI h i hi v c (by omega)
  exact ⟨by omega, t2, b2, Nat.le_trans ht (ab_bnl h hb b2 hn)⟩
/-- an urge does not come ahead of a hearing of its moment -/
theorem ab_urg {Z : ab_Z} {d : Nat → Nat → Nat} {N i j : Nat} {lm : Nat} (h : ab_RL lm Z d N) (hL : ab_L Z N) (h0 : ab_t0 Z N) (hi : i < N) (hj : j < i) (k1 : ab_zK Z i = 1) (k2 : ab_zK Z j = 2) (hl : ab_zl Z (ab_zs Z j) (ab_zp Z j)) (ht : ab_zn Z i < ab_zn Z N) : ab_zn Z j < ab_zn Z i := by
  have h1 := ab_nowm h (show j ≤ i by omega) (by omega)
  by_cases e : ab_zn Z j = ab_zn Z i
  · exfalso
    have := h0.2 j (by omega) k2
    obtain ⟨k, hk, kn, kk, ks, kp, kall⟩ := hL.2.1 (ab_zn Z j) _ _ this (by omega) hl
    have ek := hL.2.2 k j hk (by omega) kk k2 kn ks kp
    have := kall i hi e.symm k1
    omega
  · omega
/-- the question reaches its goal, the TELL comes back -/
theorem ab_qt {Z : ab_Z} {d : Nat → Nat → Nat} {N a x y r : Nat} (hW : ab_W Z d N) (h0 : ab_t0 Z N) (hb : ab_bal Z d x r) (hd : d x y = r) (h7 : r ≤ 7) (haN : a < N) (ha : ab_ask Z a x y) (ht : ab_zn Z 0 + 58 ≤ ab_zn Z a) (hN : ab_zn Z a + 2 * r + 2 ≤ ab_zn Z N) :
    ∃ j m, a < j ∧ j < m ∧ m < N ∧ ab_zn Z j = ab_zn Z a + r ∧ ab_zD Z (a + 1) 4 x 0 ≤ ab_zD Z (j + 1) 3 y x ∧ ab_zK Z m = 1 ∧ ab_zs Z m = x ∧ ab_zX Z m 3 = 1 ∧ ab_zX Z m 4 = y ∧ ab_zn Z m = ab_zn Z a + 2 * r ∧
      ab_zD Z j 4 y 0 + 1 = ab_zX Z m 6 ∧ ab_zD Z (j + 1) 4 y 0 = ab_zX Z m 6 := by
  obtain ⟨h, hL, hG, hl8, hq, hc⟩ := hW
  have hW : ab_W Z d N := ⟨h, hL, hG, hl8, hq, hc⟩
  have hxy : x ≠ y := (hl8 _ _ ha.2.2.1).1
  have r1 : 1 ≤ r := by
    rcases Nat.eq_zero_or_pos r with e | e
    · exact absurd (hG.2.2.2.1 x y (by omega)) hxy
    · exact e
  obtain ⟨q1, q2, q3⟩ := ab_qf h haN ha
  have hgd : ab_gd (ab_zu Z) y x r y := ab_gdb hG y x r y hd h7 (by omega)
  obtain ⟨j, haj, hjN, hf, hjn, x5, x6⟩ := ab_flood h hL haN ha.1 ha.2.1 ha.2.2.2 r y hgd (fun e => hxy e.symm) (by omega)
  obtain ⟨f1, f2, f3, f4, f5, f6⟩ := hf
  have hbq : ab_bn Z N x (ab_zD Z (a + 1) 4 x 0) (ab_zn Z a) := ⟨a, haN, rfl, by omega, Nat.le_refl _⟩
  have hjn2 : ab_zn Z j = ab_zn Z a + r := by
    obtain ⟨b, hb1, hb2, hb3, hb4, hb5, hb6⟩ := ab_hrd h hjN f1 (by omega) (by rw [f4, x6]; exact q2)
    obtain ⟨c1, c2, c3, c4, c5, c6⟩ := ab_fcI h b (by omega) _ hb2 (by omega) (by rw [f4, x6]; exact q2)
    rw [f4, x6] at c1
    rw [f4] at c4
    have e := ab_bnu h c1 hbq
    have hlip := hG.2.1 x _ _ hb6
    rw [← hb4, f2] at hlip
    omega
  have hDj := h.1 j hjN
  have hnr : ab_zD Z (a + 1) 4 x 0 ≤ ab_zD Z (j + 1) 3 y x := by
    have := ab_hnr (u := ab_zu Z) (ac := ab_za Z) (s := y) (p := ab_zp Z j) (x := ab_zX Z j) (D := ab_zD Z j) (Or.inl ⟨f3, by rw [f4, f5]; exact f6⟩) (by rw [f4]; exact fun e => hxy e.symm)
    rw [hDj, ← x6]
    unfold ab_zY
    rw [f1, ab_do1, f2]
    rw [f4] at this
    exact this
  have hgw : ab_gw Z N (j + 1) y x := ab_gwn h (by omega) hbq ht q2 hnr
  have h8 : ab_zD Z (j + 1) 1 y x ≠ 8 := by
    obtain ⟨g1, t, g2, g3⟩ := hgw
    rcases ab_nl hW hb.1 hb.2 (j + 1) (by omega) y t (fun e => hxy e.symm) (by omega) g1 g2 g3 with z | ⟨_, b, hb1, hb2, hb3, _⟩
    · exact z
    · exfalso
      have hta := ab_bnl h hbq g2 hnr
      have hbj : b < j := by
        by_cases e : b = j
        · have := hb2.1
          rw [e] at this
          omega
        · omega
      have := ab_urg h hL h0 hjN hbj f1 hb2.1 (by rw [hb2.2.1, hb2.2.2.1]; exact hb2.2.2.2.2) (by omega)
      omega
  have ho : ab_zO Z j (ab_pt (ab_zn Z j) y (ab_zD Z (j + 1) 1 y x) (ab_fr 1 y x (ab_zD Z (j + 1) 4 y 0) 0 0)) := by
    rw [hDj] at h8 ⊢
    unfold ab_zO
    unfold ab_zY at h8 ⊢
    rw [f1, ab_do1, f2] at h8 ⊢
    have := ab_tlo (u := ab_zu Z) (ac := ab_za Z) (s := y) (p := ab_zp Z j) (x := ab_zX Z j) (D := ab_zD Z j) f3 (by rw [f4, f5]; exact f6) x5 (by rw [f4]; exact h8)
    rw [f4] at this
    exact this
  obtain ⟨m, m1, m2, m3, m4, m5, m6, m7, m8, m9⟩ := ab_ridt hW hb r j y 0 hjN hd r1 (Nat.le_refl _) hgw h8 ho (by omega)
  refine ⟨j, m, haj, m1, m2, hjn2, hnr, m3, m4, m5, m6, by omega, ?_, m8.symm⟩
  rw [m8]
  have := (ab_d1 ho (show (1 : Nat) ≤ 1 by omega)).2.2.2
  rcases this with ⟨_, z, _⟩ | ⟨_, _, _, z, _⟩
  · rw [f3] at z
    have z' : (0 : Nat) = 1 := z
    omega
  · have z' : (ab_zY Z j).1 4 (ab_zs Z j) 0 = ab_zD Z j 4 (ab_zs Z j) 0 + 1 := z
    rw [← hDj, f2] at z'
    exact z'.symm
/-- AN ATTEMPT fails only by V(y,x) -/
theorem ab_try {Z : ab_Z} {d : Nat → Nat → Nat} {N a x y r : Nat} (hW : ab_W Z d N) (h0 : ab_t0 Z N) (hnp : ab_np Z N) (hbx : ab_bal Z d x r) (hby : ab_bal Z d y r) (hd : d x y = r) (h7 : r ≤ 7) (haN : a < N) (ha : ab_ask Z a x y)
    (ht : ab_zn Z 0 + 58 ≤ ab_zn Z a) (hN : ab_zn Z a + 4 * r + 2 ≤ ab_zn Z N) (hg : ∀ k, a < k → k < N → ab_zn Z k ≤ ab_zn Z a + 2 * r → ab_go Z k x y → ab_gw Z N k x y) :
    ∃ j, a < j ∧ j < N ∧ ab_vv Z j y x ∧ ab_zn Z a + r ≤ ab_zn Z j ∧ ab_zn Z j ≤ ab_zn Z a + 3 * r ∧ ab_zD Z (a + 1) 4 x 0 ≤ ab_zD Z j 3 y x := by
  obtain ⟨h, hL, hG, hl8, hq, hc⟩ := hW
  have hW : ab_W Z d N := ⟨h, hL, hG, hl8, hq, hc⟩
  have hxy : x ≠ y := (hl8 _ _ ha.2.2.1).1
  have hdy : d y x = r := by rw [hG.2.2.1]; exact hd
  have r1 : 1 ≤ r := by
    rcases Nat.eq_zero_or_pos r with e | e
    · exact absurd (hG.2.2.2.1 x y (by omega)) hxy
    · exact e
  obtain ⟨q1, q2, q3⟩ := ab_qf h haN ha
  obtain ⟨jT, m, o1, o2, o3, o4, o5, o6, o7, o8, o9, o10, o11, o12⟩ := ab_qt hW h0 hbx hd h7 haN ha ht (by omega)
  have hbq : ab_bn Z N x (ab_zD Z (a + 1) 4 x 0) (ab_zn Z a) := ⟨a, haN, rfl, by omega, Nat.le_refl _⟩
  have hbt : ab_bn Z N y (ab_zX Z m 6) (ab_zn Z a + r) := ⟨jT, by omega, o4, by omega, by omega⟩
  -- the piece goes off
  have go : ∃ k, a < k ∧ k < N ∧ ab_go Z k x y ∧ ab_zn Z a < ab_zn Z k ∧ ab_zn Z k ≤ ab_zn Z a + 2 * r := by
    have hn0 := ab_nowm h (Nat.zero_le a) (by omega)
    obtain ⟨k, hk, kn, kk, ks, kp, kall⟩ := hL.2.1 (ab_zn Z a + 2 * r) x y (by omega) (by omega) ha.2.2.1
    have hmk := kall m o3 o10 o6
    rcases ab_att h hL haN ha k (by omega) (by omega) (by omega) with ⟨k', b1, b2, b3, b4⟩ | ⟨z7, z6⟩
    · have := ab_nowm h (show k' ≤ k by omega) (by omega)
      exact ⟨k', b1, by omega, b3, b4, by omega⟩
    · -- at k there is a way
      have hDm := h.1 m o3
      have hnr : ab_zX Z m 6 ≤ ab_zD Z k 3 x y := by
        have := ab_hnr (u := ab_zu Z) (ac := ab_za Z) (s := x) (p := ab_zp Z m) (x := ab_zX Z m) (D := ab_zD Z m) (Or.inr o8) (by rw [o9]; exact hxy)
        refine Nat.le_trans ?_ (ab_nrm h (show m + 1 ≤ k by omega) (by omega))
        rw [hDm]
        unfold ab_zY
        rw [o6, ab_do1, o7]
        rw [o9] at this
        exact this
      have hy0 := ab_ownm (c := y) h (Nat.zero_le jT) (by omega)
      have hgk : ab_gw Z N k x y := ab_gwn h (by omega) hbt (by omega) (by omega) hnr
      have h8 : ab_zD Z k 1 x y ≠ 8 := by
        obtain ⟨g1, t, g2, g3⟩ := hgk
        rcases ab_nl hW hby.1 hby.2 k (by omega) x t hxy (by omega) g1 g2 g3 with z | ⟨_, b, hb1, hb2, hb3, _⟩
        · exact z
        · exfalso
          have hta := ab_bnl h hbt g2 hnr
          have hab : a < b := by
            by_cases e : a < b
            · exact e
            · have := ab_nowm h (show b ≤ a by omega) (by omega)
              omega
          have := ab_vsp h hL h0 hab (by omega) hb2 ha
          have := ab_nowm h (show b ≤ k by omega) (by omega)
          omega
      obtain ⟨g1, _⟩ := ab_gws hW (show k ≤ N by omega) hby (by omega) hgk h8
      refine ⟨k, by omega, hk, ?_, by omega, by omega⟩
      rcases ab_uc (u := ab_zu Z) (lv := ab_zl Z) (cf := ab_zc Z) (a := x) (b := y) (D := ab_zD Z k) with ⟨_, z⟩ | ⟨_, _, ⟨z, z2, z0, z1, yy⟩ | ⟨z, yy⟩⟩
      · exact absurd ⟨ha.2.2.1, Or.inl z7⟩ z
      · refine ⟨kk, ks, kp, h8, g1, ?_, z7⟩
        unfold ab_zO ab_zY
        rw [kk, ab_do2, ks, kp, yy.2]
        show ab_pt (ab_zn Z k) x (ab_zD Z k 1 x y) (ab_fr 3 x y (ab_zc Z x y) 0 8) = ab_pt (ab_w (ab_w (ab_w (ab_zD Z k) 9 x y z) 7 x y 1) 8 x y (ab_zD Z k 0 0 0) 0 0 0) x (ab_zD Z k 1 x y) (ab_fr 3 x y (ab_zc Z x y) 0 8)
        rw [ab_wf (by decide), ab_wf (by decide), ab_wf (by decide)]
      · rcases z with z | z
        · exact absurd ⟨h8, g1⟩ z
        · exact absurd z7 z.1
  obtain ⟨k, k1, k2, ⟨g1, g2, g3, g4, g5, g6, g7⟩, k4, k5⟩ := go
  have hgk : ab_gw Z N k x y := hg k k1 k2 k5 ⟨g1, g2, g3, g4, g5, g6, g7⟩
  obtain ⟨p, p1, p2, p3, p4, p5, p6, p7, p8, p9⟩ := ab_ride hW hby (by omega) r k x 8 k2 hdy r1 (Nat.le_refl _) (by omega) hgk g4 g6 (by omega)
  -- it is there: an answer is wanted
  have hac := hnp.1 p p2 p3 p5 (by rw [p7, p4])
  rw [p6, p8, p4] at hac
  have hac2 : ab_za Z x y = ab_zc Z x y + 1 := by
    rcases hnp.2.2 x y ha.2.2.1 with z | z
    · exact absurd z.symm hac
    · exact z
  have hjp : jT < p := by
    by_cases e : jT < p
    · exact e
    · have := ab_nowm h (show p ≤ jT by omega) (by omega)
      omega
  have hnr : ab_zD Z (a + 1) 4 x 0 ≤ ab_zD Z p 3 y x := Nat.le_trans o5 (ab_nrm h (by omega) (by omega))
  have hgp : ab_gw Z N p y x := ab_gwn h (by omega) hbq ht q2 hnr
  have hgp2 := hgp
  obtain ⟨w1, t, w2, w3⟩ := hgp2
  rcases ab_nl hW hbx.1 hbx.2 p (by omega) y t (fun e => hxy e.symm) (by omega) w1 w2 w3 with z | ⟨_, b, hb1, hb2, hb3, hb4⟩
  · exfalso
    obtain ⟨v1, _⟩ := ab_gws hW (show p ≤ N by omega) hbx (by omega) hgp z
    have ho : ab_zO Z p (ab_pt (ab_zn Z p) y (ab_zD Z p 1 y x) (ab_fr 4 y x (ab_za Z x y) 0 8)) := by
      unfold ab_zO ab_zY
      rw [p3, ab_do1, p4]
      have := ab_ano (u := ab_zu Z) (ac := ab_za Z) (s := y) (p := ab_zp Z p) (x := ab_zX Z p) (D := ab_zD Z p) p5 p7 (by rw [p6]; exact z) (by rw [p6]; exact v1)
      rw [p6] at this
      exact this
    obtain ⟨f, f1, f2, f3, f4, f5, f6, f7, f8, f9⟩ := ab_ride hW hbx (by omega) r p y 8 p2 hd r1 (Nat.le_refl _) (by omega) hgp z ho (by omega)
    have := hnp.2.1 f f2 f3 f5 (by rw [f7, f4])
    rw [f4, f6, f8] at this
    exact this hac2
  · have hta := ab_bnl h hbq w2 hnr
    have hbn := ab_nowm h (show b ≤ p by omega) (by omega)
    refine ⟨b, ?_, by omega, hb2, by omega, by omega, ?_⟩
    · by_cases e : a < b
      · exact e
      · have := ab_nowm h (show b ≤ a by omega) (by omega)
        omega
    · rw [hb4]; exact hnr
/-- TWO ATTEMPTS: contradiction -/
theorem ab_two {Z : ab_Z} {d : Nat → Nat → Nat} {N a x y r : Nat} (hW : ab_W Z d N) (h0 : ab_t0 Z N) (hnp : ab_np Z N) (hbx : ab_bal Z d x r) (hby : ab_bal Z d y r) (hd : d x y = r) (h7 : r ≤ 7) (haN : a < N) (ha : ab_ask Z a x y)
    (ht : ab_zn Z 0 + 58 ≤ ab_zn Z a) (hN : ab_zn Z a + 7 * r + 2 ≤ ab_zn Z N) (hg : ∀ k, a < k → k < N → ab_zn Z k ≤ ab_zn Z a + 2 * r → ab_go Z k x y → ab_gw Z N k x y) : False := by
  have h := hW.1
  obtain ⟨j, j1, j2, j3, j4, j5, j6⟩ := ab_try hW h0 hnp hbx hby hd h7 haN ha ht (by omega) hg
  have hask := ab_vask h hW.2.1 h0 j2 j3
  obtain ⟨q1, q2, q3⟩ := ab_qf h haN ha
  have hbq : ab_bn Z N x (ab_zD Z (a + 1) 4 x 0) (ab_zn Z a) := ⟨a, haN, rfl, by omega, Nat.le_refl _⟩
  have hgj : ab_gw Z N j y x := ab_gwn h (by omega) hbq ht q2 j6
  obtain ⟨k, k1, k2, k3, k4, k5, _⟩ := ab_try hW h0 hnp hby hbx (by rw [hW.2.2.1.2.2.1]; exact hd) h7 j2 hask (by omega) (by omega) (fun k k1 k2 _ _ => ab_gwm h hgj (by omega) (ab_nrm h (by omega) (by omega)))
  have := ab_vsp h hW.2.1 h0 (show a < k by omega) k2 k3 ha
  omega
