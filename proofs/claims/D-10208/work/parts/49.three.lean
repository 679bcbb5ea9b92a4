theorem ax_inj9 {g : Nat → Nat} {p c o : Nat} (hgg : ∀ a b, a < 6 → b < 6 → g a = g b → a = b) (hgp : ∀ a, a < 6 → g a ≠ p) (hgc : ∀ a, a < 6 → g a ≠ c) (hgo : ∀ a, a < 6 → g a ≠ o) (hpc : p ≠ c) (hpo : p ≠ o) (hco : c ≠ o) :
    ∀ i j, i < 9 → j < 9 → (fun a => if a < 6 then g a else if a = 6 then p else if a = 7 then c else o) i = (fun a => if a < 6 then g a else if a = 6 then p else if a = 7 then c else o) j → i = j := by
  intro i j hi hj
  show (if i < 6 then g i else if i = 6 then p else if i = 7 then c else o) = (if j < 6 then g j else if j = 6 then p else if j = 7 then c else o) → i = j
  intro z
  have cases : ∀ a, a < 9 → (a < 6 ∧ (if a < 6 then g a else if a = 6 then p else if a = 7 then c else o) = g a) ∨ (a = 6 ∧ (if a < 6 then g a else if a = 6 then p else if a = 7 then c else o) = p) ∨ (a = 7 ∧ (if a < 6 then g a else if a = 6 then p else if a = 7 then c else o) = c) ∨ (a = 8 ∧ (if a < 6 then g a else if a = 6 then p else if a = 7 then c else o) = o) := by
    intro a ha
    by_cases e : a < 6
    · exact Or.inl ⟨e, if_pos e⟩
    · by_cases e6 : a = 6
      · exact Or.inr (Or.inl ⟨e6, by rw [if_neg e, if_pos e6]⟩)
      · by_cases e7 : a = 7
        · exact Or.inr (Or.inr (Or.inl ⟨e7, by rw [if_neg e, if_neg e6, if_pos e7]⟩))
        · exact Or.inr (Or.inr (Or.inr ⟨by omega, by rw [if_neg e, if_neg e6, if_neg e7]⟩))
  rcases cases i hi with ⟨a1, a2⟩ | ⟨a1, a2⟩ | ⟨a1, a2⟩ | ⟨a1, a2⟩ <;> rcases cases j hj with ⟨b1, b2⟩ | ⟨b1, b2⟩ | ⟨b1, b2⟩ | ⟨b1, b2⟩ <;> rw [a2, b2] at z
  · exact hgg i j a1 b1 z
  · exact absurd z (hgp i a1)
  · exact absurd z (hgc i a1)
  · exact absurd z (hgo i a1)
  · exact absurd z.symm (hgp j b1)
  · omega
  · exact absurd z hpc
  · exact absurd z hpo
  · exact absurd z.symm (hgc j b1)
  · exact absurd z.symm hpc
  · omega
  · exact absurd z hco
  · exact absurd z.symm (hgo j b1)
  · exact absurd z.symm hpo
  · exact absurd z.symm hco
  · omega
/-- the same, when one station o is never the next: at most 6 links -/
theorem ax_r1e {Z : ab_Z} {d : Nat → Nat → Nat} {N c n k f nn l m E o : Nat} (hW : ax_W Z d N) (hc8 : c < 8) (ho8 : o < 8) (hoc : o ≠ c) (hn0 : ab_zD Z 0 4 c 0 < n) (hnm : n ≤ m) (hk : 3 ≤ k) (hnv : ∀ j q, j < N → ab_zn Z j ≤ E → ab_vv Z j q c → ab_zD Z j 3 q c < n)
    (htop : ∀ j v, j ≤ N → ab_zn Z j ≤ E → v ≠ c → ab_zD Z j 3 v c ≤ m) (hex : ∀ j v, j ≤ N → ab_zn Z j ≤ E → v ≠ c → ab_zD Z j 3 v c = m → ab_zD Z j 1 v c ≠ o) : ∀ q s i p (g : Nat → Nat), i < N → p ≠ c → p ≠ o → p < 8 → ab_zD Z i 3 p c = m →
    (∀ a, a < s → g a < 8 ∧ g a ≠ c ∧ g a ≠ o ∧ ab_zD Z i 3 (g a) c = m ∧ ab_zD Z i 2 p c < ab_zD Z i 2 (g a) c) → (∀ a b, a < b → b < s → ab_zD Z i 2 (g b) c < ab_zD Z i 2 (g a) c) → 6 ≤ q + s →
    ab_zO Z i (ab_pt (ab_zn Z i) p (ab_zD Z i 1 p c) (ab_fr k f c nn l q)) → ab_zn Z i + q + 2 ≤ ab_zn Z N → ab_zn Z i + q ≤ E →
    ∃ m', i < m' ∧ m' < N ∧ ab_zK Z m' = 1 ∧ ab_zs Z m' = c ∧ ab_zX Z m' 3 = k ∧ ab_zX Z m' 4 = f ∧ ab_zX Z m' 5 = c ∧ ab_zX Z m' 6 = nn ∧ ab_zn Z m' ≤ ab_zn Z i + q + 1 := by
  have h := hW.1
  intro q
  induction q with
  | zero =>
    intro s i p g hi hp hpo hp8 hm hg hgm hq ho hN hE
    exfalso
    have hs : 6 ≤ s := by omega
    have := ab_inj 8 9 (fun a => if a < 6 then g a else if a = 6 then p else if a = 7 then c else o) (fun a ha => by
      show (if a < 6 then g a else if a = 6 then p else if a = 7 then c else o) < 8
      split
      · exact (hg a (by omega)).1
      · split
        · exact hp8
        · split
          · exact hc8
          · exact ho8) (ax_inj9 (fun a b ha hb => by
      rcases Nat.lt_trichotomy a b with y | y | y
      · intro z; have := hgm a b y (by omega); rw [z] at this; omega
      · intro _; exact y
      · intro z; have := hgm b a y (by omega); rw [z] at this; omega) (fun a ha z => by
        have := (hg a (by omega)).2.2.2.2
        rw [z] at this
        omega) (fun a ha => (hg a (by omega)).2.1) (fun a ha => (hg a (by omega)).2.2.1) hp hpo (fun z => hoc z.symm))
    omega
  | succ q ih =>
    intro s i p g hi hp hpo hp8 hm hg hgm hq ho hN hE
    have hnvi : ∀ j, j ≤ N → ab_zn Z j ≤ E → ax_nv Z c n j := by
      intro j hj hjE a b ha hv
      have := ab_nowm h (show a ≤ j by omega) hj
      exact hnv a b (by omega) (by omega) hv
    have hEi : ab_zn Z i ≤ E := by omega
    have h8 := ax_pres h hn0 i (by omega) (hnvi i (by omega) hEi) p hp (by omega)
    obtain ⟨_, _, _, _, _, _, _, hpn⟩ := ab_wcI h i (by omega) p c (by omega)
    obtain ⟨p1, _, _⟩ := hpn h8
    obtain ⟨m1, hm1, hmN, k1, kx, kn, ks, kp⟩ := hW.2.1.1 i _ hi ho (by show ab_zn Z i + 2 ≤ _; omega)
    have kn' : ab_zn Z m1 = ab_zn Z i + 1 := kn
    have ks' : ab_zs Z m1 = ab_zD Z i 1 p c := ks
    by_cases hc : ab_zD Z i 1 p c = c
    · refine ⟨m1, hm1, hmN, k1, by rw [ks', hc], by rw [kx]; rfl, by rw [kx]; rfl, by rw [kx]; rfl, by rw [kx]; rfl, by omega⟩
    · have hE1 : ab_zn Z m1 ≤ E := by omega
      have hch := ax_ch h hn0 i (by omega) (hnvi i (by omega) hEi) p hp (by omega)
      have ht := htop i (ab_zD Z i 1 p c) (by omega) hEi hc
      have hch2 : ab_zD Z i 3 (ab_zD Z i 1 p c) c = m ∧ ab_zD Z i 2 (ab_zD Z i 1 p c) c < ab_zD Z i 2 p c := by
        rcases hch with z | z | z
        · exact absurd z hc
        · omega
        · exact ⟨by omega, z.2⟩
      have keep : ∀ w, w ≠ c → ab_zD Z i 3 w c = m → ab_zD Z m1 3 w c = m ∧ ab_zD Z m1 2 w c = ab_zD Z i 2 w c := by
        intro w hw hwm
        have a1 := ab_nrm (v := w) (c := c) h (show i ≤ m1 by omega) (by omega)
        have a2 := htop m1 w (by omega) hE1 hw
        have a3 : ab_zD Z m1 3 w c = ab_zD Z i 3 w c := by omega
        exact ⟨by omega, ax_cst h hn0 hw (by omega) m1 (by omega) (by omega) (hnvi m1 (by omega) hE1) a3⟩
      obtain ⟨n1, n2⟩ := keep _ hc hch2.1
      obtain ⟨n3, n4⟩ := keep p hp hm
      have h82 := ax_pres h hn0 m1 (by omega) (hnvi m1 (by omega) hE1) _ hc (by omega)
      obtain ⟨_, _, _, _, _, _, _, hpn2⟩ := ab_wcI h m1 (by omega) (ab_zD Z i 1 p c) c (by omega)
      obtain ⟨b1, _, _⟩ := hpn2 h82
      have hp28 : ab_zD Z i 1 p c < 8 := (h.2.1 _ _ p1).2.2.1
      have hno : ab_zD Z i 1 p c ≠ o := hex i p (by omega) hEi hp hm
      have hg' : ∀ a, a < s + 1 → (if a < s then g a else p) < 8 ∧ (if a < s then g a else p) ≠ c ∧ (if a < s then g a else p) ≠ o ∧ ab_zD Z m1 3 (if a < s then g a else p) c = m ∧ ab_zD Z m1 2 (ab_zD Z i 1 p c) c < ab_zD Z m1 2 (if a < s then g a else p) c := by
        intro a ha
        by_cases e : a < s
        · rw [if_pos e]
          obtain ⟨x1, x2, xo, x3, x4⟩ := hg a e
          obtain ⟨x5, x6⟩ := keep _ x2 x3
          exact ⟨x1, x2, xo, x5, by omega⟩
        · rw [if_neg e]
          exact ⟨hp8, hp, hpo, n3, by omega⟩
      have hgm' : ∀ a b, a < b → b < s + 1 → ab_zD Z m1 2 (if b < s then g b else p) c < ab_zD Z m1 2 (if a < s then g a else p) c := by
        intro a b hab hb
        have ea : a < s := by omega
        rw [if_pos ea]
        obtain ⟨x1, x2, xo, x3, x4⟩ := hg a ea
        obtain ⟨x5, x6⟩ := keep _ x2 x3
        by_cases e : b < s
        · rw [if_pos e]
          obtain ⟨y1, y2, yo, y3, y4⟩ := hg b e
          obtain ⟨y5, y6⟩ := keep _ y2 y3
          have := hgm a b hab e
          omega
        · rw [if_neg e]
          omega
      have life : 1 < q + 1 := by
        rcases Nat.eq_zero_or_pos q with e | e
        · exfalso
          have hs : 5 ≤ s := by omega
          have := ab_inj 8 9 (fun a => if a < 6 then (if a < s then g a else p) else if a = 6 then ab_zD Z i 1 p c else if a = 7 then c else o) (fun a ha => by
            show (if a < 6 then (if a < s then g a else p) else if a = 6 then ab_zD Z i 1 p c else if a = 7 then c else o) < 8
            split
            · exact (hg' a (by omega)).1
            · split
              · exact hp28
              · split
                · exact hc8
                · exact ho8) (ax_inj9 (fun a b ha hb => by
            rcases Nat.lt_trichotomy a b with y | y | y
            · intro z; have := hgm' a b y (by omega); rw [z] at this; omega
            · intro _; exact y
            · intro z; have := hgm' b a y (by omega); rw [z] at this; omega) (fun a ha z => by
              have := (hg' a (by omega)).2.2.2.2
              rw [z] at this
              omega) (fun a ha => (hg' a (by omega)).2.1) (fun a ha => (hg' a (by omega)).2.2.1) hc hno (fun z => hoc z.symm))
          omega
        · omega
      have ho2 : ab_zO Z m1 (ab_pt (ab_zn Z m1) (ab_zD Z i 1 p c) (ab_zD Z m1 1 (ab_zD Z i 1 p c) c) (ab_fr k f c nn l (q + 1 - 1))) := by
        unfold ab_zO ab_zY
        rw [k1, ab_do1, ks', kx]
        exact ab_cyo (x := ab_pt (ab_zn Z i) p (ab_zD Z i 1 p c) (ab_fr k f c nn l (q + 1))) (s := ab_zD Z i 1 p c) hk (fun z => hc z.symm) life h82 b1
      obtain ⟨m2, c1, c2, c3, c4, c5, c6, c7, c8, c9⟩ := ih (s + 1) m1 (ab_zD Z i 1 p c) (fun a => if a < s then g a else p) hmN hc hno hp28 n1 hg' hgm' (by omega) ho2 (by omega) (by omega)
      exact ⟨m2, by omega, c2, c3, c4, c5, c6, c7, c8, by omega⟩
/-- x nobody's goal, y its nearest goal, at distance 1, 2 or 3, nobody's source and the goal of x and of z alone, z nobody's goal and not nearer to y: the second try gets through -/
theorem ax_In3 {Z : ab_Z} {d : Nat → Nat → Nat} {N a x y z r : Nat} (hW : ax_W Z d N) (h0 : ab_t0 Z N) (hnp : ab_np Z N) (hd : d x y = r) (hr3 : r ≤ 3) (hg : ∀ g, ab_zl Z x g → r ≤ d x g) (haN : a < N) (ha : ab_ask Z a x y) (ht : ab_zn Z 0 + 20 ≤ ab_zn Z a)
    (hN : ab_zn Z a + 75 ≤ ab_zn Z N) (hx : ∀ q, ¬ ab_zl Z q x) (hy : ∀ q, ¬ ab_zl Z y q) (hz : ∀ q, ab_zl Z q y → q = x ∨ q = z) (hz8 : z < 8) (hzny : z ≠ y) (hznx : z ≠ x) (hzd : r ≤ d z y) (hzp : ∀ q, ¬ ab_zl Z q z) : False := by
  have hW' := hW
  obtain ⟨h, hL, hG, hl8, hq⟩ := hW'
  have hl : ∀ a b, ab_zl Z a b → a ≠ b := fun a b z => (hl8 a b z).1
  obtain ⟨hxy, x8, y8⟩ := hl8 _ _ ha.2.2.1
  obtain ⟨q1, q2, q3⟩ := ab_qf h haN ha
  have r1 : 1 ≤ r := by rw [← hd]; exact ax_d1 hW hxy
  have hEx : ax_E Z d N x r (ab_zD Z (a + 1) 4 x 0) (ab_zn Z a + 55) := by
    refine ax_q hW q2 hg (fun j z a' hj hjn hje htb => hx z htb.2.1.2.2.1) (fun m t hm hb => ?_)
    have := ax_bge h (show a ≤ N by omega) (show ab_zD Z a 4 x 0 < m by omega) hb
    omega
  have hsx : ∀ z, ab_zl Z z x → r ≤ d x z := fun z hz => absurd hz (hx z)
  obtain ⟨jT, m, o1, o2, o3, o4, o5, o6, o7, o8, o9, o10, o13, o14, o11, o12⟩ := ax_qt5 hW h0 hEx hsx hd (by omega) haN ha (by omega) (by omega)
  have hbt : ab_bn Z N y (ab_zX Z m 6) (ab_zn Z a + r) := ⟨jT, by omega, o4, by omega, by omega⟩
  generalize hT : ab_zX Z m 6 = nT at *
  have hy0 := ab_ownm (c := y) h (Nat.zero_le jT) (by omega)
  have hT0 : ab_zD Z 0 4 y 0 < nT := by omega
  have cls : ∀ i v, i ≤ N → nT ≤ ab_zD Z i 3 v y → _ := fun i v hi hn => ax_cls hW hy hi hT0 hn hbt (by omega)
  -- a TELL to x among them is straight
  have tx : ∀ j1 a1 rr w, j1 < N → rr < N → ab_tb Z d j1 a1 y x → ab_zn Z a + r ≤ ab_zn Z j1 → ab_zn Z j1 ≤ ab_zn Z a + 50 → ab_zO Z rr w → w 3 = 1 → ab_rc Z w → ab_bth Z j1 w → w 4 = y → w 5 = x → w 7 + d x (w 1) = r ∧ d x (w 2) + 1 = d x (w 1) := by
    intro j1 a1 rr w h1 h2 h3 h4 h5 h6 h7 h8 h9 h10 h11
    have jd := h3.2.2.2.2.2.2.2.2.1
    rw [hd] at jd
    have a1N : a1 < N := by have := h3.1; omega
    have ha1 : a ≤ a1 := by
      by_cases e : a ≤ a1
      · exact e
      · have := ab_sp h (show a1 < a by omega) haN h3.2.1 ha
        omega
    have hE1 : ax_E Z d N x r (ab_zD Z (a1 + 1) 4 x 0) (ab_zn Z a + 55) := by
      have mo := ab_ownm (c := x) h (show a + 1 ≤ a1 + 1 by omega) (by omega)
      exact ⟨by omega, fun i hi hie v hv hvr hvn => hEx.2 i hi hie v hv hvr (by omega)⟩
    exact ax_Tx hW h1 h3 hE1 hd (by omega) rr h2 w h6 h7 h8 h9 h10 h11
  have born : ∀ i b rr j1, i ≤ N → b < i → rr < b → j1 < N → ab_zO Z rr (ab_zX Z b) → ab_zX Z b 3 = 1 → ab_bth Z j1 (ab_zX Z b) → ab_zX Z b 4 = y → nT ≤ ab_zX Z b 6 → j1 ≤ rr ∧ ab_zn Z j1 ≤ ab_zn Z i := by
    intro i b rr j1 hi hb hrr hj1 ho h3 hb4 h4 h6
    have : j1 ≤ rr := by
      by_cases e : j1 ≤ rr
      · exact e
      · exfalso
        obtain ⟨_, _, _, _, _, cc⟩ := ab_fcI h rr (by omega) _ ho (by omega) (by rw [h4]; omega)
        rw [h4] at cc
        have := ab_ownm (c := y) h (show rr + 1 ≤ j1 by omega) (by omega)
        have := hb4.2.2.1
        rw [h4] at this
        omega
    exact ⟨this, ab_nowm h (by omega) (by omega)⟩
  have nvY : ∀ jj q, jj < N → ab_zn Z jj ≤ ab_zn Z a + 44 → ab_vv Z jj q y → ab_zD Z jj 3 q y < nT := by
    intro jj q hjj hjt hv
    by_cases e : ab_zD Z jj 3 q y < nT
    · exact e
    · exfalso
      by_cases hjn : jj ≤ a
      · have s1 := (ab_san h jj (by omega)).1 q y
        have s2 := ab_ownm (c := y) h (show jj ≤ jT by omega) (by omega)
        omega
      · by_cases hqx : q = x
        · rw [hqx] at hv
          have := ab_vsp h hL h0 (show a < jj by omega) hjj hv ha
          omega
        · have e1 : q = z := by
            rcases hz q hv.2.2.2.2 with y' | y'
            · exact absurd y' hqx
            · exact y'
          obtain ⟨b, rr, j1, a1, z1, c1, c2, c3, c4, c5, c6, c7, c8, c9, c10, c11, c12, c13, c14, c15, c16, c17, c18⟩ := cls jj q (by omega) (by omega)
          obtain ⟨jb, jn⟩ := born jj b rr j1 (by omega) c1 c2 c3 c6 c7 c9 c10 (by omega)
          have jd := c12.2.2.2.2.2.2.2.2.1
          have d7 := c12.2.2.2.2.2.2.2.2.2.1
          rcases hz z1 c12.2.1.2.2.1 with e2 | e2
          · rw [e2] at c12
            obtain ⟨X1, X2⟩ := tx j1 a1 rr _ c3 (by omega) c12 c14 (by omega) c6 c7 c8 c9 c10 (by rw [c11, e2])
            rw [c15] at X2
            have dzx : 1 ≤ d x q := ax_d1 hW (fun y' => hqx y'.symm)
            obtain ⟨_, _, _, dd, _, _⟩ := ab_fcI h rr (by omega) _ c6 (by omega) (by rw [c10]; omega)
            rw [c10] at dd
            have hu2 := (ab_d1 c6 (by omega)).2.2.1
            have e1' := (ab_d1 c6 (by omega)).2.1
            rw [← e1', c15] at hu2
            have lip := hG.2.1 y _ _ hu2
            have sy := hG.2.2.1 q y
            have hzy' := hzd
            rw [← e1] at hzy'
            omega
          · rw [e2] at c12 jd d7
            rw [e1] at hv
            have a1j := c12.1
            have := ab_vsp h hL h0 (show a1 < jj by omega) hjj hv c12.2.1
            omega
  have nvx : ∀ i, i ≤ N → ab_zn Z i ≤ ab_zn Z a + 44 → ax_nv Z y nT i := by
    intro i hi hin jj q hjj hv
    have := ab_nowm h (show jj ≤ i by omega) hi
    exact nvY jj q (by omega) (by omega) hv
  have xn : ∀ i, m < i → i ≤ N → nT ≤ ab_zD Z i 3 x y := by
    intro i hmi hi
    have := ab_hnr (u := ab_zu Z) (ac := ab_za Z) (s := x) (p := ab_zp Z m) (x := ab_zX Z m) (D := ab_zD Z m) (Or.inr o8) (by rw [o9]; exact hxy)
    refine Nat.le_trans ?_ (ab_nrm h (show m + 1 ≤ i by omega) (by omega))
    rw [h.1 m o3, ← hT]
    unfold ab_zY
    rw [o6, ab_do1, o7]
    rw [o9] at this
    exact this
  have pres : ∀ i v, i ≤ N → ab_zn Z i ≤ ab_zn Z a + 44 → v ≠ y → nT ≤ ab_zD Z i 3 v y → ab_hw (ab_zu Z) v y (ab_zD Z i) := by
    intro i v hi hin hv hn
    have h8 := ax_pres h hT0 i hi (nvx i hi hin) v hv hn
    obtain ⟨_, _, _, _, _, _, _, hpp⟩ := ab_wcI h i hi v y (by omega)
    exact ⟨h8, (hpp h8).1⟩
  have hn0 := ab_nowm h (Nat.zero_le a) (by omega)
  -- the first piece
  have first : ∃ k, a < k ∧ k < N ∧ ab_go Z k x y ∧ ab_zn Z a < ab_zn Z k ∧ ab_zn Z k ≤ ab_zn Z a + 2 * r := by
    obtain ⟨u, hu, un, uk, us, up, uall⟩ := hL.2.1 (ab_zn Z m) x y (by omega) (by omega) ha.2.2.1
    have hmu := uall m o3 rfl o6
    have hau : a < u := by omega
    obtain ⟨h8, g1⟩ := pres u x (by omega) (by omega) hxy (xn u hmu (by omega))
    rcases ab_att h hL haN ha u (by omega) (by omega) (by omega) with ⟨k', b1, b2, b3, b4⟩ | ⟨z7, z6⟩
    · have := ab_nowm h (show k' ≤ u by omega) (by omega)
      exact ⟨k', b1, by omega, b3, b4, by omega⟩
    · refine ⟨u, hau, hu, ?_, by omega, by omega⟩
      rcases ab_uc (u := ab_zu Z) (lv := ab_zl Z) (cf := ab_zc Z) (a := x) (b := y) (D := ab_zD Z u) with ⟨_, q⟩ | ⟨_, _, ⟨q, q2, q0, q1, yy⟩ | ⟨q, yy⟩⟩
      · exact absurd ⟨ha.2.2.1, Or.inl z7⟩ q
      · refine ⟨uk, us, up, h8, g1, ?_, z7⟩
        unfold ab_zO ab_zY
        rw [uk, ab_do2, us, up, yy.2]
        show ab_pt (ab_zn Z u) x (ab_zD Z u 1 x y) (ab_fr 3 x y (ab_zc Z x y) 0 8) = ab_pt (ab_w (ab_w (ab_w (ab_zD Z u) 9 x y q) 7 x y 1) 8 x y (ab_zD Z u 0 0 0) 0 0 0) x (ab_zD Z u 1 x y) (ab_fr 3 x y (ab_zc Z x y) 0 8)
        rw [ab_wf (by decide), ab_wf (by decide), ab_wf (by decide)]
      · rcases q with q | q
        · exact absurd ⟨h8, g1⟩ q
        · exact absurd z7 q.1
  obtain ⟨k, k1, k2, hgo, k3, k4⟩ := first
  have w0 : ax_wt Z (k + 1) x y (ab_zn Z k) 0 := ax_t0 h k2 hgo
  obtain ⟨u, hu, un, uk, us, up, _⟩ := hL.2.1 (ab_zn Z k + 26) x y (by omega) (by omega) ha.2.2.1
  have hku : k < u := by
    by_cases e : k < u
    · exact e
    · have := ab_nowm h (show u ≤ k by omega) (by omega)
      omega
  have after : ∀ i, i ≤ N → ab_zn Z k + 26 ≤ ab_zn Z i → m < i := by
    intro i hi hin
    by_cases e : m < i
    · exact e
    · have := ab_nowm h (show i ≤ m by omega) (by omega)
      omega
  have wu : ax_wt Z u x y (ab_zn Z k) 0 := ax_wt1 h w0 u (by omega) (by omega) (fun j j1 j2 j3 j4 j5 => by
    have h1 := ab_nowm h (show j ≤ u by omega) (by omega)
    by_cases e : ab_zn Z j = ab_zn Z k + 26
    · have := hL.2.2 j u (by omega) hu j3 uk (by omega) (by rw [j4, us]) (by rw [j5, up])
      omega
    · omega)
  have hnu := xn u (after u (by omega) (by omega)) (by omega)
  obtain ⟨h8, g1⟩ := pres u x (by omega) (by omega) hxy hnu
  have ho : ab_zO Z u (ab_pt (ab_zn Z u) x (ab_zD Z u 1 x y) (ab_fr 3 x y (ab_zc Z x y) 0 8)) := by
    rcases ab_uc (u := ab_zu Z) (lv := ab_zl Z) (cf := ab_zc Z) (a := x) (b := y) (D := ab_zD Z u) with ⟨_, q⟩ | ⟨_, _, ⟨q, q2, q0, q1, yy⟩ | ⟨q, yy⟩⟩
    · exfalso
      refine q ⟨ha.2.2.1, Or.inr ?_⟩
      rw [wu.2.1]
      show ab_zn Z k + 26 ≤ ab_zn Z u
      omega
    · unfold ab_zO ab_zY
      rw [uk, ab_do2, us, up, yy.2]
      show ab_pt (ab_zn Z u) x (ab_zD Z u 1 x y) (ab_fr 3 x y (ab_zc Z x y) 0 8) = ab_pt (ab_w (ab_w (ab_w (ab_zD Z u) 9 x y q) 7 x y 1) 8 x y (ab_zD Z u 0 0 0) 0 0 0) x (ab_zD Z u 1 x y) (ab_fr 3 x y (ab_zc Z x y) 0 8)
      rw [ab_wf (by decide), ab_wf (by decide), ab_wf (by decide)]
    · exfalso
      rcases q with q | ⟨_, q⟩
      · exact q ⟨h8, g1⟩
      · rw [wu.2.2] at q
        omega
  -- a TELL to z among the numbers is the newest one
  have top : ∀ i v b rr j1 a1, i ≤ N → ab_zn Z i ≤ ab_zn Z a + 42 → b < i → rr < b → j1 < N → ab_zO Z rr (ab_zX Z b) → ab_zX Z b 3 = 1 → ab_rc Z (ab_zX Z b) → ab_bth Z j1 (ab_zX Z b) → ab_zX Z b 4 = y → ab_zX Z b 5 = z → ab_tb Z d j1 a1 y z → ab_zX Z b 6 = ab_zD Z i 3 v y → ab_zn Z a + r ≤ ab_zn Z j1 → nT ≤ ab_zD Z i 3 v y →
      ∀ jj v', jj ≤ N → ab_zn Z jj ≤ ab_zn Z a + 42 → v' ≠ y → ab_zD Z jj 3 v' y ≤ ab_zD Z i 3 v y := by
    intro i v b rr j1 a1 hi hin c1 c2 c3 c6 c7 c8 c9 c10 c11 c12 c13 c14 hnv jj v' hjj hje hv'
    by_cases e : ab_zD Z jj 3 v' y ≤ ab_zD Z i 3 v y
    · exact e
    · exfalso
      have jd := c12.2.2.2.2.2.2.2.2.1
      have d7 := c12.2.2.2.2.2.2.2.2.2.1
      obtain ⟨b', r', j3, a3, z3, e1, e2, e3, e4, e5, e6, e7, e8, e9, e10, e11, e12, e13, e14, e15, e16, e17, e18⟩ := cls jj v' hjj (by omega)
      obtain ⟨_, j3n⟩ := born jj b' r' j3 hjj e1 e2 e3 e6 e7 e9 e10 (by omega)
      have jd3 := e12.2.2.2.2.2.2.2.2.1
      have num1 : ab_zD Z (j1 + 1) 4 y 0 = ab_zD Z i 3 v y := by
        have := c9.2.2.2.1
        rw [c10] at this
        rw [this, c13]
      have num3 : ab_zD Z (j3 + 1) 4 y 0 = ab_zD Z jj 3 v' y := by
        have := e9.2.2.2.1
        rw [e10] at this
        rw [this, e13]
      have j13 : j1 < j3 := by
        by_cases q : j1 < j3
        · exact q
        · exfalso
          have := ab_ownm (c := y) h (show j3 + 1 ≤ j1 + 1 by omega) (by omega)
          omega
      have jTn : ab_zD Z (jT + 1) 4 y 0 = nT := o12
      rcases hz z3 e12.2.1.2.2.1 with f2 | f2
      · rw [f2, hd] at jd3
        rw [f2] at e12
        have a3N : a3 < N := by have := e12.1; omega
        rcases Nat.lt_trichotomy a3 a with q | q | q
        · have := ab_sp h q haN e12.2.1 ha
          omega
        · have : j3 = jT := ab_tone h e3 (by omega) e12 o14 (by rw [q] at jd3; omega) (by rw [q] at jd3; omega)
          rw [this] at num3
          omega
        · have k3' : k < a3 := by
            by_cases y' : k < a3
            · exact y'
            · exfalso
              have := ab_sp h q a3N ha e12.2.1
              have := ab_nowm h (show a3 ≤ k by omega) (by omega)
              omega
          have := ax_n52 h hL ha.2.2.1 k2 hgo k3' a3N e12.2.1 (by omega) (fun i hi hin => pres i x (by omega) (by omega) hxy (xn i (after i (by omega) (by omega)) (by omega)))
          omega
      · rw [f2] at e12 jd3
        have a3N : a3 < N := by have := e12.1; omega
        have hzne := (hl8 _ _ e12.2.1.2.2.1).1
        have d1 : 1 ≤ d z y := ax_d1 hW hzne
        have a13 : a1 < a3 := by
          rcases Nat.lt_trichotomy a1 a3 with q | q | q
          · exact q
          · exfalso
            have : j1 = j3 := ab_tone h c3 e3 c12 e12 (by rw [q] at jd; omega) (by rw [q] at jd; omega)
            omega
          · exfalso
            have := ab_sp h q (by have := c12.1; omega) e12.2.1 c12.2.1
            have := ab_nowm h (show j1 ≤ j3 by omega) (by omega)
            omega
        have sp := ab_sp h a13 a3N c12.2.1 e12.2.1
        obtain ⟨kz, mz, z1', z2', z3', z4', z5', z6', z7', z8'⟩ := ax_gz (w := ab_zX Z b) hW h0 hzp c3 c12 (by omega) (show rr < N by omega) c6 c7 c8 c9 c10 c11 (by
          have := ax_lifeT hW hzp c3 c12 (by omega) rr (by omega) _ c6 c7 c8 c9 c10 c11
          omega) (by omega) (fun jj' q hjj' hjt hv => by
          have := nvY jj' q hjj' (by omega) hv
          omega)
        have ka3 : kz < a3 := by
          by_cases y' : kz < a3
          · exact y'
          · have := ab_nowm h (show a3 ≤ kz by omega) (by omega)
            omega
        have n26 := ax_n26 h z2' z3' ka3 a3N e12.2.1
        have n52 := ax_n52 h hL c12.2.1.2.2.1 z2' z3' ka3 a3N e12.2.1 (by omega) (fun i' hi' hin' => by
          have hmi : mz < i' := by
            by_cases e : mz < i'
            · exact e
            · have := ab_nowm h (show i' ≤ mz by omega) (by omega)
              omega
          have hni : ab_zD Z i 3 v y ≤ ab_zD Z i' 3 z y := by
            rw [c13] at z8'
            exact Nat.le_trans z8' (ab_nrm h (by omega) (by omega))
          exact pres i' z (by omega) (by omega) hzne (by omega))
        omega
  have nvE : ∀ jj q, jj < N → ab_zn Z jj ≤ ab_zn Z a + 42 → ab_vv Z jj q y → ab_zD Z jj 3 q y < nT := fun jj q hjj hje hv => nvY jj q hjj (by omega) hv
  -- a TELL to z is never sent by z
  have nz : ∀ (jj v b rr j1 a1 : Nat), jj ≤ N → b < jj → rr < b → j1 < N → ab_zO Z rr (ab_zX Z b) → ab_zX Z b 3 = 1 → ab_rc Z (ab_zX Z b) → ab_bth Z j1 (ab_zX Z b) → ab_zX Z b 4 = y → ab_zX Z b 5 = z → ab_tb Z d j1 a1 y z → ab_zX Z b 1 ≠ z := by
    intro jj v b rr j1 a1 h1 h2 h3 h4 h5 h6 h7 h8 h9 h10 h11
    exact (ab_tnr h hl h4 h11 rr (by omega) _ h5 h6 h7 h8 h9 h10).2.2.1
  -- it arrives: from a station i links away from x, on the way of T or of the newest TELL to z
  have go : ∀ e i s v, i + e = 3 → i ≤ r → s < N → v ≠ y → v ≠ z → v < 8 → ab_zn Z s = ab_zn Z u + i → d x v = i → d y v + i ≤ r → nT ≤ ab_zD Z s 3 v y → ab_zO Z s (ab_pt (ab_zn Z s) v (ab_zD Z s 1 v y) (ab_fr 3 x y (ab_zc Z x y) 0 (8 - i))) →
      ∃ p, s < p ∧ p < N ∧ ab_zK Z p = 1 ∧ ab_zs Z p = y ∧ ab_zX Z p 3 = 3 ∧ ab_zX Z p 4 = x ∧ ab_zX Z p 5 = y ∧ ab_zX Z p 6 = ab_zc Z x y ∧ ab_zn Z p ≤ ab_zn Z u + 9 := by
    intro e
    induction e with
    | zero =>
      intro i s v hie hir hs hvy hvz hv8 hsn hdx hdy hn ho'
      -- i = 3 = r: v would be y
      exact absurd (hG.2.2.2.1 _ _ (show d y v = 0 by omega)).symm hvy
    | succ e ih =>
      intro i s v hie hir hs hvy hvz hv8 hsn hdx hdy hn ho'
      obtain ⟨h8v, guv⟩ := pres s v (by omega) (by omega) hvy hn
      by_cases hdir : ab_zD Z s 1 v y = y
      · rw [hdir] at ho'
        obtain ⟨p, pk, pN, p1, px, pn, ps, pp⟩ := hL.1 s _ hs ho' (by show ab_zn Z s + 2 ≤ _; omega)
        have pn' : ab_zn Z p = ab_zn Z s + 1 := pn
        exact ⟨p, pk, pN, p1, by rw [ps]; rfl, by rw [px]; rfl, by rw [px]; rfl, by rw [px]; rfl, by rw [px]; rfl, by omega⟩
      · obtain ⟨b, rr, j1, a1, z1, c1, c2, c3, c4, c5, c6, c7, c8, c9, c10, c11, c12, c13, c14, c15, c16, c17, c18⟩ := cls s v (by omega) hn
        obtain ⟨jb, jn⟩ := born s b rr j1 (by omega) c1 c2 c3 c6 c7 c9 c10 (by omega)
        rcases hz z1 c12.2.1.2.2.1 with e2 | e2
        · rw [e2] at c12
          obtain ⟨X1, X2⟩ := tx j1 a1 rr _ c3 (by omega) c12 c14 (by omega) c6 c7 c8 c9 c10 (by rw [c11, e2])
          rw [c15, hdx] at X2
          obtain ⟨_, _, _, dd, _, _⟩ := ab_fcI h rr (by omega) _ c6 (by omega) (by rw [c10]; omega)
          rw [c10] at dd
          have hp1 : ab_zD Z s 1 v y = ab_zX Z b 1 := by
            rcases c17 with q | q
            · exact absurd q h8v
            · rw [q, c16]
          have dnx : d x (ab_zD Z s 1 v y) = i + 1 := by rw [hp1]; omega
          have dny : d y (ab_zD Z s 1 v y) + i + 1 ≤ r := by rw [hp1]; omega
          obtain ⟨m1, hm1, hmN, km1, kx, kn, ks, kp⟩ := hL.1 s _ hs ho' (by show ab_zn Z s + 2 ≤ _; omega)
          have kn' : ab_zn Z m1 = ab_zn Z s + 1 := kn
          have ks' : ab_zs Z m1 = ab_zD Z s 1 v y := ks
          obtain ⟨_, _, _, _, _, _, _, hpp⟩ := ab_wcI h s (by omega) v y (by omega)
          obtain ⟨_, _, q3'⟩ := hpp h8v
          have hn1 : nT ≤ ab_zD Z m1 3 (ab_zD Z s 1 v y) y := by
            rcases q3' with q | q
            · exact absurd q hdir
            · exact Nat.le_trans hn (Nat.le_trans q (ab_nrm h (by omega) (by omega)))
          obtain ⟨h82, g2⟩ := pres m1 _ (by omega) (by omega) hdir hn1
          have ho2 : ab_zO Z m1 (ab_pt (ab_zn Z m1) (ab_zD Z s 1 v y) (ab_zD Z m1 1 (ab_zD Z s 1 v y) y) (ab_fr 3 x y (ab_zc Z x y) 0 (8 - i - 1))) := by
            unfold ab_zO ab_zY
            rw [km1, ab_do1, ks', kx]
            exact ab_cyo (x := ab_pt (ab_zn Z s) v (ab_zD Z s 1 v y) (ab_fr 3 x y (ab_zc Z x y) 0 (8 - i))) (s := ab_zD Z s 1 v y) (show 3 ≤ 3 by omega) (fun z => hdir z.symm) (show 1 < 8 - i by omega) h82 g2
          have hp8 : ab_zD Z s 1 v y < 8 := (h.2.1 _ _ guv).2.2.1
          have sy := hG.2.2.1 z y
          have hpz : ab_zD Z s 1 v y ≠ z := fun q => by rw [q] at dny; omega
          obtain ⟨p, pp⟩ := ih (i + 1) m1 (ab_zD Z s 1 v y) (by omega) (by omega) hmN hdir hpz hp8 (by omega) dnx (by omega) hn1 (by rw [show 8 - (i + 1) = 8 - i - 1 by omega]; exact ho2)
          exact ⟨p, by omega, pp.2⟩
        · rw [e2] at c12 c11
          have T := top s v b rr j1 a1 (by omega) (by omega) c1 c2 c3 c6 c7 c8 c9 c10 c11 c12 c13 c14 hn
          have hex : ∀ jj w, jj ≤ N → ab_zn Z jj ≤ ab_zn Z a + 42 → w ≠ y → ab_zD Z jj 3 w y = ab_zD Z s 3 v y → ab_zD Z jj 1 w y ≠ z := by
            intro jj w hjj hje hw hwn
            have hnw : nT ≤ ab_zD Z jj 3 w y := by omega
            obtain ⟨b', r', j3, a3, z3, f1, f2, f3, f4, f5, f6, f7, f8, f9, f10, f11, f12, f13, f14, f15, f16, f17, f18⟩ := cls jj w hjj hnw
            obtain ⟨h8w, guw⟩ := pres jj w hjj (by omega) hw hnw
            have hp1 : ab_zD Z jj 1 w y = ab_zX Z b' 1 := by
              rcases f17 with q | q
              · exact absurd q h8w
              · rw [q, f16]
            have e31 : j3 = j1 := by
              refine ab_bone (n := ab_zD Z s 3 v y) (c := y) h f3 c3 ?_ ?_ ?_ ?_
              · have := f9.2.2.1; rw [f10] at this; rw [this, f13, hwn]
              · have := f9.2.2.2.1; rw [f10] at this; rw [this, f13, hwn]
              · have := c9.2.2.1; rw [c10] at this; rw [this, c13]
              · have := c9.2.2.2.1; rw [c10] at this; rw [this, c13]
            rw [hp1]
            have z3z : ab_zX Z b' 5 = z := by
              have h1 := f12.2.2.2.2.2.1
              have h2 := c12.2.2.2.2.2.1
              rw [e31, h2] at h1
              rw [f11, ← h1]
            rw [f11.symm.trans z3z] at f12
            exact nz jj w b' r' j3 a3 hjj f1 f2 f3 f6 f7 f8 f9 f10 z3z f12
          obtain ⟨p, p1, p2, p3, p4, p5, p6, p7, p8, p9⟩ := ax_r1e (m := ab_zD Z s 3 v y) (E := ab_zn Z a + 42) (f := x) (nn := ab_zc Z x y) (l := 0) (o := z) hW y8 hz8 hzny hT0 hn (show 3 ≤ 3 by omega) nvE (fun jj w hjj hje hw => T jj w hjj hje hw) hex (8 - i) 0 s v (fun _ => 0) hs hvy hvz hv8 rfl (fun a ha => absurd ha (by omega)) (fun a b _ hb => absurd hb (by omega)) (by omega) ho' (by omega) (by omega)
          exact ⟨p, p1, p2, p3, p4, p5, p6, p7, p8, by omega⟩
  have arr : ∃ p, u < p ∧ p < N ∧ ab_zK Z p = 1 ∧ ab_zs Z p = y ∧ ab_zX Z p 3 = 3 ∧ ab_zX Z p 4 = x ∧ ab_zX Z p 5 = y ∧ ab_zX Z p 6 = ab_zc Z x y ∧ ab_zn Z p ≤ ab_zn Z u + 9 :=
    go 3 0 u x rfl (by omega) hu hxy (fun q => hznx q.symm) x8 (by omega) (hG.1 x) (by have := hG.2.2.1 y x; omega) hnu (by rw [show 8 - 0 = 8 by omega]; exact ho)
  obtain ⟨p, p1, p2, p3, p4, p5, p6, p7, p8, p9⟩ := arr
  have jTp : jT < p := by
    by_cases e : jT < p
    · exact e
    · have := ab_nowm h (show p ≤ jT by omega) (by omega)
      have := ab_nowm h (show u ≤ p by omega) (by omega)
      omega
  obtain ⟨b, _, _, hv, _⟩ := ax_ans hW hnp hEx hsx hd haN ha o5 jTp p2 p3 p4 p5 p6 p7 p8 (by omega) (by omega) (by omega)
  exact hx y hv.2.2.2.2
