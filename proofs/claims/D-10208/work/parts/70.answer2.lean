/-! ## the ride of an answer on the trail of one TELL of x, lengthened by questions of x -/
theorem ax_AR {Z : ab_Z} {d : Nat → Nat → Nat} {N a x y w r B jj aw p k nn l : Nat} (hW : ax_W Z d N) (h0 : ab_t0 Z N)
    (hx : ∀ q, ab_zl Z q x → q = w) (hg : ∀ g, ab_zl Z x g → r ≤ d x g) (hd : d x y = r) (h7 : r ≤ 7) (haN : a < N) (ha : ab_ask Z a x y) (h20 : ab_zn Z 0 + 20 ≤ ab_zn Z a)
    (c1 : jj < N) (c2 : ab_tb Z d jj aw x w) (hjn : ab_zD Z (a + 1) 4 x 0 ≤ ab_zD Z (jj + 1) 4 x 0) (hpN : p < N) (hap : a < p) (hpy : ab_zD Z p 3 y x ≤ ab_zD Z (jj + 1) 4 x 0)
    (hpt : ab_zn Z p + B ≤ ab_zn Z a + 23) (hk : 3 ≤ k) (hB7 : B ≤ 7) (hN : ab_zn Z p + B + 2 ≤ ab_zn Z N) :
    ∀ q e i v, e + q = B → i < N → v ≠ x → ab_zn Z i = ab_zn Z p + e → ab_zD Z (jj + 1) 4 x 0 ≤ ab_zD Z i 3 v x → (B ≤ r + 4 ∨ (2 ≤ r ∧ d x v ≤ e)) →
      (ab_zD Z i 3 v x = ab_zD Z (jj + 1) 4 x 0 → e + ax_cn (ax_H Z N (ab_zD Z (jj + 1) 4 x 0) x (ab_zD Z i 2 v x)) ≤ B) → (ab_zD Z (jj + 1) 4 x 0 < ab_zD Z i 3 v x → e + ab_zD Z i 2 v x ≤ B) →
      ab_zO Z i (ab_pt (ab_zn Z i) v (ab_zD Z i 1 v x) (ab_fr k y x nn l (8 - e))) →
      (∃ f, i < f ∧ f < N ∧ ab_zK Z f = 1 ∧ ab_zs Z f = x ∧ ab_zX Z f 3 = k ∧ ab_zX Z f 4 = y ∧ ab_zX Z f 5 = x ∧ ab_zX Z f 6 = nn ∧ ab_zn Z f ≤ ab_zn Z p + B) ∨
      (∃ b g, b < N ∧ ab_ask Z b x g ∧ d x g = r ∧ ab_zn Z p ≤ ab_zn Z b + r ∧ ab_zn Z b + 2 * r + 3 ≤ ab_zn Z p + B) := by
  have hW' := hW
  obtain ⟨h, hL, hG, hl8, hq⟩ := hW'
  have hl : ∀ a b, ab_zl Z a b → a ≠ b := fun a b z => (hl8 a b z).1
  obtain ⟨hxy, x8, y8⟩ := hl8 _ _ ha.2.2.1
  obtain ⟨q1, q2, q3⟩ := ab_qf h haN ha
  have hbq : ab_bn Z N x (ab_zD Z (a + 1) 4 x 0) (ab_zn Z a) := ⟨a, haN, rfl, by omega, Nat.le_refl _⟩
  have jd := c2.2.2.2.2.2.2.2.2.1
  have d7 := c2.2.2.2.2.2.2.2.2.2.1
  have gr := ax_tgrow h c2 c1
  have hbj : ab_bn Z N x (ab_zD Z (jj + 1) 4 x 0) (ab_zn Z jj) := ⟨jj, c1, rfl, by omega, Nat.le_refl _⟩
  have haj : ab_zn Z a ≤ ab_zn Z jj := ab_bnl h hbq hbj hjn
  have hn0 : ab_zD Z 0 4 x 0 < ab_zD Z (jj + 1) 4 x 0 := by omega
  have nv : ∀ i, i ≤ N → ab_zn Z i ≤ ab_zn Z a + 23 → ax_nv Z x (ab_zD Z (jj + 1) 4 x 0) i := by
    intro i hi hin k q hk hv
    have hkt := ab_nowm h (show k ≤ i by omega) hi
    by_cases e : ab_zD Z k 3 q x < ab_zD Z (jj + 1) 4 x 0
    · exact e
    · exfalso
      have qw := hx q hv.2.2.2.2
      have s1 := (ab_san h k (by omega)).1 q x
      have hjk : jj < k := by
        by_cases e : jj < k
        · exact e
        · have := ab_ownm (c := x) h (show k ≤ jj by omega) (by omega)
          omega
      rw [qw] at hv
      have := ab_vsp h hL h0 (show aw < k by have := c2.1; omega) (by omega) hv c2.2.1
      omega
  have hnr : ∀ i, i ≤ N → ab_zn Z i ≤ ab_zn Z a + 23 → ax_nr Z x (ab_zD Z (a + 1) 4 x 0) i := fun i hi hin => ax_nrI hW h0 hx haN ha (by omega) i hi (by omega)
  have late : ∀ i v, i ≤ N → ab_zn Z i ≤ ab_zn Z p + B → v ≠ x → ab_zD Z (jj + 1) 4 x 0 < ab_zD Z i 3 v x →
      ∃ b' g, b' < N ∧ ab_ask Z b' x g ∧ ab_zD Z i 3 v x = ab_zD Z (b' + 1) 4 x 0 ∧ ab_zn Z p ≤ ab_zn Z b' + r ∧ ab_zn Z b' + ab_zD Z i 2 v x ≤ ab_zn Z i := by
    intro i v hi hit hv hgt
    obtain ⟨c, hci, d1, d2, d3, d4, d5, d6, d7', d8⟩ := ab_srcI h i hi v x (by omega)
    have mrc : ab_rc Z (ab_zX Z c) := ⟨by rcases d3 with ⟨y, _⟩ | y <;> omega, Or.inl (by rw [d4]; omega)⟩
    rcases d3 with ⟨y30, _⟩ | y31
    · obtain ⟨b', hb'm, hba, hb6, hb8, hbt'⟩ := ab_hask h (by omega) d1 y30 mrc
      rw [d4] at hba hb6
      have hb'N : b' < N := by omega
      refine ⟨b', _, hb'N, hba, by omega, ?_, ?_⟩
      · by_cases e : ab_zn Z p ≤ ab_zn Z b' + r
        · exact e
        · exfalso
          have g1 : ab_gd (ab_zu Z) (ab_zX Z c 5) x r y := ab_gdb hG _ x r y hd h7 (hg _ hba.2.2.1)
          obtain ⟨i0, i1, i2, hf, i4, i5, i6⟩ := ab_flood h hL hb'N hba.1 hba.2.1 hba.2.2.2 r y g1 (fun e => hxy e.symm) (by omega)
          obtain ⟨f1, f2, f3, f4, f5, f6⟩ := hf
          have := ab_hnr (u := ab_zu Z) (ac := ab_za Z) (s := y) (p := ab_zp Z i0) (x := ab_zX Z i0) (D := ab_zD Z i0) (Or.inl ⟨f3, by rw [f4, f5]; exact f6⟩) (by rw [f4]; exact fun e => hxy e.symm)
          have k : ab_zX Z i0 6 ≤ ab_zD Z (i0 + 1) 3 y x := by
            rw [h.1 i0 i2]
            unfold ab_zY
            rw [f1, ab_do1, f2]
            rw [f4] at this
            exact this
          have hip : i0 < p := by
            by_cases e : i0 < p
            · exact e
            · have := ab_nowm h (show p ≤ i0 by omega) (by omega)
              omega
          have := ab_nrm (v := y) (c := x) h (show i0 + 1 ≤ p by omega) (by omega)
          omega
      · obtain ⟨z1, z2, z3⟩ := ab_qf h hb'N hba
        obtain ⟨t', hb', _, ht', _⟩ := ab_wcI h i hi v x (by omega)
        have bb : ab_bn Z N x (ab_zD Z i 3 v x) (ab_zn Z b') := ⟨b', hb'N, rfl, by omega, by omega⟩
        have := ab_bnu h hb' bb
        omega
    · exfalso
      obtain ⟨j2, a2, w2, r2, g1, g2, g3, g4, g5, g6, g7, g8, g9, g10, g11, g12⟩ := ax_hT1 hW (show c < N by omega) d1 d4 y31 q2 hbq (by omega) (by omega)
      have w2w := hx w2 g2.2.1.2.2.1
      rw [w2w] at g2
      have hct := ab_nowm h (show c ≤ i by omega) (by omega)
      have hb2 : ab_bn Z N x (ab_zD Z (j2 + 1) 4 x 0) (ab_zn Z j2) := ⟨j2, g1, rfl, by omega, Nat.le_refl _⟩
      have := ab_bnl h hbj hb2 (by omega)
      have e := ab_tone h c1 g1 c2 g2 (by omega) (by omega)
      rw [← e] at g11
      omega
  intro q
  induction q with
  | zero =>
    intro e i v heq hi hv hin hnum hlv hB hC ho
    exfalso
    by_cases en : ab_zD Z i 3 v x = ab_zD Z (jj + 1) 4 x 0
    · obtain ⟨t1, _⟩ := ax_Hp (i := i) (p := v) hW haN ha (by omega) c1 c2 rfl hjn (by omega) (hnr i (by omega) (by omega)) en
      have := ax_cn1 t1.2.1 t1
      have := hB en
      omega
    · have := hC (by omega)
      obtain ⟨_, _, _, _, d1, _⟩ := ab_wcI h i (by omega) v x (by omega)
      omega
  | succ q ih =>
    intro e i v heq hi hv hin hnum hlv hB hC ho
    have h8 := ax_pres h hn0 i (by omega) (nv i (by omega) (by omega)) v hv hnum
    obtain ⟨_, _, _, _, dv1, _, _, hpn1⟩ := ab_wcI h i (by omega) v x (by omega)
    obtain ⟨lk, r2, _⟩ := hpn1 h8
    obtain ⟨m1, hm1, hmN, k1, kx, kn, ks, kp⟩ := hL.1 i _ hi ho (by show ab_zn Z i + 2 ≤ _; omega)
    have kn' : ab_zn Z m1 = ab_zn Z i + 1 := kn
    have ks' : ab_zs Z m1 = ab_zD Z i 1 v x := ks
    by_cases hc : ab_zD Z i 1 v x = x
    · exact Or.inl ⟨m1, hm1, hmN, k1, by rw [ks', hc], by rw [kx]; rfl, by rw [kx]; rfl, by rw [kx]; rfl, by rw [kx]; rfl, by omega⟩
    · generalize hv' : ab_zD Z i 1 v x = v' at *
      have hch := ax_ch h hn0 i (by omega) (nv i (by omega) (by omega)) v hv hnum
      rw [hv'] at hch
      have mono := ab_nrm (v := v') (c := x) h (show i ≤ m1 by omega) (by omega)
      have hnum' : ab_zD Z (jj + 1) 4 x 0 ≤ ab_zD Z m1 3 v' x := by
        rcases hch with z | z | z
        · exact absurd z hc
        · omega
        · omega
      have h82 := ax_pres h hn0 m1 (by omega) (nv m1 (by omega) (by omega)) v' hc hnum'
      obtain ⟨_, _, _, _, dv2, _, _, hpn2⟩ := ab_wcI h m1 (by omega) v' x (by omega)
      obtain ⟨b1, _, _⟩ := hpn2 h82
      -- how far v' is from x
      have trail : ab_zD Z i 3 v x = ab_zD Z (jj + 1) 4 x 0 → ax_cn (ax_H Z N (ab_zD Z (jj + 1) 4 x 0) x (ab_zD Z i 2 v x - 1)) + 1 ≤ ax_cn (ax_H Z N (ab_zD Z (jj + 1) 4 x 0) x (ab_zD Z i 2 v x)) ∧ d x v' ≤ ax_cn (ax_H Z N (ab_zD Z (jj + 1) 4 x 0) x (ab_zD Z i 2 v x - 1)) := by
        intro en
        obtain ⟨x1, x2, x3', _⟩ := ax_Hp (i := i) (p := v) hW haN ha (by omega) c1 c2 rfl hjn (by omega) (hnr i (by omega) (by omega)) en
        have xx := x3' (by rw [hv']; exact h8) (by rw [hv']; exact hc)
        rw [hv'] at xx
        refine ⟨?_, ax_Hc hW haN ha (by omega) c1 c2 rfl hjn xx⟩
        exact ax_sma (P := ax_H Z N (ab_zD Z (jj + 1) 4 x 0) x (ab_zD Z i 2 v x - 1)) (Q := ax_H Z N (ab_zD Z (jj + 1) 4 x 0) x (ab_zD Z i 2 v x)) (E := fun _ => 1) (k := v)
          (fun k ⟨b1, b8, b, b2, b3, b4, b5, b6, b7, b9⟩ => ⟨b1, b8, b, b2, b3, b4, b5, b6, b7, by omega⟩) (x2 _ (by omega)) x1 8 x1.2.1
      have far : e + 1 + d x v' ≤ B := by
        by_cases en : ab_zD Z i 3 v x = ab_zD Z (jj + 1) 4 x 0
        · have := hB en
          obtain ⟨tr1, tr2⟩ := trail en
          omega
        · have := hC (by omega)
          omega
      have d1' : 1 ≤ d x v' := ax_d1 hW (fun q => hc q.symm)
      have lv' : d x v' ≤ d x v + 1 := hG.2.1 x v v' lk
      have ho2 : ab_zO Z m1 (ab_pt (ab_zn Z m1) v' (ab_zD Z m1 1 v' x) (ab_fr k y x nn l (8 - (e + 1)))) := by
        unfold ab_zO ab_zY
        rw [k1, ab_do1, ks', kx, show 8 - (e + 1) = 8 - e - 1 by omega]
        exact ab_cyo (x := ab_pt (ab_zn Z i) v v' (ab_fr k y x nn l (8 - e))) (s := v') (show 3 ≤ k by omega) (fun z => hc z.symm) (show 1 < 8 - e by omega) h82 b1
      -- the next state, if it is no longer than it should be
      have go : (ab_zD Z (jj + 1) 4 x 0 < ab_zD Z m1 3 v' x → e + 1 + ab_zD Z m1 2 v' x ≤ B) → (∃ f, i < f ∧ f < N ∧ ab_zK Z f = 1 ∧ ab_zs Z f = x ∧ ab_zX Z f 3 = k ∧ ab_zX Z f 4 = y ∧ ab_zX Z f 5 = x ∧ ab_zX Z f 6 = nn ∧ ab_zn Z f ≤ ab_zn Z p + B) ∨
          (∃ b g, b < N ∧ ab_ask Z b x g ∧ d x g = r ∧ ab_zn Z p ≤ ab_zn Z b + r ∧ ab_zn Z b + 2 * r + 3 ≤ ab_zn Z p + B) := by
        intro hC'
        have fin := ih (e + 1) m1 v' (by omega) hmN hc (by omega) hnum' (hlv.elim Or.inl (fun z => Or.inr ⟨z.1, by have := z.2; omega⟩)) (fun en' => ?_) hC' ho2
        · rcases fin with ⟨f, f1, f2⟩ | z
          · exact Or.inl ⟨f, by omega, f2⟩
          · exact Or.inr z
        · have ei : ab_zD Z i 3 v' x = ab_zD Z (jj + 1) 4 x 0 := by
            rcases hch with z | z | z
            · exact absurd z hc
            · omega
            · omega
          have en : ab_zD Z i 3 v x = ab_zD Z (jj + 1) 4 x 0 := by
            rcases hch with z | z | z
            · exact absurd z hc
            · omega
            · omega
          have lt : ab_zD Z i 2 v' x < ab_zD Z i 2 v x := by
            rcases hch with z | z | z
            · exact absurd z hc
            · omega
            · exact z.2
          have cs := ax_cst h hn0 hc (show ab_zD Z (jj + 1) 4 x 0 ≤ ab_zD Z i 3 v' x by omega) m1 (by omega) (by omega) (nv m1 (by omega) (by omega)) (by omega)
          have hBe1 := hB en
          obtain ⟨tr1, tr2⟩ := trail en
          have mo := ax_smm (P := ax_H Z N (ab_zD Z (jj + 1) 4 x 0) x (ab_zD Z m1 2 v' x)) (Q := ax_H Z N (ab_zD Z (jj + 1) 4 x 0) x (ab_zD Z i 2 v x - 1)) (E := fun _ => 1) (fun k ⟨b1, b8, b, b2, b3, b4, b5, b6, b7, b9⟩ => ⟨b1, b8, b, b2, b3, b4, b5, b6, b7, by omega⟩) 8
          clear hB hC hC' ih
          simp only [ax_cn] at *
          omega
      by_cases gt' : ab_zD Z (jj + 1) 4 x 0 < ab_zD Z m1 3 v' x
      · by_cases same : ab_zD Z m1 3 v' x = ab_zD Z i 3 v x
        · refine go (fun _ => ?_)
          have ei : ab_zD Z i 3 v' x = ab_zD Z i 3 v x := by
            rcases hch with z | z | z
            · exact absurd z hc
            · omega
            · omega
          have lt : ab_zD Z i 2 v' x < ab_zD Z i 2 v x := by
            rcases hch with z | z | z
            · exact absurd z hc
            · omega
            · exact z.2
          have cs := ax_cst h hn0 hc (show ab_zD Z (jj + 1) 4 x 0 ≤ ab_zD Z i 3 v' x by omega) m1 (by omega) (by omega) (nv m1 (by omega) (by omega)) (by omega)
          have hCe := hC (by omega)
          omega
        · obtain ⟨b', g, y1, y2, y3, y4, y5⟩ := late m1 v' (by omega) (by omega) hc gt'
          have hgr := hg g y2.2.2.1
          by_cases ex : ab_zD Z m1 2 v' x ≤ d x v'
          · exact go (fun _ => by omega)
          · -- v' lies behind the goal
            have beh : d x g + 1 ≤ d x v' := by
              by_cases e2 : d x g + 1 ≤ d x v'
              · exact e2
              · exfalso
                exact ex (ab_qx h hL y1 y2 (show m1 ≤ N by omega) y3 (ab_gdb hG g x (d x v') v' rfl (by omega) (by omega)))
            by_cases er : d x g = r
            · exact Or.inr ⟨b', g, y1, y2, er, y4, by omega⟩
            · refine go (fun _ => ?_)
              rcases hlv with z | z
              · omega
              · obtain ⟨z1, z2⟩ := z
                omega
      · exact go (fun z => absurd z gt')
