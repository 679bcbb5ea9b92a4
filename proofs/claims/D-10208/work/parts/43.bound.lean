/-! ## a TELL's ride is short: its links and what is left of them are at most the distance and the detours -/
noncomputable def ax_sm (P : Nat → Prop) (E : Nat → Nat) : Nat → Nat
  | 0 => 0
  | n + 1 => ax_sm P E n + ab_if (P n) (E n) 0
theorem ax_smm {P Q : Nat → Prop} {E : Nat → Nat} (h : ∀ k, P k → Q k) : ∀ n, ax_sm P E n ≤ ax_sm Q E n := by
  intro n
  induction n with
  | zero => exact Nat.le_refl _
  | succ n ih =>
    show ax_sm P E n + ab_if (P n) (E n) 0 ≤ ax_sm Q E n + ab_if (Q n) (E n) 0
    by_cases p : P n
    · rw [ab_ip p, ab_ip (h n p)]
      omega
    · rw [ab_in p]
      omega
theorem ax_sma {P Q : Nat → Prop} {E : Nat → Nat} {k : Nat} (h : ∀ k, P k → Q k) (hp : ¬ P k) (hq : Q k) : ∀ n, k < n → ax_sm P E n + E k ≤ ax_sm Q E n := by
  intro n
  induction n with
  | zero => intro z; omega
  | succ n ih =>
    intro hk
    show ax_sm P E n + ab_if (P n) (E n) 0 + E k ≤ ax_sm Q E n + ab_if (Q n) (E n) 0
    by_cases e : k = n
    · rw [← e, ab_in hp, ab_ip hq]
      have := ax_smm (E := E) h k
      omega
    · have := ih (by omega)
      by_cases p : P n
      · rw [ab_ip p, ab_ip (h n p)]
        omega
      · rw [ab_in p]
        omega
/-- the goals that z has asked for from step a on, by numbers up to n -/
def ax_C (Z : ab_Z) (N a z n : Nat) (h : Nat) : Prop := ∃ b, a ≤ b ∧ b < N ∧ ab_ask Z b z h ∧ ab_zD Z (b + 1) 4 z 0 ≤ n
/-- E h: what going round h costs at most -/
def ax_X (Z : ab_Z) (d : Nat → Nat → Nat) (z : Nat) (E : Nat → Nat) : Prop := ∀ h v k, ab_zl Z z h → ab_gd (ab_zu Z) h z k v → ∃ k', k' ≤ d z v + E h ∧ ab_gd (ab_zu Z) h z k' v
theorem ax_pot {Z : ab_Z} {d : Nat → Nat → Nat} {N j a c z : Nat} {E : Nat → Nat} (hW : ax_W Z d N) (hp : ∀ q, ¬ ab_zl Z q z) (hj : j < N) (ht : ab_tb Z d j a c z) (h10 : ab_zn Z 0 + 10 ≤ ab_zn Z a) (hE : ax_X Z d z E) :
    ∀ i, i < N → ∀ w, ab_zO Z i w → w 3 = 1 → ab_rc Z w → ab_bth Z j w → w 4 = c → w 5 = z → ab_zn Z i ≤ ab_zn Z a + 23 →
      w 7 + ab_zD Z (i + 1) 2 (w 1) z ≤ d z c + ax_sm (ax_C Z N a z (ab_zD Z (i + 1) 3 (w 1) z)) E 8 := by
  have hW' := hW
  obtain ⟨h, hL, hG, hl8, hq⟩ := hW'
  have hl : ∀ a b, ab_zl Z a b → a ≠ b := fun a b z => (hl8 a b z).1
  have haN : a < N := by have := ht.1; omega
  obtain ⟨q1, q2, q3⟩ := ab_qf h haN ht.2.1
  have hbq : ab_bn Z N z (ab_zD Z (a + 1) 4 z 0) (ab_zn Z a) := ⟨a, haN, rfl, by omega, Nat.le_refl _⟩
  have hnv : ∀ i, ax_nv Z z (ab_zD Z (a + 1) 4 z 0) i := fun i j q _ hv => absurd hv.2.2.2.2 (hp q)
  intro i
  induction i using Nat.strongRecOn with
  | ind i ih =>
    intro hi w ho h3 hr hb e4c e5z hti
    obtain ⟨g2, gn, gz, gu, g0⟩ := ab_tnr h hl hj ht i hi w ho h3 hr hb e4c e5z
    obtain ⟨e0, e1, hu, y⟩ := ab_d1 ho hr.1
    rcases y with ⟨hk, e3, e4, e5, e6, e7, eg, y0, y1⟩ | ⟨e4, e7, e6, es, y⟩
    · have hx3 : ab_zX Z i 3 = 1 := by omega
      have hx : ab_rc Z (ab_zX Z i) := by
        unfold ab_rc at hr ⊢
        rw [e3, ← e4, ← e6]
        refine ⟨hr.1, ?_⟩
        rcases hr.2 with z | z
        · exact Or.inl z
        · omega
      obtain ⟨m, hm, hom, t0, t1, t2, tu⟩ := ab_hrc h hi hk hx
      have hbx : ab_bth Z j (ab_zX Z i) := by
        obtain ⟨b, hbm, hbb⟩ := ab_fbI h m (by omega) _ hom hx
        have : b = j := by
          refine ab_bone (n := w 6) (c := w 4) h (by omega) hj ?_ ?_ hb.2.2.1 hb.2.2.2.1
          · rw [e4, e6]; exact hbb.2.2.1
          · rw [e4, e6]; exact hbb.2.2.2.1
        rw [← this]; exact hbb
      have x4 : ab_zX Z i 4 = c := by rw [← e4]; exact e4c
      have x5 : ab_zX Z i 5 = z := by rw [← e5]; exact e5z
      have hmn := ab_nowm h (show m ≤ i by omega) (by omega)
      have I := ih m hm (by omega) _ hom hx3 hx hbx x4 x5 (by omega)
      obtain ⟨p2, pn, pz, pu, _⟩ := ab_tnr h hl hj ht m (by omega) _ hom hx3 hx hbx x4 x5
      generalize hp1 : ab_zX Z i 1 = p at *
      have ev : ab_zD Z (m + 1) 1 p z = w 1 := by rw [← p2, t2, e1]
      have p28 : ab_zD Z (m + 1) 1 p z ≠ 8 := by
        rw [← p2]
        have := (h.2.1 _ _ pu).2.2.1
        omega
      obtain ⟨_, _, _, _, _, _, _, hpp⟩ := ab_wcI h (m + 1) (by omega) p z (by omega)
      obtain ⟨_, r2, r3⟩ := hpp p28
      rw [ev] at r2 r3
      have hch := ax_ch h q2 (m + 1) (by omega) (hnv _) p pz pn
      rw [ev] at hch
      have mono := ab_nrm (v := w 1) (c := z) h (show m + 1 ≤ i + 1 by omega) (by omega)
      have step : ab_zD Z (m + 1) 3 p z < ab_zD Z (i + 1) 3 (w 1) z ∨ (ab_zD Z (i + 1) 3 (w 1) z = ab_zD Z (m + 1) 3 p z ∧ ab_zD Z (i + 1) 2 (w 1) z < ab_zD Z (m + 1) 2 p z) := by
        rcases hch with s | s | ⟨s1, s2⟩
        · exact absurd s gz
        · exact Or.inl (by omega)
        · by_cases e : ab_zD Z (i + 1) 3 (w 1) z = ab_zD Z (m + 1) 3 (w 1) z
          · refine Or.inr ⟨by omega, ?_⟩
            have := ax_cst h q2 gz (show ab_zD Z (a + 1) 4 z 0 ≤ ab_zD Z (m + 1) 3 (w 1) z by omega) (i + 1) (by omega) (by omega) (hnv _) e
            omega
          · exact Or.inl (by omega)
      rcases step with s | ⟨s1, s2⟩
      · -- a newer question
        obtain ⟨b, hbm, s1, s2, s3, s4, s5, s6, s7, s8⟩ := ab_srcI h (i + 1) (by omega) (w 1) z (by omega)
        have m3 : ab_zX Z b 3 ≤ 1 := by rcases s3 with ⟨y, _⟩ | y <;> omega
        have mr : ab_rc Z (ab_zX Z b) := ⟨m3, Or.inl (by rw [s4]; omega)⟩
        rcases s3 with ⟨x30, xs⟩ | x31
        · obtain ⟨b', hb'm, hba, hb6, hb8, hbt'⟩ := ab_hask h (by omega) s1 x30 mr
          have hwk := ab_hatr h hl (by omega) s1 x30 mr
          rw [s4] at hba hb6 hb8 hwk
          rw [s2] at hwk
          obtain ⟨k', hk1, hk2⟩ := hE _ _ _ hba.2.2.1 hwk
          have hb'N : b' < N := by omega
          have qx := ab_qx h hL hb'N hba (show i + 1 ≤ N by omega) (by rw [← s5, hb6]) hk2
          have hnb : ab_zD Z (b' + 1) 4 z 0 = ab_zD Z (i + 1) 3 (w 1) z := by rw [← s5, hb6]
          have hab : a ≤ b' := by
            by_cases e : a ≤ b'
            · exact e
            · have := ab_ownm (c := z) h (show b' + 1 ≤ a by omega) (by omega)
              omega
          have g8 := (hl8 _ _ hba.2.2.1).2.2
          have hni := ab_now1 h hi
          have hbi := ab_nowm h (show b' ≤ i by omega) (by omega)
          have A := ax_sma (P := ax_C Z N a z (ab_zD Z (m + 1) 3 p z)) (Q := ax_C Z N a z (ab_zD Z (i + 1) 3 (w 1) z)) (E := E) (k := ab_zX Z b 5)
            (fun k ⟨b0, c1, c2, c3, c4⟩ => ⟨b0, c1, c2, c3, by omega⟩)
            (by
              intro ⟨b0, c1, c2, c3, c4⟩
              have lt : b0 < b' := by
                by_cases e : b0 < b'
                · exact e
                · have := ab_ownm (c := z) h (show b' + 1 ≤ b0 + 1 by omega) (by omega)
                  omega
              have := ab_sp h lt hb'N c3 hba
              have := ab_nowm h c1 (by omega)
              omega)
            ⟨b', hab, hb'N, hba, by omega⟩ 8 g8
          omega
        · exfalso
          obtain ⟨r', hrm, hor, r0, r1, r2', ru⟩ := ab_hrc h (show b < N by omega) s1 mr
          obtain ⟨j', hj', hbj⟩ := ab_fbI h r' (by omega) _ hor mr
          have hbj' := hbj
          obtain ⟨b1, b2, b3, b4, b5⟩ := hbj
          rw [s4] at b1 b3 b4
          have hbn : ab_bn Z N z (ab_zD Z (i + 1) 3 (w 1) z) (ab_zn Z j') := ⟨j', by omega, rfl, by omega, by omega⟩
          have := ab_bnl h hbq hbn (by omega)
          obtain ⟨a', ha'⟩ := ab_tbI h hL hG hl hq (show j' < N by omega) hbj' x31 (by omega)
          rw [s4] at ha'
          exact hp _ ha'.2.1.2.2.1
      · rw [s1]
        rw [e7]
        omega
    · have eij := g0 e7
      subst eij
      have k1 := ht.2.2.1
      have hni : ab_zn Z (i + 1) = ab_zn Z i := by rw [ab_now1 h hi, if_neg (by omega)]
      obtain ⟨t', hb', _, ht', _⟩ := ab_wcI h (i + 1) (by omega) (w 1) z (by omega)
      have := ab_bnl h hbq hb' gn
      have hjd := ht.2.2.2.2.2.2.2.2.1
      omega
/-- a TELL to a station that is nobody's goal comes to it in time -/
theorem ax_rT {Z : ab_Z} {d : Nat → Nat → Nat} {N j a c z P : Nat} {E : Nat → Nat} (hW : ax_W Z d N) (hp : ∀ q, ¬ ab_zl Z q z) (hj : j < N) (ht : ab_tb Z d j a c z) (h10 : ab_zn Z 0 + 10 ≤ ab_zn Z a) (hE : ax_X Z d z E)
    (hP : d z c + ax_sm (fun _ => True) E 8 ≤ P) (hP2 : ab_zn Z j + P ≤ ab_zn Z a + 24) (hN : ab_zn Z j + P + 2 ≤ ab_zn Z N) :
    ∀ e i w, i < N → ab_zO Z i w → w 3 = 1 → ab_rc Z w → ab_bth Z j w → w 4 = c → w 5 = z → w 7 + e = P → ab_zn Z i = ab_zn Z j + w 7 →
      ∃ m, i < m ∧ m < N ∧ ab_zK Z m = 1 ∧ ab_zs Z m = z ∧ ab_zX Z m 3 = 1 ∧ ab_zX Z m 4 = c ∧ ab_zX Z m 5 = z ∧ ab_zX Z m 6 = w 6 ∧ ab_zn Z m ≤ ab_zn Z j + P := by
  have hW' := hW
  obtain ⟨h, hL, hG, hl8, hq⟩ := hW'
  have hl : ∀ a b, ab_zl Z a b → a ≠ b := fun a b z => (hl8 a b z).1
  have haN : a < N := by have := ht.1; omega
  obtain ⟨q1, q2, q3⟩ := ab_qf h haN ht.2.1
  have hnv : ∀ i, ax_nv Z z (ab_zD Z (a + 1) 4 z 0) i := fun i j q _ hv => absurd hv.2.2.2.2 (hp q)
  intro e
  induction e with
  | zero =>
    intro i w hi ho h3 hr hb e4 e5 he hni
    exfalso
    obtain ⟨g2, gn, gz, gu, g0⟩ := ab_tnr h hl hj ht i hi w ho h3 hr hb e4 e5
    obtain ⟨_, _, _, _, hl1, _⟩ := ab_wcI h (i + 1) (by omega) (w 1) z (by omega)
    have aj := ht.2.2.2.2.2.2.2.2.1
    by_cases hw : w 7 = 0
    · have := g0 hw
      have := ax_smm (P := ax_C Z N a z (ab_zD Z (i + 1) 3 (w 1) z)) (Q := fun _ => True) (E := E) (fun _ _ => trivial) 8
      have := ax_pot hW hp hj ht h10 hE i hi w ho h3 hr hb e4 e5 (by
        have := ht.2.2.2.2.2.2.2.2.2.1
        omega)
      omega
    · -- the frame was sent on: a moment before it was within the bound
      obtain ⟨e0, e1, hu, y⟩ := ab_d1 ho hr.1
      rcases y with ⟨hk, e3', e4', e5', e6', e7', eg, y0, y1⟩ | ⟨_, e7', _⟩
      · have hx3 : ab_zX Z i 3 = 1 := by omega
        have hx : ab_rc Z (ab_zX Z i) := by
          unfold ab_rc at hr ⊢
          rw [e3', ← e4', ← e6']
          refine ⟨hr.1, ?_⟩
          rcases hr.2 with z | z
          · exact Or.inl z
          · omega
        obtain ⟨m, hm, hom, t0, t1, t2, tu⟩ := ab_hrc h hi hk hx
        have hbx : ab_bth Z j (ab_zX Z i) := by
          obtain ⟨b, hbm, hbb⟩ := ab_fbI h m (by omega) _ hom hx
          have : b = j := by
            refine ab_bone (n := w 6) (c := w 4) h (by omega) hj ?_ ?_ hb.2.2.1 hb.2.2.2.1
            · rw [e4', e6']; exact hbb.2.2.1
            · rw [e4', e6']; exact hbb.2.2.2.1
          rw [← this]; exact hbb
        have x4 : ab_zX Z i 4 = c := by rw [← e4']; exact e4
        have x5 : ab_zX Z i 5 = z := by rw [← e5']; exact e5
        have xm : ab_zn Z m = ab_zn Z j + ab_zX Z i 7 := by
          have hoo : ab_zX Z i 0 = ab_zn Z m := (ab_d1 hom hx.1).1
          have := hbx.2.1
          omega
        have := ax_pot hW hp hj ht h10 hE m (by omega) _ hom hx3 hx hbx x4 x5 (by omega)
        have := ax_smm (P := ax_C Z N a z (ab_zD Z (m + 1) 3 (ab_zX Z i 1) z)) (Q := fun _ => True) (E := E) (fun _ _ => trivial) 8
        obtain ⟨p2, pn, pz, pu, _⟩ := ab_tnr h hl hj ht m (by omega) _ hom hx3 hx hbx x4 x5
        have p28 : ab_zD Z (m + 1) 1 (ab_zX Z i 1) z ≠ 8 := by
          rw [← p2]
          have := (h.2.1 _ _ pu).2.2.1
          omega
        obtain ⟨_, _, _, _, _, _, _, hpp⟩ := ab_wcI h (m + 1) (by omega) (ab_zX Z i 1) z (by omega)
        obtain ⟨_, r2, _⟩ := hpp p28
        have ev : ab_zD Z (m + 1) 1 (ab_zX Z i 1) z = w 1 := by rw [← p2, t2, e1]
        rw [ev] at r2
        have : 1 ≤ d z (w 1) := ax_d1 hW (fun q => gz q.symm)
        omega
      · exact absurd e7' hw
  | succ e ih =>
    intro i w hi ho h3 hr hb e4 e5 he hni
    obtain ⟨g2, gn, gz, gu, g0⟩ := ab_tnr h hl hj ht i hi w ho h3 hr hb e4 e5
    have w0 : w 0 = ab_zn Z i := (ab_d1 ho hr.1).1
    obtain ⟨m1, hm1, hmN, k1, kx, kn, ks, kp⟩ := hL.1 i w hi ho (by omega)
    have kn' : ab_zn Z m1 = ab_zn Z i + 1 := by omega
    by_cases hz : w 2 = z
    · exact ⟨m1, hm1, hmN, k1, by rw [ks, hz], by rw [kx]; exact h3, by rw [kx]; exact e4, by rw [kx]; exact e5, by rw [kx], by omega⟩
    · have hDm := h.1 m1 hmN
      have num : ab_zD Z (a + 1) 4 z 0 ≤ ab_zD Z (m1 + 1) 3 (w 2) z := by
        obtain ⟨_, _, _, _, _, _, _, hpp⟩ := ab_wcI h (i + 1) (by omega) (w 1) z (by omega)
        have p28 : ab_zD Z (i + 1) 1 (w 1) z ≠ 8 := by
          rw [← g2]
          have := (h.2.1 _ _ gu).2.2.1
          omega
        obtain ⟨_, _, r3⟩ := hpp p28
        rw [← g2] at r3
        rcases r3 with r3 | r3
        · exact absurd r3 hz
        · exact Nat.le_trans gn (Nat.le_trans r3 (ab_nrm h (by omega) (by omega)))
      have h82 := ax_pres h q2 (m1 + 1) (by omega) (hnv _) (w 2) hz num
      have ho2 : ab_zO Z m1 (ab_pt (ab_zn Z m1) (w 2) (ab_zD Z (m1 + 1) 1 (w 2) z) (ab_fr 1 c z (w 6) (w 7 + 1) 0)) := by
        rw [hDm] at h82 ⊢
        unfold ab_zO
        unfold ab_zY at h82 ⊢
        rw [k1, ab_do1, ks, kx] at h82 ⊢
        have := ab_tfo (u := ab_zu Z) (ac := ab_za Z) (x := w) (s := w 2) (p := ab_zp Z m1) (D := ab_zD Z m1) h3 (by rw [e5]; exact fun q => hz q.symm) (by rw [e5]; exact h82)
        rw [e4, e5] at this
        exact this
      have hb2 : ab_bth Z j (ab_pt (ab_zn Z m1) (w 2) (ab_zD Z (m1 + 1) 1 (w 2) z) (ab_fr 1 c z (w 6) (w 7 + 1) 0)) := by
        obtain ⟨b1, b2, b3, b4, b5⟩ := hb
        rw [e4] at b1 b3 b4
        refine ⟨b1, ?_, b3, b4, Or.inr ?_⟩
        · show ab_zn Z j + (w 7 + 1) = ab_zn Z m1
          omega
        · rcases b5 with ⟨z3, _⟩ | ⟨_, z4⟩
          · omega
          · rw [e4, e5] at z4
            exact ⟨rfl, z4⟩
      have hr2 : ab_rc Z (ab_pt (ab_zn Z m1) (w 2) (ab_zD Z (m1 + 1) 1 (w 2) z) (ab_fr 1 c z (w 6) (w 7 + 1) 0)) := by
        refine ⟨by show (1 : Nat) ≤ 1; omega, Or.inl ?_⟩
        show ab_zD Z 0 4 c 0 < w 6
        rcases hr.2 with y | y
        · rw [← e4]; exact y
        · omega
      obtain ⟨m2, c1, c2, c3⟩ := ih m1 _ hmN ho2 rfl hr2 hb2 rfl rfl (by show w 7 + 1 + e = P; omega) (by show ab_zn Z m1 = ab_zn Z j + (w 7 + 1); omega)
      exact ⟨m2, by omega, c2, c3⟩
