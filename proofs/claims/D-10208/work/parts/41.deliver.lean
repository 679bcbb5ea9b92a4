/-! ## every frame is heard a moment later, while the ring does not go round within two moments -/
theorem rf_oup {u lv : Nat → Nat → Prop} {cf ac : Nat → Nat → Nat} {k a b : Nat} {x w : ab_F} {D : ab_D} (h : (ab_do u lv cf ac k a b x D).2 w) : u a (w 2) := by
  by_cases h0 : k = 0
  · subst h0
    rw [ab_do0] at h
    exact absurd h (fun z => z)
  · by_cases h1 : k = 1
    · subst h1
      rw [ab_do1] at h
      exact (ab_hho h).1
    · by_cases h2 : k = 2
      · subst h2
        rw [ab_do2] at h
        rcases ab_uc (u := u) (lv := lv) (cf := cf) (a := a) (b := b) (D := D) with ⟨z, _⟩ | ⟨hl, _, ⟨z, z2, z0, z1, y⟩ | ⟨_, y⟩⟩
        · rw [z] at h
          exact absurd h (fun z => z)
        · rw [y.2] at h
          have e : w = ab_pt (ab_w (ab_w (ab_w D 9 a b z) 7 a b 1) 8 a b (D 0 0 0) 0 0 0) a (D 1 a b) (ab_fr 3 a b (cf a b) 0 8) := h
          have e2 : w 2 = D 1 a b := by rw [e]; rfl
          rw [e2]
          exact y.1.2
        · obtain ⟨_, _, y | y⟩ := ab_nwc y
          · obtain ⟨r, hr, e⟩ := y.2.2.2.2.2 w h
            have e2 : w 2 = r := by rw [e]; rfl
            rw [e2]; exact hr
          · rcases y.2.2.2.2.2.2.2 w h with ⟨r, _, hr, e⟩ | ⟨r, hr, e⟩
            · have e2 : w 2 = r := by rw [e]; rfl
              rw [e2]; exact hr
            · have e2 : w 2 = r := by rw [e]; rfl
              rw [e2]; exact hr
      · have hlt : 3 ≤ k := by omega
        rw [ab_do3 hlt] at h
        exact absurd h (fun z => z)
theorem rf_ctm {S : zz_T} {N : Nat} {c : Nat → Nat} (hc : rf_ct S N c) {i : Nat} : ∀ j, i ≤ j → j ≤ N → c i ≤ c j := by
  intro j
  induction j with
  | zero => intro h _; rw [show i = 0 by omega]; exact Nat.le_refl _
  | succ j ih =>
    intro h hj
    by_cases e : i = j + 1
    · rw [e]; exact Nat.le_refl _
    · obtain ⟨V, m, jj, e1, _⟩ := hc.2 j (by omega)
      have := ih (by omega) (by omega)
      omega
theorem rf_ctp {S : zz_T} {B N : Nat} {c : Nat → Nat} (hA : rf_A S B N) (hc : rf_ct S N c) : ∃ a0, a0 < 1024 ∧ ∀ n, n ≤ N → rf_S S n 5 0 = nI ((a0 + c n) % 1024) := by
  obtain ⟨a0, h0, e0⟩ := (rf_main hA 0 (by omega)).1.2.2.1
  refine ⟨a0, h0, fun n => ?_⟩
  induction n with
  | zero => intro _; rw [hc.1, show (a0 + 0) % 1024 = a0 by omega]; exact e0
  | succ n ih =>
    intro hn
    obtain ⟨V, m, j, e1, hj, e2, e3, e4, _⟩ := hc.2 n (by omega)
    have e5 := ih (by omega)
    rw [← e3, e2] at e5
    have e6 : j = (a0 + c n) % 1024 := by
      have h1 := congrArg Int32.toInt e5
      rw [nI_toInt (by omega), nI_toInt (by omega)] at h1
      omega
    rw [e4, e6, e1]
    congr 1
    omega
/-- the frame put as number c j + k stays in its slot until it is listened to in the next moment -/
theorem rf_stay {S : zz_T} {B N : Nat} {c : Nat → Nat} (hA : rf_A S B N) (hc : rf_ct S N c) {a0 j k : Nat} (ha0 : a0 < 1024) (hp : ∀ n, n ≤ N → rf_S S n 5 0 = nI ((a0 + c n) % 1024)) (hj : j < N) (hk : c j + k < c (j + 1)) (hj0 : j % 1089 ≠ 0)
    (hd : rf_S S (j + 1) 35 ((a0 + c j + k) % 1024) = nI (ab_zn (rf_Z S) j + 1)) :
    ∀ n, j + 1 ≤ n → n ≤ 1089 * (j / 1089 + 1) + 1 + (a0 + c j + k) % 1024 → n ≤ N → c n ≤ c j + k + 1024 → rf_ss (rf_S S (j + 1)) (rf_S S n) ((a0 + c j + k) % 1024) := by
  intro n
  induction n with
  | zero => intro h; omega
  | succ n ih =>
    intro h1 h2 h3 h4
    by_cases e : n = j
    · rw [e]; exact ⟨rfl, rfl, rfl, rfl, fun _ _ => rfl⟩
    · have hcm := rf_ctm (i := n) hc (n + 1) (by omega) h3
      have hi : (a0 + c j + k) % 1024 < 1024 := Nat.mod_lt _ (by omega)
      have I := ih (by omega) (by omega) (by omega) (by omega)
      obtain ⟨V, m, jj, e1, hjj, e2, e3, e4, hm, s1, s2, s3, s4⟩ := hc.2 n (by omega)
      have ej : jj = (a0 + c n) % 1024 := by
        have e5 := hp n (by omega)
        rw [← e3, e2] at e5
        have h1 := congrArg Int32.toInt e5
        rw [nI_toInt (by omega), nI_toInt (by omega)] at h1
        omega
      have A1 : rf_ss (rf_S S n) V ((a0 + c j + k) % 1024) := by
        rcases s2 _ hi with ⟨y1, y2⟩ | ⟨y1, y2, y3, y4⟩ | y
        · exfalso
          -- the listening of slot i in the same moment: not due yet
          obtain ⟨k1, k2, k3⟩ := rf_K1 y1
          have hq : n / 1089 = j / 1089 := by omega
          obtain ⟨t, ht, et, en⟩ := rf_nowS hA (show n ≤ N by omega)
          have n1 := rf_nowq hA n (by omega)
          have n2 := rf_nowq hA j (by omega)
          rw [if_neg k1] at n1
          rw [if_neg hj0] at n2
          have := k3.2.1
          have hlim := hA.1
          rw [← y2, I.2.2.2.1, hd, et, Int32.lt_iff_toInt_lt, nI_toInt (by omega), nI_toInt (by omega)] at this
          omega
        · have hq : n / 1089 = j / 1089 := by omega
          obtain ⟨t, ht, et, en⟩ := rf_nowS hA (show n ≤ N by omega)
          have n1 := rf_nowq hA n (by omega)
          have n2 := rf_nowq hA j (by omega)
          rw [if_neg y3] at n1
          rw [if_neg hj0] at n2
          have hlim := hA.1
          have := s3 y3 y4 (by
            rw [← y1, I.2.2.2.1, hd, et, Int32.lt_iff_toInt_lt, nI_toInt (by omega), nI_toInt (by omega)]
            omega)
          rw [← y1] at this
          exact this
        · exact y
      have A2 : rf_ss V (rf_S S (n + 1)) ((a0 + c j + k) % 1024) := by
        rcases s1 _ hi with ⟨k', y1, y2⟩ | ⟨_, y⟩
        · exfalso
          have := rf_ctm (i := j + 1) hc n (by omega) (by omega)
          omega
        · exact y
      exact ⟨A2.1.trans (A1.1.trans I.1), A2.2.1.trans (A1.2.1.trans I.2.1), A2.2.2.1.trans (A1.2.2.1.trans I.2.2.1), A2.2.2.2.1.trans (A1.2.2.2.1.trans I.2.2.2.1), fun q hq => (A2.2.2.2.2 q hq).trans ((A1.2.2.2.2 q hq).trans (I.2.2.2.2 q hq))⟩
theorem rf_dlv {S : zz_T} {B N : Nat} {c : Nat → Nat} (hA : rf_A S B N) (h0 : rf_du S 0) (hc : rf_ct S N c) : ∀ j w, j < N → ab_zO (rf_Z S) j w → w 0 + 2 ≤ ab_zn (rf_Z S) N → c (1089 * (j / 1089 + 1) + 1025) ≤ c j + 1024 →
    ∃ k, j < k ∧ k < N ∧ rf_K S k = 1 ∧ rf_X S k = w ∧ ab_zn (rf_Z S) k = w 0 + 1 ∧ rf_s S k = w 2 ∧ rf_p S k = w 1 := by
  intro j w hj hw hN hcc
  obtain ⟨a0, ha0, hp⟩ := rf_ctp hA hc
  have hlim := hA.1
  obtain ⟨hw0, hw1⟩ := rf_o0 hw
  have hw0' : w 0 = ab_zn (rf_Z S) j := hw0
  have hup := rf_oup hw
  have hj0 : j % 1089 ≠ 0 := by
    intro e
    have hD := (rf_main hA j (by omega)).2 hj
    exact (hD.2.1 e).2.2 w hw
  obtain ⟨V, m, jj, e1, hjj, e2, e3, e4, hm, s1, s2, s3, s4⟩ := hc.2 j hj
  have ej : jj = (a0 + c j) % 1024 := by
    have e5 := hp j (by omega)
    rw [← e3, e2] at e5
    have h1 := congrArg Int32.toInt e5
    rw [nI_toInt (by omega), nI_toInt (by omega)] at h1
    omega
  obtain ⟨k, hk, ek, uk⟩ := s4 w hw
  have esl : (jj + k) % 1024 = (a0 + c j + k) % 1024 := by omega
  rw [esl] at ek uk
  generalize hi' : (a0 + c j + k) % 1024 = i at ek uk
  have hi : i < 1024 := by rw [← hi']; exact Nat.mod_lt _ (by omega)
  have nj := rf_nowq hA j (by omega)
  rw [if_neg hj0] at nj
  have nN := rf_nowq hA N (Nat.le_refl _)
  have hle : (if N % 1089 = 0 then 0 else 1) ≤ 1 := by split <;> omega
  have njs : ab_zn (rf_Z S) (j + 1) = ab_zn (rf_Z S) j := by
    have h1 := rf_nowq hA (j + 1) (by omega)
    by_cases e : j % 1089 = 1088
    · rw [if_pos (by omega)] at h1
      omega
    · rw [if_neg (by omega)] at h1
      omega
  obtain ⟨pb, pQ, _, _⟩ := (rf_main hA (j + 1) (by omega)).1
  obtain ⟨hsm, s33, s34, _⟩ := pQ _ hi uk
  have c33 : rf_c (rf_S S (j + 1) 33 i) = w 1 := by rw [← ek]; rfl
  have c34 : rf_c (rf_S S (j + 1) 34 i) = w 2 := by rw [← ek]; rfl
  have c35 : rf_c (rf_S S (j + 1) 35 i) - 1 = w 0 := by rw [← ek]; rfl
  have due : rf_c (rf_S S (j + 1) 35 i) = ab_zn (rf_Z S) j + 1 := by
    rcases rf_duI hA h0 (j + 1) (by omega) i hi uk with y | ⟨y, _⟩
    · omega
    · omega
  have hd : rf_S S (j + 1) 35 i = nI (ab_zn (rf_Z S) j + 1) := by rw [hsm.2.2.1.1, due]
  have hn : 1089 * (j / 1089 + 1) + 1 + i < N := by omega
  have hst := rf_stay hA hc ha0 hp hj (show c j + k < c (j + 1) by omega) hj0 (by rw [hi']; exact hd) (1089 * (j / 1089 + 1) + 1 + i) (by omega) (by rw [hi']; omega) (by omega) (by
    have := rf_ctm (i := 1089 * (j / 1089 + 1) + 1 + i) hc (1089 * (j / 1089 + 1) + 1025) (by omega) (by omega)
    omega)
  rw [hi'] at hst
  generalize hn' : 1089 * (j / 1089 + 1) + 1 + i = n at hn hst
  have km : n % 1089 = 1 + i := by omega
  have kd : n / 1089 = j / 1089 + 1 := by omega
  have ki : n % 1089 - 1 = i := by omega
  have nn := rf_nowq hA n (by omega)
  rw [if_neg (by omega)] at nn
  obtain ⟨t, ht, et, en⟩ := rf_nowS hA (show n ≤ N by omega)
  have hs : rf_hs i (rf_S S n) := by
    refine ⟨by rw [hst.1]; exact uk, ?_, ?_⟩
    · rw [hst.2.2.2.1, hd, et, Int32.lt_iff_toInt_lt, nI_toInt (by omega), nI_toInt (by omega)]
      omega
    · rw [hst.2.1, hst.2.2.1, hsm.2.1.1, c33, c34]
      have e6 : rf_S S n 6 = S 6 := hA.2.2.2.2.2.2.2.1 n 6 (by omega) (by decide)
      have := hup.2.2
      rw [← hw1] at this
      unfold mm_up at this ⊢
      rw [e6]
      exact this
  refine ⟨n, by omega, hn, ?_, ?_, by omega, ?_, ?_⟩
  · unfold rf_K
    rw [if_neg (by omega), if_pos (by omega), ki, ab_ip hs]
  · show rf_sl (rf_S S n) (n % 1089 - 1) = w
    rw [ki, rf_sss hst]
    exact ek
  · unfold rf_s
    rw [if_pos (by omega), ki, hst.2.2.1]
    exact c34
  · unfold rf_p
    rw [if_pos (by omega), ki, hst.2.1]
    exact c33
/-- the run is live, while the ring does not go round within two moments -/
theorem rf_L {S : zz_T} {B N : Nat} {c : Nat → Nat} (hA : rf_A S B N) (h0 : rf_du S 0) (hc : rf_ct S N c) (hcc : ∀ q, 1089 * (q + 1) + 1025 ≤ N → c (1089 * (q + 1) + 1025) ≤ c (1089 * q) + 1024) : ab_L (rf_Z S) N := by
  refine ⟨fun j w hj hw hN => rf_dlv hA h0 hc j w hj hw hN ?_, rf_L2 hA, rf_L3 hA⟩
  have nN := rf_nowq hA N (Nat.le_refl _)
  have hle : (if N % 1089 = 0 then 0 else 1) ≤ 1 := by split <;> omega
  have hw0 : w 0 = ab_zn (rf_Z S) j := (rf_o0 hw).1
  have nj := rf_nowq hA j (by omega)
  have hj0 : j % 1089 ≠ 0 := by
    intro e
    have hD := (rf_main hA j (by omega)).2 hj
    exact (hD.2.1 e).2.2 w hw
  rw [if_neg hj0] at nj
  have h1 := hcc (j / 1089) (by omega)
  have h2 := rf_ctm (i := 1089 * (j / 1089)) hc j (by omega) (by omega)
  omega
