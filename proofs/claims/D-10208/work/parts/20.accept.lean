/-! ## the message that waits first -/
theorem zz_itc {σ : Type} {f g : Nat → σ → σ} : ∀ n (S : σ), (∀ k, k < n → f k = g k) → zz_it f n S = zz_it g n S
  | 0, _, _ => rfl
  | n + 1, S, h => by
    show f n (zz_it f n S) = g n (zz_it g n S)
    rw [h n (by omega), zz_itc n S (fun k hk => h k (by omega))]
theorem zz_fws {S : zz_T} {a b : Int32} : ∀ m, mm_fw S a b = some m → m < 16 ∧ mm_wt S a b m ∧ ∀ m', m' < 16 → mm_wt S a b m' → S 8 m ≤ S 8 m' := by
  have key : (∀ m, mm_fw S a b = some m → m < 16 ∧ mm_wt S a b m ∧ ∀ m', m' < 16 → mm_wt S a b m' → S 8 m ≤ S 8 m') ∧ (mm_fw S a b = none → ∀ m', m' < 16 → ¬ mm_wt S a b m') := by
    unfold mm_fw
    refine zz_itI (fun (n : Nat) (r : Option Nat) => (∀ m, r = some m → m < n ∧ mm_wt S a b m ∧ ∀ m', m' < n → mm_wt S a b m' → S 8 m ≤ S 8 m') ∧ (r = none → ∀ m', m' < n → ¬ mm_wt S a b m')) ⟨(fun m e => by cases e), fun _ m' hm' => absurd hm' (by omega)⟩ ?_
    intro n r hn hr
    unfold mm_fw1
    by_cases c : mm_wt S a b n
    · rw [if_pos c]
      cases r with
      | none =>
        refine ⟨fun m e => ?_, fun e => by cases e⟩
        injection e with e
        subst e
        refine ⟨by omega, c, fun m' hm' hw => ?_⟩
        by_cases e : m' = n
        · rw [e]
          exact Int32.le_refl _
        · exact absurd hw (hr.2 rfl m' (by omega))
      | some k =>
        obtain ⟨h1, h2, h3⟩ := hr.1 k rfl
        show (∀ m, (@ite _ (S 8 k ≤ S 8 n) (Classical.propDecidable _) (some k) (some n)) = some m → _) ∧ ((@ite _ (S 8 k ≤ S 8 n) (Classical.propDecidable _) (some k) (some n)) = none → _)
        by_cases d : S 8 k ≤ S 8 n
        · rw [if_pos d]
          refine ⟨fun m e => ?_, fun e => by cases e⟩
          injection e with e
          subst e
          refine ⟨by omega, h2, fun m' hm' hw => ?_⟩
          by_cases e : m' = n
          · rw [e]
            exact d
          · exact h3 m' (by omega) hw
        · rw [if_neg d]
          refine ⟨fun m e => ?_, fun e => by cases e⟩
          injection e with e
          subst e
          refine ⟨by omega, c, fun m' hm' hw => ?_⟩
          by_cases e : m' = n
          · rw [e]
            exact Int32.le_refl _
          · exact Int32.le_trans (Int32.le_of_lt (Int32.not_le.1 d)) (h3 m' (by omega) hw)
    · rw [if_neg c]
      refine ⟨fun m e => ?_, fun e m' hm' hw => ?_⟩
      · obtain ⟨h1, h2, h3⟩ := hr.1 m e
        refine ⟨by omega, h2, fun m' hm' hw => ?_⟩
        by_cases e : m' = n
        · rw [e] at hw
          exact absurd hw c
        · exact h3 m' (by omega) hw
      · by_cases d : m' = n
        · rw [d] at hw
          exact c hw
        · exact hr.2 e m' (by omega) hw
  exact key.1
/-! ## what holds of the messages -/
def zz_K (N : Nat) (S : zz_T) : Prop :=
  (∀ p, p < 64 → S 25 p = nI 0 ∧ S 29 p = nI 0 ∧ S 30 p = nI 0) ∧
  (∀ a b, a < 8 → b < 8 → ∃ c d, S 14 (a + 8 * b) = nI c ∧ S 15 (a + 8 * b) = nI d ∧ c ≤ d ∧ d ≤ c + 1 ∧ d + zz_cnt (mm_wt S (nI a) (nI b)) 16 ≤ N) ∧
  zz_910 S ∧ (∀ m, m < 16 → mm_isT S m → mm_has S m) ∧ (∀ m, m < 16 → ∃ l, l ≤ 1 ∧ S 11 m = nI l) ∧
  (∀ m m', m < 16 → m' < 16 → m ≠ m' → mm_has S m → mm_has S m' → S 8 m ≠ S 8 m' ∧ (S 9 m = S 9 m' → S 10 m = S 10 m' → mm_isT S m → ¬ mm_isT S m' → S 8 m < S 8 m'))
theorem zz_Kc {N : Nat} {S T : zz_T} (h : ∀ f, f = 1 ∨ f = 2 ∨ f = 8 ∨ f = 9 ∨ f = 10 ∨ f = 11 ∨ f = 14 ∨ f = 15 ∨ f = 25 ∨ f = 29 ∨ f = 30 → T f = S f) (k : zz_K N S) : zz_K N T := by
  have e : ∀ a b, mm_wt T a b = mm_wt S a b := fun a b => funext (fun m => propext (zz_wtc (h 1 (by decide)) (h 2 (by decide)) (h 9 (by decide)) (h 10 (by decide)) a b m))
  unfold zz_K zz_910 mm_isT mm_has at *
  rw [h 1 (by decide), h 2 (by decide), h 8 (by decide), h 9 (by decide), h 10 (by decide), h 11 (by decide), h 14 (by decide), h 15 (by decide), h 25 (by decide), h 29 (by decide), h 30 (by decide)]
  refine ⟨k.1, fun a b ha hb => ?_, k.2.2⟩
  rw [e]
  exact k.2.1 a b ha hb
/-- what has come since the settling began, in state Z -/
def zz_Q (Z S : zz_T) : Prop :=
  (∀ f, f = 0 ∨ f = 1 ∨ f = 3 ∨ f = 6 ∨ f = 7 ∨ f = 8 ∨ f = 9 ∨ f = 10 ∨ f = 12 → S f = Z f) ∧
  (∀ m, m < 16 → S 11 m = Z 11 m) ∧
  (∀ m, m < 16 → mm_isT Z m → mm_isT S m ∧ ∀ k, k < 8 → S 13 (m * 8 + k) = Z 13 (m * 8 + k)) ∧
  (∀ m, m < 16 → mm_isT S m → ¬ mm_isT Z m → (∃ a b, a < 8 ∧ b < 8 ∧ Z 9 m = nI a ∧ Z 10 m = nI b ∧ zz_con Z a b) ∧ ∀ k l, l ≤ 1 → Z 11 m = nI l → k < l → S 13 (m * 8 + k) &&& 255 = Z 12 (m * 8 + k) &&& 255)
theorem zz_Qc {Z S T : zz_T} (h : ∀ f, f = 0 ∨ f = 1 ∨ f = 2 ∨ f = 3 ∨ f = 6 ∨ f = 7 ∨ f = 8 ∨ f = 9 ∨ f = 10 ∨ f = 11 ∨ f = 12 ∨ f = 13 → T f = S f) (k : zz_Q Z S) : zz_Q Z T := by
  unfold zz_Q mm_isT at *
  rw [h 2 (by decide), h 11 (by decide), h 13 (by decide)]
  exact ⟨fun f hf => (h f (by omega)).trans (k.1 f hf), k.2⟩
def zz_J (N : Nat) (Z S : zz_T) : Prop := zz_B S ∧ zz_K N S ∧ zz_Q Z S
theorem zz_Jq {N : Nat} {Z S T : zz_T} (h : ∀ f, zz_qf f → T f = S f) (hb : zz_B T) (k : zz_J N Z S) : zz_J N Z T :=
  ⟨hb, zz_Kc (fun f hf => h f (by unfold zz_qf; omega)) k.2.1, zz_Qc (fun f hf => h f (by unfold zz_qf; omega)) k.2.2⟩
/-! ## accept -/
theorem zz_hpKF {S : zz_T} {p l : Nat} (e6 : S 43 6 = nI l) (hl : l ≤ 1) (e0 : S 30 p = nI 0) : ∀ X : zz_T, X = mm_hpK p S →
    X 30 p = nI l ∧ (∀ f, f ≠ 29 → f ≠ 30 → f ≠ 31 → X f = S f) ∧ (∀ q, q ≠ p → X 29 q = S 29 q ∧ X 30 q = S 30 q) ∧ ∀ k, k < l → X 31 (p * 8 + k) = (S 43 (8 + k)).toInt8.toInt32 := by
  intro X hX
  have hc : (S 43 6).toNatClampNeg = l := zz_cl (by omega) e6
  have e1 : mm_keep p S 30 p = nI l := zz_keep30 e6 (by omega) e0
  have k30 : ∀ q, q ≠ p → mm_keep p S 30 q = S 30 q := by
    intro q hq
    unfold mm_keep
    refine zz_itI (fun (_ : Nat) (V : zz_T) => V 30 q = S 30 q) rfl (fun k V _ hV => ?_)
    unfold mm_kp
    rw [zz_se, pk_un hq, zz_sn (by decide)]
    exact hV
  have k31 : ∀ k, k < l → mm_keep p S 31 (p * 8 + k) = (S 43 (8 + k)).toInt8.toInt32 := by
    intro k hk
    obtain rfl : l = 1 := by omega
    obtain rfl : k = 0 := by omega
    unfold mm_keep
    rw [hc]
    show mm_kp p 0 S 31 (p * 8 + 0) = _
    unfold mm_kp
    rw [zz_sn (by decide), zz_se, pk_us]
  have kf : ∀ f, f ≠ 30 → f ≠ 31 → mm_keep p S f = S f := fun f h2 h3 => zz_keepo h2 h3
  unfold mm_hpK at hX
  generalize mm_keep p S = Y at hX e1 k30 k31 kf
  refine ⟨?_, fun f h1 h2 h3 => ?_, fun q hq => ⟨?_, ?_⟩, fun k hk => ?_⟩
  · rw [hX, zz_sn (by decide)]
    exact e1
  · rw [hX, zz_sn h1]
    exact kf f h2 h3
  · rw [hX, zz_se, pk_un hq, kf 29 (by decide) (by decide)]
  · rw [hX, zz_sn (by decide)]
    exact k30 q hq
  · rw [hX, zz_sn (by decide)]
    exact k31 k hk
theorem zz_acLF {X : zz_T} {p m l : Nat} (hl : l ≤ 1) (e2 : X 30 p = nI l) : ∀ Y : zz_T, Y = mm_acL p m X →
    (∀ f, f ≠ 11 → f ≠ 13 → Y f = X f) ∧ Y 11 = upd (X 11) m (nI l) ∧ (∀ q, q < m * 8 ∨ m * 8 + l ≤ q → Y 13 q = X 13 q) ∧ ∀ k, k < l → Y 13 (m * 8 + k) = (X 31 (p * 8 + k)).toInt8.toInt32 := by
  intro Y hY
  have hcl : (X 30 p).toNatClampNeg = l := zz_cl (by omega) e2
  have en : vp_nar .byte (X 30 p) = nI l := by rw [e2, vp_nar_byte, zz_8 l (by omega)]
  unfold mm_acL at hY
  rw [hcl, en] at hY
  have : l = 0 ∨ l = 1 := by omega
  rcases this with rfl | rfl
  · have e : Y = zz_s X 11 m (nI 0) := hY
    refine ⟨fun f h1 h2 => ?_, ?_, fun q _ => ?_, fun k hk => absurd hk (by omega)⟩
    · rw [e, zz_sn h1]
    · rw [e, zz_se]
    · rw [e, zz_sn (by decide)]
  · have e : Y = zz_s (zz_s X 11 m (nI 1)) 13 (m * 8 + 0) (vp_nar .byte (zz_s X 11 m (nI 1) 31 (p * 8 + 0))) := hY
    refine ⟨fun f h1 h2 => ?_, ?_, fun q hq => ?_, fun k hk => ?_⟩
    · rw [e, zz_sn h2, zz_sn h1]
    · rw [e, zz_sn (by decide), zz_se]
    · rw [e, zz_se, pk_un (by omega), zz_sn (by decide)]
    · obtain rfl : k = 0 := by omega
      rw [e, zz_se, pk_us, vp_nar_byte, zz_sn (by decide)]
theorem zz_acF {S : zz_T} {p m l : Nat} (e6 : S 43 6 = nI l) (hl : l ≤ 1) : ∀ T : zz_T, T = mm_acM p m (mm_hpK p S) → S 30 p = nI 0 →
    (∀ f, f ≠ 2 → f ≠ 11 → f ≠ 13 → f ≠ 15 → f ≠ 29 → f ≠ 30 → f ≠ 31 → T f = S f) ∧ T 2 = upd (S 2) 0 (S 2 0 ||| ((1 : Int32) <<< (nI m &&& 31))) ∧ T 11 = upd (S 11) m (nI l) ∧ T 15 = upd (S 15) p (S 15 p + 1) ∧
    (∀ q, q ≠ p → T 29 q = S 29 q ∧ T 30 q = S 30 q) ∧ T 29 p = 0 ∧ T 30 p = 0 ∧ (∀ q, q < m * 8 ∨ m * 8 + l ≤ q → T 13 q = S 13 q) ∧ ∀ k, k < l → T 13 (m * 8 + k) = (S 43 (8 + k)).toInt8.toInt32.toInt8.toInt32 := by
  intro T hT e0
  obtain ⟨e2, kf, k2930, k31⟩ := zz_hpKF e6 hl e0 _ rfl
  generalize mm_hpK p S = X at hT e2 kf k2930 k31
  obtain ⟨a0, a11, a13, a13k⟩ := zz_acLF (m := m) hl e2 _ rfl
  unfold mm_acM mm_ac90 at hT
  generalize mm_acL p m X = Y at hT a0 a11 a13 a13k
  refine ⟨fun f h2 h11 h13 h15 h29 h30 h31 => ?_, ?_, ?_, ?_, fun q hq => ⟨?_, ?_⟩, ?_, ?_, fun q hq => ?_, fun k hk => ?_⟩
  · rw [hT, zz_sn h30, zz_sn h29, zz_sn h15, zz_sn h2, a0 f h11 h13, kf f h29 h30 h31]
  · rw [hT, zz_sn (by decide), zz_sn (by decide), zz_sn (by decide), zz_se, a0 2 (by decide) (by decide), kf 2 (by decide) (by decide) (by decide)]
  · rw [hT, zz_sn (by decide), zz_sn (by decide), zz_sn (by decide), zz_sn (by decide), a11, kf 11 (by decide) (by decide) (by decide)]
  · rw [hT, zz_sn (by decide), zz_sn (by decide), zz_se, zz_sn (by decide), a0 15 (by decide) (by decide), kf 15 (by decide) (by decide) (by decide)]
  · rw [hT, zz_sn (by decide), zz_se, pk_un hq, zz_sn (by decide), zz_sn (by decide), a0 29 (by decide) (by decide)]
    exact (k2930 q hq).1
  · rw [hT, zz_se, pk_un hq, zz_sn (by decide), zz_sn (by decide), zz_sn (by decide), a0 30 (by decide) (by decide)]
    exact (k2930 q hq).2
  · rw [hT, zz_sn (by decide), zz_se, pk_us]
  · rw [hT, zz_se, pk_us]
  · rw [hT, zz_sn (by decide), zz_sn (by decide), zz_sn (by decide), zz_sn (by decide), a13 q hq, kf 13 (by decide) (by decide) (by decide)]
  · rw [hT, zz_sn (by decide), zz_sn (by decide), zz_sn (by decide), zz_sn (by decide), a13k k hk, k31 k hk]
theorem zb_p255 (x : Int32) : x.toInt8.toInt32 &&& 255 = x &&& 255 := by
  refine zb_ext (fun i hi => ?_)
  rw [zb_and, zb_and, zb_255 i hi]
  by_cases c : i < 8
  · rw [zb_bp c]
  · rw [decide_eq_false c, Bool.and_false, Bool.and_false]
theorem zb_q255 (x : Int32) : x &&& 255 &&& 255 = x &&& 255 := by
  refine zb_ext (fun i hi => ?_)
  rw [zb_and, zb_and]
  cases zb_t x i <;> cases zb_t 255 i <;> rfl
theorem zz_pp {a b f g : Nat} (ha : a < 8) (hf : f < 8) (h : a + 8 * b = f + 8 * g) : a = f ∧ b = g := by omega
/-- the message of a piece that is expected is taken over -/
theorem zz_Jacc {N : Nat} {Z S T : zz_T} {f s m l d : Nat} (hN : N < 2 ^ 30) (hf : f < 8) (hs : s < 8) (h : zz_J N Z S) (hm : mm_fw S (nI f) (nI s) = some m) (hl : l ≤ 1) (el : S 11 m = nI l) (e6 : S 43 6 = nI l) (ed : S 15 (f + 8 * s) = nI d)
    (hd : d < 2 ^ 30) (hw : ∀ k, k < l → S 43 (8 + k) = S 12 (m * 8 + k) &&& 255) (hc : zz_con S f s) (hT : T = mm_acM (f + 8 * s) m (mm_hpK (f + 8 * s) S)) (h14 : S 14 (f + 8 * s) = nI d) : zz_J N Z T := by
  obtain ⟨hB, ⟨K1, K2, K3, K4, K5, K6⟩, Q1, Q2, Q3, Q4⟩ := h
  have hp : f + 8 * s < 64 := by omega
  obtain ⟨F, F2, F11, F15, F2930, F29, F30, F13, F13k⟩ := zz_acF e6 hl T hT (K1 _ hp).2.2
  clear hT
  obtain ⟨hm16, ⟨w1, w2, w3, w4⟩, hmin⟩ := zz_fws m hm
  have hT1 : T 1 = S 1 := F 1 (by decide) (by decide) (by decide) (by decide) (by decide) (by decide) (by decide)
  have hT8 : T 8 = S 8 := F 8 (by decide) (by decide) (by decide) (by decide) (by decide) (by decide) (by decide)
  have hT9 : T 9 = S 9 := F 9 (by decide) (by decide) (by decide) (by decide) (by decide) (by decide) (by decide)
  have hT10 : T 10 = S 10 := F 10 (by decide) (by decide) (by decide) (by decide) (by decide) (by decide) (by decide)
  have hT12 : T 12 = S 12 := F 12 (by decide) (by decide) (by decide) (by decide) (by decide) (by decide) (by decide)
  have hT6 : T 6 = S 6 := F 6 (by decide) (by decide) (by decide) (by decide) (by decide) (by decide) (by decide)
  have hT14 : T 14 = S 14 := F 14 (by decide) (by decide) (by decide) (by decide) (by decide) (by decide) (by decide)
  have hhas : ∀ q, mm_has T q ↔ mm_has S q := fun q => by unfold mm_has; rw [hT1]
  have hisT : ∀ q, q < 16 → (mm_isT T q ↔ mm_isT S q ∨ q = m) := by
    intro q hq
    show zz_b (T 2 0) q ↔ zz_b (S 2 0) q ∨ q = m
    rw [F2, pk_us, zb_bor (by omega), zb_b1 (by omega) (by omega)]
  have hwt : ∀ a b q, a < 8 → b < 8 → q < 16 → (mm_wt T (nI a) (nI b) q ↔ mm_wt S (nI a) (nI b) q ∧ q ≠ m) := by
    intro a b q ha hb hq
    unfold mm_wt
    rw [hhas, hisT q hq, hT9, hT10]
    constructor
    · rintro ⟨z1, z2, z3, z4⟩
      exact ⟨⟨z1, fun y => z2 (Or.inl y), z3, z4⟩, fun y => z2 (Or.inr y)⟩
    · rintro ⟨⟨z1, z2, z3, z4⟩, z5⟩
      exact ⟨z1, fun y => y.elim z2 z5, z3, z4⟩
  have hT11 : ∀ q, T 11 q = S 11 q := by
    intro q
    rw [F11]
    by_cases e : q = m
    · rw [e, pk_us, el]
    · rw [pk_un e]
  have hd15 : ∀ a b, a < 8 → b < 8 → ¬ (a = f ∧ b = s) → T 15 (a + 8 * b) = S 15 (a + 8 * b) := by
    intro a b ha hb hne
    rw [F15, pk_un (fun e => hne (zz_pp ha hf e))]
  have hd15s : T 15 (f + 8 * s) = nI (d + 1) := by
    rw [F15, pk_us, ed, nI_1]
  have hfw : ∀ a b, a < 8 → b < 8 → ¬ (a = f ∧ b = s) → mm_fw T (nI a) (nI b) = mm_fw S (nI a) (nI b) := by
    intro a b ha hb hne
    unfold mm_fw
    refine zz_itc 16 none (fun q hq => funext (fun r => ?_))
    have e : mm_wt T (nI a) (nI b) q ↔ mm_wt S (nI a) (nI b) q := by
      rw [hwt a b q ha hb hq]
      refine ⟨fun z => z.1, fun z => ⟨z, fun y => hne ?_⟩⟩
      rw [y] at z
      exact ⟨(nI_eq (by omega) (by omega)).1 (z.2.2.1.symm.trans w3), (nI_eq (by omega) (by omega)).1 (z.2.2.2.symm.trans w4)⟩
    unfold mm_fw1
    rw [propext e, hT8]
  have hdN : d + 1 ≤ N := by
    obtain ⟨c, d', y1, y2, y3, y4, y5⟩ := K2 f s hf hs
    have ee : d' = d := (nI_eq (by omega) (by omega)).1 (y2.symm.trans ed)
    have hc1 : zz_cnt (mm_wt S (nI f) (nI s)) 16 ≠ 0 := fun z => zz_cnt0 16 z m hm16 ⟨w1, w2, w3, w4⟩
    omega
  have hok : ∀ r w, zz_ok S r w → zz_ok T r w := by
    rintro r w ⟨f', g', hf', hg', e1, e2, h3, h4⟩
    refine ⟨f', g', hf', hg', e1, e2, fun z => ?_, fun z0 z1 z2 z3 => ?_⟩
    · obtain ⟨c0, c, d', l', q1, q2, q3, q4, qd, q5, q6, q7⟩ := h3 z
      by_cases c1 : f' = f ∧ g' = s
      · obtain ⟨rfl, rfl⟩ := c1
        have ee : d' = d := (nI_eq (by omega) (by omega)).1 (q5.symm.trans ed)
        exact ⟨(zz_conc hT6 f' r).2 c0, c, d + 1, l', q1, q2, q3, q4, by omega, hd15s, by omega, fun e => absurd e (by omega)⟩
      · refine ⟨(zz_conc hT6 f' r).2 c0, c, d', l', q1, q2, q3, q4, qd, ?_, q6, fun e => ?_⟩
        · rw [hd15 f' g' hf' hg' c1]
          exact q5
        · obtain ⟨y0, y1, m', y2, y3, y4⟩ := q7 e
          refine ⟨?_, y1, m', ?_, ?_, fun k hk => ?_⟩
          · rw [hT14]
            exact y0
          · rw [hfw f' g' hf' hg' c1]
            exact y2
          · rw [hT11]
            exact y3
          · rw [hT12]
            exact y4 k hk
    · obtain ⟨c, d', q1, q2, qd, q3, q4⟩ := h4 z0 z1 z2 z3
      by_cases c1 : g' = f ∧ f' = s
      · obtain ⟨rfl, rfl⟩ := c1
        have ee : d' = d := (nI_eq (by omega) (by omega)).1 (q3.symm.trans ed)
        exact ⟨c, d + 1, q1, q2, by omega, hd15s, by omega⟩
      · refine ⟨c, d', q1, q2, qd, ?_, q4⟩
        rw [hd15 g' f' hg' hf' c1]
        exact q3
  have FF : ∀ q, q = 5 ∨ q = 18 ∨ q = 24 ∨ q = 25 ∨ q = 32 ∨ q = 33 ∨ q = 34 ∨ q = 36 → T q = S q := fun q hq => F q (by omega) (by omega) (by omega) (by omega) (by omega) (by omega) (by omega)
  have hmT : ∀ q, mm_isT S q → q ≠ m := fun q z e => w2 (e ▸ z)
  refine ⟨⟨zz_5of (FF 5 (by decide)) hB.1, zz_24of (FF 24 (by decide)) hB.2.1, zz_18of (FF 18 (by decide)) hB.2.2.1, fun i hi hu => ?_⟩, ⟨fun p' hp' => ?_, fun a b ha hb => ?_, ?_, fun q hq z => ?_, fun q hq => ?_, fun q q' hq hq' hne z z' => ⟨?_, fun y1 y2 y3 y4 => ?_⟩⟩, fun q hq => ?_, fun q hq => ?_, fun q hq z => ?_, fun q hq z zn => ?_⟩
  · rw [FF 32 (by decide)] at hu
    obtain ⟨s', r', hs', hr', f1, f2, f3⟩ := hB.2.2.2 i hi hu
    refine ⟨s', r', hs', hr', ?_, ?_, ?_⟩
    · rw [FF 33 (by decide)]
      exact f1
    · rw [FF 34 (by decide)]
      exact f2
    · rw [FF 36 (by decide)]
      exact hok r' _ f3
  · obtain ⟨y1, y2, y3⟩ := K1 p' hp'
    refine ⟨?_, ?_, ?_⟩
    · rw [FF 25 (by decide)]
      exact y1
    · by_cases e : p' = f + 8 * s
      · rw [e]
        exact F29
      · rw [(F2930 p' e).1]
        exact y2
    · by_cases e : p' = f + 8 * s
      · rw [e]
        exact F30
      · rw [(F2930 p' e).2]
        exact y3
  · obtain ⟨c, d', y1, y2, y3, y4, y5⟩ := K2 a b ha hb
    by_cases c1 : a = f ∧ b = s
    · obtain ⟨rfl, rfl⟩ := c1
      have ee : d' = d := (nI_eq (by omega) (by omega)).1 (y2.symm.trans ed)
      have hlt := zz_cnts (P := mm_wt T (nI a) (nI b)) (Q := mm_wt S (nI a) (nI b)) 16 (fun k hk z => ((hwt a b k ha hb hk).1 z).1) m hm16 ⟨w1, w2, w3, w4⟩ (fun z => ((hwt a b m ha hb hm16).1 z).2 rfl)
      refine ⟨d, d + 1, ?_, hd15s, by omega, by omega, by omega⟩
      rw [hT14]
      exact h14
    · have hle := zz_cntm (P := mm_wt T (nI a) (nI b)) (Q := mm_wt S (nI a) (nI b)) 16 (fun k hk z => ((hwt a b k ha hb hk).1 z).1)
      refine ⟨c, d', ?_, ?_, y3, y4, by omega⟩
      · rw [hT14]
        exact y1
      · rw [hd15 a b ha hb c1]
        exact y2
  · unfold zz_910
    rw [hT9, hT10]
    exact K3
  · rw [hhas]
    rcases (hisT q hq).1 z with z | z
    · exact K4 q hq z
    · rw [z]
      exact w1
  · rw [hT11]
    exact K5 q hq
  · rw [hT8]
    exact (K6 q q' hq hq' hne ((hhas q).1 z) ((hhas q').1 z')).1
  · rw [hT9] at y1
    rw [hT10] at y2
    rw [hT8]
    have y4' : ¬ mm_isT S q' ∧ q' ≠ m := ⟨fun e => y4 ((hisT q' hq').2 (Or.inl e)), fun e => y4 ((hisT q' hq').2 (Or.inr e))⟩
    rcases (hisT q hq).1 y3 with y3 | y3
    · exact (K6 q q' hq hq' hne ((hhas q).1 z) ((hhas q').1 z')).2 y1 y2 y3 y4'.1
    · rw [y3] at y1 y2 hne ⊢
      have hle := hmin q' hq' ⟨(hhas q').1 z', y4'.1, y1.symm.trans w3, y2.symm.trans w4⟩
      have hn := (K6 m q' hm16 hq' hne w1 ((hhas q').1 z')).1
      exact Int32.lt_of_le_of_ne hle hn
  · rw [F q (by omega) (by omega) (by omega) (by omega) (by omega) (by omega) (by omega)]
    exact Q1 q hq
  · rw [hT11]
    exact Q2 q hq
  · obtain ⟨y1, y2⟩ := Q3 q hq z
    refine ⟨(hisT q hq).2 (Or.inl y1), fun k hk => ?_⟩
    have := hmT q y1
    rw [F13 (q * 8 + k) (by omega)]
    exact y2 k hk
  · have e9 : S 9 m = Z 9 m := by rw [Q1 9 (by decide)]
    have e10 : S 10 m = Z 10 m := by rw [Q1 10 (by decide)]
    rcases (hisT q hq).1 z with z | z
    · obtain ⟨y1, y2⟩ := Q4 q hq z zn
      refine ⟨y1, fun k l' hl' e' hk => ?_⟩
      have := hmT q z
      rw [F13 (q * 8 + k) (by omega)]
      exact y2 k l' hl' e' hk
    · subst z
      refine ⟨⟨f, s, hf, hs, e9.symm.trans w3, e10.symm.trans w4, (zz_conc (Q1 6 (by decide)) f s).1 hc⟩, fun k l' hl' e' hk => ?_⟩
      have el' : l' = l := (nI_eq (by omega) (by omega)).1 (e'.symm.trans ((Q2 q hq).symm.trans el))
      rw [el'] at hk
      rw [F13k k hk, zb_p255, zb_p255, hw k hk, zb_q255, Q1 12 (by decide)]
/-! ## hearPiece, hearAnswer, hear -/
theorem zz_okb {S T : zz_T} {r : Nat} {w : Nat → Int32} (k : zz_ok S r w) (h : ∀ f, f = 1 ∨ f = 2 ∨ f = 6 ∨ f = 8 ∨ f = 9 ∨ f = 10 ∨ f = 11 ∨ f = 12 ∨ f = 14 ∨ f = 15 → T f = S f) : zz_ok T r w := by
  obtain ⟨f, g, hf, hg, e1, e2, h3, h4⟩ := k
  refine ⟨f, g, hf, hg, e1, e2, fun z => ?_, fun z0 z1 z2 z3 => ?_⟩
  · obtain ⟨c0, c, d, l, q1, q2, q3, q4, qd, q5, q6, q7⟩ := h3 z
    refine ⟨(zz_conc (h 6 (by decide)) f r).2 c0, c, d, l, q1, q2, q3, q4, qd, ?_, q6, fun e => ?_⟩
    · rw [h 15 (by decide)]
      exact q5
    · obtain ⟨y0, y1, m, y2, y3, y4⟩ := q7 e
      refine ⟨?_, y1, m, ?_, ?_, fun k hk => ?_⟩
      · rw [h 14 (by decide)]
        exact y0
      · rw [zz_fwc (h 1 (by decide)) (h 2 (by decide)) (h 8 (by decide)) (h 9 (by decide)) (h 10 (by decide))]
        exact y2
      · rw [h 11 (by decide)]
        exact y3
      · rw [h 12 (by decide)]
        exact y4 k hk
  · obtain ⟨c, d, q1, q2, qd, q3, q4⟩ := h4 z0 z1 z2 z3
    refine ⟨c, d, q1, q2, qd, ?_, q4⟩
    rw [h 15 (by decide)]
    exact q3
/-- the answer that a goal s writes to a source f -/
theorem zz_Jans {N : Nat} {Z T : zz_T} {s f : Nat} (hN : N < 2 ^ 30) (hs : s < 8) (hf : f < 8) (h : zz_J N Z T) : zz_J N Z (mm_hp92 s f (f + 8 * s) T) := by
  obtain ⟨c, d, y1, y2, y3, y4, y5⟩ := h.2.1.2.1 f s hf hs
  have h29 := (h.2.1.1 (f + 8 * s) (by omega)).2.1
  have hq : ∀ q, q ≠ 42 → mm_anW s f (f + 8 * s) T q = T q := by
    intro q hq
    unfold mm_anW
    rw [zz_sn hq, zz_sn hq, zz_sn hq, zz_bego hq]
  refine zz_Jq (S := T) (fun q hq' => ?_) ?_ h
  · unfold mm_hp92
    rw [zz_passq (Or.inl hq'), hq q (by unfold zz_qf at hq'; omega)]
  · unfold mm_hp92
    refine zz_Bpass hs (zz_Bs (by decide) (zz_Bs (by decide) (zz_Bs (by decide) (zz_Bbeg h.1)))) ?_
    have b0 : mm_anW s f (f + 8 * s) T 42 0 = 4 := by
      unfold mm_anW
      rw [zz_se, pk_un (by decide), zz_se, pk_un (by decide), zz_se, pk_un (by decide)]
      exact zz_begw.1
    have b1 : mm_anW s f (f + 8 * s) T 42 1 = nI s := by
      unfold mm_anW
      rw [zz_se, pk_un (by decide), zz_se, pk_un (by decide), zz_se, pk_un (by decide)]
      exact zz_begw.2.1
    have b2 : mm_anW s f (f + 8 * s) T 42 2 = nI f := by
      unfold mm_anW
      rw [zz_se, pk_un (by decide), zz_se, pk_un (by decide), zz_se, pk_un (by decide)]
      exact zz_begw.2.2.1
    have b3 : mm_anW s f (f + 8 * s) T 42 3 = nI d := by
      unfold mm_anW
      rw [zz_se, pk_un (by decide), zz_se, pk_un (by decide), zz_se, pk_us, zz_bego (by decide)]
      exact y2
    have b4 : mm_anW s f (f + 8 * s) T 42 4 = 0 := by
      unfold mm_anW
      rw [zz_se, pk_un (by decide), zz_se, pk_us, zz_bego (by decide)]
      exact h29
    refine ⟨s, f, hs, hf, b1, b2, fun z => ?_, fun _ _ _ _ => ⟨d, d, b3, b4, by omega, ?_, Nat.le_refl d⟩⟩
    · rw [b0] at z
      exact absurd z (by decide)
    · rw [hq 15 (by decide)]
      exact y2
theorem zz_Jcarry {N : Nat} {Z S : zz_T} {s : Nat} (hs : s < 8) (k : zz_ok S s (S 43)) (h : zz_J N Z S) : zz_J N Z (mm_carry s S) :=
  zz_Jq (fun q hq => zz_carryq hq) (zz_Bcarry hs k h.1) h
theorem zz_JhearPiece {N : Nat} {Z S : zz_T} {s : Nat} (hN : N < 2 ^ 30) (hs : s < 8) (h0 : S 43 0 = 3) (k : zz_ok S s (S 43)) (h : zz_J N Z S) : zz_J N Z (mm_hearPiece s S) := by
  obtain ⟨f, g, hf, hg, e1, e2, h3, _⟩ := id k
  unfold mm_hearPiece
  split
  · next eg =>
    have hgs : g = s := (nI_eq (by omega) (by omega)).1 (e2.symm.trans eg)
    subst hgs
    rw [zz_cl (show f < 2 ^ 31 by omega) e1]
    refine zz_Jans hN hs hf ?_
    obtain ⟨c0, c, d, l, q1, q2, q3, q4, qd, q5, q6, q7⟩ := h3 h0
    unfold mm_hpT
    split
    · next cc =>
      have ec : c = d := (nI_eq (by omega) (by omega)).1 (q1.symm.trans (cc.1.trans q5))
      obtain ⟨y0, y1, m, y2, y3, y4⟩ := q7 ec
      rw [if_pos y1]
      have hfw : mm_fw (mm_hpK (f + 8 * g) S) (nI f) (nI g) = some m := by
        have kf : ∀ q, q ≠ 29 → q ≠ 30 → q ≠ 31 → mm_hpK (f + 8 * g) S q = S q := by
          intro q z1 z2 z3
          unfold mm_hpK
          rw [zz_sn z1, zz_keepo z2 z3]
        rw [zz_fwc (kf 1 (by decide) (by decide) (by decide)) (kf 2 (by decide) (by decide) (by decide)) (kf 8 (by decide) (by decide) (by decide)) (kf 9 (by decide) (by decide) (by decide)) (kf 10 (by decide) (by decide) (by decide))]
        exact y2
      have he : mm_acc f g (mm_hpK (f + 8 * g) S) = mm_acM (f + 8 * g) m (mm_hpK (f + 8 * g) S) := by
        unfold mm_acc
        rw [hfw]
      exact zz_Jacc hN hf hs h y2 q4 y3 q3 q5 qd y4 c0 he y0
    · exact h
  · exact zz_Jcarry hs k h
theorem zz_JhearAnswer {N : Nat} {Z S : zz_T} {s : Nat} (hN : N < 2 ^ 30) (hs : s < 8) (h0 : ¬ S 43 0 = 0) (h1 : ¬ S 43 0 = 1) (h2 : ¬ S 43 0 = 2) (h3 : ¬ S 43 0 = 3) (k : zz_ok S s (S 43)) (h : zz_J N Z S) : zz_J N Z (mm_hearAnswer s S) := by
  obtain ⟨f, g, hf, hg, e1, e2, _, h4⟩ := id k
  unfold mm_hearAnswer
  split
  · next eg =>
    have hgs : g = s := (nI_eq (by omega) (by omega)).1 (e2.symm.trans eg)
    subst hgs
    rw [zz_cl (show f < 2 ^ 31 by omega) e1]
    split
    · next cc =>
      obtain ⟨c, d, q1, q2, qd, q3, q4⟩ := h4 h0 h1 h2 h3
      obtain ⟨hB, ⟨K1, K2, K3⟩, hQ⟩ := h
      obtain ⟨c', d', y1, y2, y3, y4, y5⟩ := K2 g f hg hf
      have ed : d' = d := (nI_eq (by omega) (by omega)).1 (y2.symm.trans q3)
      have hge : c' ≤ c := by
        have := cc.1
        rw [q1, y1] at this
        exact Nat.le_of_not_lt (fun z => this (nI_lt z (by omega)))
      have F : ∀ q, q ≠ 14 → q ≠ 25 → q ≠ 27 → q ≠ 28 → mm_anS (g + 8 * f) S q = S q := by
        intro q z1 z2 z3 z4
        unfold mm_anS
        rw [zz_sn z3, zz_sn z4, zz_sn z2, zz_sn z1]
      have F14 : ∀ q, mm_anS (g + 8 * f) S 14 q = if q = g + 8 * f then nI c else S 14 q := by
        intro q
        unfold mm_anS
        rw [zz_sn (by decide), zz_sn (by decide), zz_sn (by decide), zz_se, q1]
        by_cases e : q = g + 8 * f
        · rw [e, pk_us, if_pos rfl]
        · rw [pk_un e, if_neg e]
      have F25 : ∀ q, q < 64 → mm_anS (g + 8 * f) S 25 q = nI 0 := by
        intro q hq
        unfold mm_anS
        rw [zz_sn (by decide), zz_sn (by decide), zz_se, q2]
        by_cases e : q = g + 8 * f
        · rw [e, pk_us]
          rfl
        · rw [pk_un e, zz_sn (by decide)]
          exact (K1 q hq).1
      generalize mm_anS (g + 8 * f) S = T at F F14 F25
      have ewt : ∀ a b, mm_wt T a b = mm_wt S a b := fun a b => funext (fun m => propext (zz_wtc (F 1 (by decide) (by decide) (by decide) (by decide)) (F 2 (by decide) (by decide) (by decide) (by decide)) (F 9 (by decide) (by decide) (by decide) (by decide)) (F 10 (by decide) (by decide) (by decide) (by decide)) a b m))
      have FF : ∀ q, (q < 14 ∨ 14 < q) → q ≠ 25 → q ≠ 27 → q ≠ 28 → T q = S q := fun q z => F q (by omega)
      refine ⟨⟨zz_5of (FF 5 (by decide) (by decide) (by decide) (by decide)) hB.1, zz_24of (FF 24 (by decide) (by decide) (by decide) (by decide)) hB.2.1, zz_18of (FF 18 (by decide) (by decide) (by decide) (by decide)) hB.2.2.1, fun i hi hu => ?_⟩, ⟨fun p hp => ?_, fun a b ha hb => ?_, ?_⟩, zz_Qc (fun q hq => FF q (by omega) (by omega) (by omega) (by omega)) hQ⟩
      · rw [FF 32 (by decide) (by decide) (by decide) (by decide)] at hu
        obtain ⟨s', r', hs', hr', f1, f2, f', g', hf', hg', x1, x2, x3, x4⟩ := hB.2.2.2 i hi hu
        refine ⟨s', r', hs', hr', ?_, ?_, ?_⟩
        · rw [FF 33 (by decide) (by decide) (by decide) (by decide)]
          exact f1
        · rw [FF 34 (by decide) (by decide) (by decide) (by decide)]
          exact f2
        · rw [FF 36 (by decide) (by decide) (by decide) (by decide)]
          refine ⟨f', g', hf', hg', x1, x2, fun z => ?_, fun z0 z1 z2 z3 => ?_⟩
          · obtain ⟨c0, cx, dx, lx, p1, p2, p3, p4, pd, p5, p6, p7⟩ := x3 z
            refine ⟨(zz_conc (FF 6 (by decide) (by decide) (by decide) (by decide)) f' r').2 c0, cx, dx, lx, p1, p2, p3, p4, pd, ?_, p6, fun e => ?_⟩
            · rw [FF 15 (by decide) (by decide) (by decide) (by decide)]
              exact p5
            · obtain ⟨w0, w1, m, w2, w3, w4⟩ := p7 e
              refine ⟨?_, w1, m, ?_, ?_, fun k hk => ?_⟩
              · rw [F14]
                by_cases ee : f' + 8 * g' = g + 8 * f
                · rw [if_pos ee]
                  rw [ee] at w0 p5
                  have e3 : dx = d := (nI_eq (by omega) (by omega)).1 (p5.symm.trans q3)
                  have e4 : c' = dx := (nI_eq (by omega) (by omega)).1 (y1.symm.trans w0)
                  rw [show c = dx by omega]
                · rw [if_neg ee]
                  exact w0
              · rw [zz_fwc (FF 1 (by decide) (by decide) (by decide) (by decide)) (FF 2 (by decide) (by decide) (by decide) (by decide)) (FF 8 (by decide) (by decide) (by decide) (by decide)) (FF 9 (by decide) (by decide) (by decide) (by decide)) (FF 10 (by decide) (by decide) (by decide) (by decide))]
                exact w2
              · rw [FF 11 (by decide) (by decide) (by decide) (by decide)]
                exact w3
              · rw [FF 12 (by decide) (by decide) (by decide) (by decide)]
                exact w4 k hk
          · obtain ⟨cx, dx, p1, p2, pd, p3, p4⟩ := x4 z0 z1 z2 z3
            refine ⟨cx, dx, p1, p2, pd, ?_, p4⟩
            rw [FF 15 (by decide) (by decide) (by decide) (by decide)]
            exact p3
      · refine ⟨F25 p hp, ?_, ?_⟩
        · rw [FF 29 (by decide) (by decide) (by decide) (by decide)]
          exact (K1 p hp).2.1
        · rw [FF 30 (by decide) (by decide) (by decide) (by decide)]
          exact (K1 p hp).2.2
      · rw [ewt, F14, FF 15 (by decide) (by decide) (by decide) (by decide)]
        by_cases ee : a + 8 * b = g + 8 * f
        · obtain ⟨rfl, rfl⟩ := zz_pp ha hg ee
          rw [if_pos rfl]
          exact ⟨c, d', rfl, y2, by omega, by omega, y5⟩
        · rw [if_neg ee]
          exact K2 a b ha hb
      · unfold zz_910 mm_isT mm_has at *
        rw [FF 1 (by decide) (by decide) (by decide) (by decide), FF 2 (by decide) (by decide) (by decide) (by decide), FF 8 (by decide) (by decide) (by decide) (by decide), FF 9 (by decide) (by decide) (by decide) (by decide), FF 10 (by decide) (by decide) (by decide) (by decide), FF 11 (by decide) (by decide) (by decide) (by decide)]
        exact K3
    · exact h
  · exact zz_Jcarry hs k h
theorem zz_Jhear {N : Nat} {Z S : zz_T} {s r : Nat} (hN : N < 2 ^ 30) (hs : s < 8) (hr : r < 8) (k : zz_ok S s (S 43)) (h : zz_J N Z S) : zz_J N Z (mm_hear s (nI r) S) := by
  have h43 : zz_43 S := by
    obtain ⟨f, g, hf, hg, e1, e2, _⟩ := k
    exact ⟨⟨f, hf, e1⟩, ⟨g, hg, e2⟩⟩
  unfold mm_hear
  split
  · next c => exact zz_Jq (fun q hq => zz_hearAskq hq) (zz_BhearAsk hs hr c h43 h.1) h
  · next c0 =>
    split
    · next c => exact zz_Jq (fun q hq => zz_hearTellq hq) (zz_BhearTell hs hr c h43 h.1) h
    · next c1 =>
      split
      · exact zz_Jq (fun q hq => zz_hearLossq hq) (zz_BhearLoss hs h43 h.1) h
      · next c2 =>
        split
        · next c => exact zz_JhearPiece hN hs c k h
        · next c3 => exact zz_JhearAnswer hN hs c0 c1 c2 c3 k h
