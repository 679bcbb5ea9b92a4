/-! ## the invariant between calls; ns: how many messages were posted -/
def zz_I (ns : Nat) (S : zz_T) : Prop := zz_lk S ∧ zz_5 S ∧ zz_24 S ∧ zz_18 S ∧ zz_K ns S ∧ S 3 0 = nI ns ∧ ∀ m, m < 16 → mm_has S m → ∃ q, q < ns ∧ S 8 m = nI q
theorem zz_lkc {S T : zz_T} (h : T 6 = S 6) (k : zz_lk S) : zz_lk T := by
  unfold zz_lk
  rw [h]
  exact k
theorem zz_Ic {ns : Nat} {S T : zz_T} (h : ∀ f, f = 1 ∨ f = 2 ∨ f = 3 ∨ f = 5 ∨ f = 6 ∨ f = 8 ∨ f = 9 ∨ f = 10 ∨ f = 11 ∨ f = 14 ∨ f = 15 ∨ f = 24 → T f = S f) (h18 : zz_18 T) (h25 : ∀ p, p < 64 → T 25 p = nI 0 ∧ T 29 p = nI 0 ∧ T 30 p = nI 0) (k : zz_I ns S) : zz_I ns T := by
  obtain ⟨k1, k2, k3, k4, ⟨_, K2⟩, k6, k7⟩ := k
  refine ⟨zz_lkc (h 6 (by decide)) k1, zz_5of (h 5 (by decide)) k2, zz_24of (h 24 (by decide)) k3, h18, ⟨h25, ?_⟩, ?_, ?_⟩
  · have e : ∀ a b, mm_wt T a b = mm_wt S a b := fun a b => funext (fun m => propext (zz_wtc (h 1 (by decide)) (h 2 (by decide)) (h 9 (by decide)) (h 10 (by decide)) a b m))
    unfold zz_910 mm_isT mm_has at *
    rw [h 1 (by decide), h 2 (by decide), h 8 (by decide), h 9 (by decide), h 10 (by decide), h 11 (by decide), h 14 (by decide), h 15 (by decide)]
    refine ⟨fun a b ha hb => ?_, K2.2⟩
    rw [e]
    exact K2.1 a b ha hb
  · rw [h 3 (by decide)]
    exact k6
  · unfold mm_has at *
    rw [h 1 (by decide), h 8 (by decide)]
    exact k7
/-! ## clear -/
theorem zz_clro {s f : Nat} {S : zz_T} (h : f < 18 ∨ f = 23 ∨ f = 24 ∨ f = 26 ∨ 30 < f) : mm_clear s S f = S f := by
  unfold mm_clear
  rw [zz_itn (g := f) (fun k T => by unfold mm_clr2; exact zz_sn (by omega)), zz_itn (g := f) (fun k T => ?_)]
  unfold mm_clr1
  rw [zz_sn (by omega), zz_sn (by omega), zz_sn (by omega), zz_sn (by omega), zz_sn (by omega), zz_sn (by omega), zz_sn (by omega), zz_sn (by omega), zz_sn (by omega)]
theorem zz_clr {s : Nat} {S : zz_T} (h18 : zz_18 S) (h : ∀ p, p < 64 → S 25 p = nI 0 ∧ S 29 p = nI 0 ∧ S 30 p = nI 0) :
    zz_18 (mm_clear s S) ∧ ∀ p, p < 64 → mm_clear s S 25 p = nI 0 ∧ mm_clear s S 29 p = nI 0 ∧ mm_clear s S 30 p = nI 0 := by
  have e : ∀ f, f = 18 ∨ f = 25 ∨ f = 29 ∨ f = 30 → mm_clear s S f = zz_it (mm_clr1 s) 8 S f := by
    intro f hf
    unfold mm_clear
    rw [zz_itn (g := f) (fun k T => by unfold mm_clr2; exact zz_sn (by omega))]
  have key : zz_18 (zz_it (mm_clr1 s) 8 S) ∧ ∀ p, p < 64 → zz_it (mm_clr1 s) 8 S 25 p = nI 0 ∧ zz_it (mm_clr1 s) 8 S 29 p = nI 0 ∧ zz_it (mm_clr1 s) 8 S 30 p = nI 0 := by
    refine zz_itI (fun (_ : Nat) (T : zz_T) => zz_18 T ∧ ∀ p, p < 64 → T 25 p = nI 0 ∧ T 29 p = nI 0 ∧ T 30 p = nI 0) ⟨h18, h⟩ (fun k T _ hT => ?_)
    refine ⟨fun q hq => ?_, fun p hp => ⟨?_, ?_, ?_⟩⟩
    · unfold mm_clr1
      rw [zz_sn (by decide), zz_sn (by decide), zz_sn (by decide), zz_sn (by decide), zz_sn (by decide), zz_sn (by decide), zz_sn (by decide), zz_sn (by decide)]
      exact zz_18s (Or.inl rfl) hT.1 q hq
    · unfold mm_clr1
      rw [zz_sn (by decide), zz_sn (by decide), zz_sn (by decide), zz_sn (by decide), zz_se]
      by_cases c : p = s + 8 * k
      · rw [c, pk_us]
        rfl
      · rw [pk_un c, zz_sn (by decide), zz_sn (by decide), zz_sn (by decide), zz_sn (by decide)]
        exact (hT.2 p hp).1
    · unfold mm_clr1
      rw [zz_sn (by decide), zz_se]
      by_cases c : p = k + 8 * s
      · rw [c, pk_us]
        rfl
      · rw [pk_un c, zz_sn (by decide), zz_sn (by decide), zz_sn (by decide), zz_sn (by decide), zz_sn (by decide), zz_sn (by decide), zz_sn (by decide)]
        exact (hT.2 p hp).2.1
    · unfold mm_clr1
      rw [zz_se]
      by_cases c : p = k + 8 * s
      · rw [c, pk_us]
        rfl
      · rw [pk_un c, zz_sn (by decide), zz_sn (by decide), zz_sn (by decide), zz_sn (by decide), zz_sn (by decide), zz_sn (by decide), zz_sn (by decide), zz_sn (by decide)]
        exact (hT.2 p hp).2.2
  refine ⟨zz_18of (e 18 (by decide)) key.1, fun p hp => ?_⟩
  rw [e 25 (by decide), e 29 (by decide), e 30 (by decide)]
  exact key.2 p hp
theorem zz_Iforget {ns a : Nat} {S C : zz_T} (hC : C = mm_clear a S) (h : zz_I ns S) : zz_I ns (zz_s C 16 a (C 16 a + 1)) := by
  have hc := zz_clr (s := a) h.2.2.2.1 h.2.2.2.2.1.1
  have ho : ∀ f, f < 16 ∨ f = 24 → C f = S f := fun f hf => by rw [hC]; exact zz_clro (by omega)
  rw [← hC] at hc
  clear hC
  refine zz_Ic (S := S) (fun f hf => ?_) (zz_18of (zz_sn (by decide)) hc.1) (fun p hp => ?_) h
  · rw [zz_sn (by omega)]
    exact ho f (by omega)
  · rw [zz_sn (by decide), zz_sn (by decide), zz_sn (by decide)]
    exact hc.2 p hp
theorem zz_Iini : zz_I 0 mm_ini := by
  have key : (∀ f, f < 16 ∨ f = 24 → mm_ini f = zz_0 f) ∧ zz_18 mm_ini ∧ ∀ p, p < 64 → mm_ini 25 p = nI 0 ∧ mm_ini 29 p = nI 0 ∧ mm_ini 30 p = nI 0 := by
    unfold mm_ini
    refine zz_itI (fun (_ : Nat) (T : zz_T) => (∀ f, f < 16 ∨ f = 24 → T f = zz_0 f) ∧ zz_18 T ∧ ∀ p, p < 64 → T 25 p = nI 0 ∧ T 29 p = nI 0 ∧ T 30 p = nI 0) ⟨fun _ _ => rfl, fun q _ => Or.inr ⟨0, by decide, rfl⟩, fun p _ => ⟨rfl, rfl, rfl⟩⟩ (fun k T hk hT => ?_)
    unfold mm_ini1
    have hc := zz_clr (s := k) (S := zz_s T 16 k 1) (zz_18of (zz_sn (by decide)) hT.2.1) (fun p hp => by rw [zz_sn (by decide), zz_sn (by decide), zz_sn (by decide)]; exact hT.2.2 p hp)
    refine ⟨fun f hf => ?_, hc.1, hc.2⟩
    rw [zz_clro (by omega), zz_sn (by omega)]
    exact hT.1 f hf
  generalize mm_ini = T at key
  obtain ⟨h1, h2, h3⟩ := key
  have nb : ∀ k, k < 32 → ¬ zz_b (T 1 0) k := by
    intro k hk
    rw [h1 1 (by decide)]
    exact zb_b0 hk
  have nb2 : ∀ k, k < 32 → ¬ zz_b (T 2 0) k := by
    intro k hk
    rw [h1 2 (by decide)]
    exact zb_b0 hk
  refine ⟨fun a b _ hb => ?_, ⟨0, by decide, ?_⟩, fun s _ => ⟨0, by decide, ?_⟩, h2, ⟨h3, fun a b _ _ => ⟨0, 0, ?_, ?_, Nat.le_refl 0, by omega, ?_⟩, fun m _ => ⟨⟨0, by decide, ?_⟩, ⟨0, by decide, ?_⟩⟩, fun m hm z => absurd z (nb2 m (by omega)), fun m _ => ⟨0, by omega, ?_⟩, fun m m' hm _ _ z => absurd z (nb m (by omega))⟩, ?_, fun m hm z => absurd z (nb m (by omega))⟩
  · rw [h1 6 (by decide)]
    exact ⟨fun z => absurd z (zb_b0 (by omega)), zb_b0 (by omega)⟩
  · rw [h1 5 (by decide)]
    rfl
  · rw [h1 24 (by decide)]
    rfl
  · rw [h1 14 (by decide)]
    rfl
  · rw [h1 15 (by decide)]
    rfl
  · refine Nat.le_of_eq (Nat.eq_zero_of_not_pos (fun z => ?_))
    rw [Nat.zero_add] at z
    obtain ⟨i, hi, hp⟩ := zz_cnt1 16 (Nat.pos_iff_ne_zero.1 z)
    exact nb i (by omega) hp.1
  · rw [h1 9 (by decide)]
    rfl
  · rw [h1 10 (by decide)]
    rfl
  · rw [h1 11 (by decide)]
    rfl
  · rw [h1 3 (by decide)]
    rfl
theorem zz_ini0 : mm_ini 0 0 = 0 := by
  have e : mm_ini 0 = zz_0 0 := by
    unfold mm_ini
    refine zz_itn (fun k T => ?_) 8 zz_0
    unfold mm_ini1
    rw [zz_clro (by decide), zz_sn (by decide)]
  rw [e]
  rfl
/-! ## disturb, link, take -/
theorem zz_Idisturb {ns : Nat} {S T : zz_T} (hT : ∀ f, f < 38 ∨ 41 < f → T f = S f) (h : zz_I ns S) : zz_I ns T := by
  refine zz_Ic (S := S) (fun f hf => hT f (by omega)) (zz_18of (hT 18 (by decide)) h.2.2.2.1) (fun p hp => ?_) h
  rw [hT 25 (by decide), hT 29 (by decide), hT 30 (by decide)]
  exact h.2.2.2.2.1.1 p hp
theorem zz_linko {a b f : Nat} {up : Int32} {S : zz_T} (h : f ≠ 6) : mm_link a b up S f = S f := by
  unfold mm_link mm_link1
  rw [zz_sn h, zz_sn h]
theorem zz_Ilink {ns a b : Nat} {up : Int32} {S : zz_T} (ha : a < 8) (hb : b < 8) (hab : a ≠ b) (h : zz_I ns S) : zz_I ns (mm_link a b up S) := by
  obtain ⟨k1, k2, k3, k4, k5, k6, k7⟩ := h
  refine ⟨zz_lkl ha hb hab k1, zz_5of (zz_linko (by decide)) k2, zz_24of (zz_linko (by decide)) k3, zz_18of (zz_linko (by decide)) k4, zz_Kc (fun f hf => zz_linko (by omega)) k5, ?_, ?_⟩
  · rw [zz_linko (by decide)]
    exact k6
  · unfold mm_has at *
    rw [zz_linko (f := 1) (by decide), zz_linko (f := 8) (by decide)]
    exact k7
theorem zz_takeo {m f : Nat} {S : zz_T} (h1 : f ≠ 1) (h2 : f ≠ 2) : mm_take m S f = S f := by
  unfold mm_take
  rw [zz_sn h2, zz_sn h1]
theorem zz_takeb {m k : Nat} {S : zz_T} (hm : m < 16) (hk : k < 16) : (mm_has (mm_take m S) k ↔ mm_has S k ∧ k ≠ m) ∧ (mm_isT (mm_take m S) k ↔ mm_isT S k ∧ k ≠ m) := by
  constructor
  · show zz_b (mm_take m S 1 0) k ↔ zz_b (S 1 0) k ∧ k ≠ m
    unfold mm_take
    rw [zz_sn (by decide), zz_se, pk_us, zb_bclr (by omega) (by omega)]
  · show zz_b (mm_take m S 2 0) k ↔ zz_b (S 2 0) k ∧ k ≠ m
    unfold mm_take
    rw [zz_se, pk_us, zb_bclr (by omega) (by omega)]
theorem zz_Itake {ns m : Nat} {S : zz_T} (hm : m < 16) (ht : mm_isT S m) (h : zz_I ns S) : zz_I ns (mm_take m S) := by
  obtain ⟨k1, k2, k3, k4, ⟨K1, K2, K3, K4, K5, K6⟩, k6, k7⟩ := h
  have hh := fun k hk => (zz_takeb (S := S) (k := k) hm hk).1
  have hi := fun k hk => (zz_takeb (S := S) (k := k) hm hk).2
  have hw : ∀ a b k, k < 16 → (mm_wt (mm_take m S) a b k ↔ mm_wt S a b k) := by
    intro a b k hk
    unfold mm_wt
    rw [hh k hk, hi k hk, zz_takeo (f := 9) (by decide) (by decide), zz_takeo (f := 10) (by decide) (by decide)]
    constructor
    · rintro ⟨⟨z1, z2⟩, z3, z4⟩
      exact ⟨z1, fun y => z3 ⟨y, z2⟩, z4⟩
    · rintro ⟨z1, z2, z3⟩
      exact ⟨⟨z1, fun e => z2 (e ▸ ht)⟩, fun y => z2 y.1, z3⟩
  refine ⟨zz_lkc (zz_takeo (by decide) (by decide)) k1, zz_5of (zz_takeo (by decide) (by decide)) k2, zz_24of (zz_takeo (by decide) (by decide)) k3, zz_18of (zz_takeo (by decide) (by decide)) k4, ⟨?_, fun a b ha hb => ?_, ?_, fun k hk z => ?_, ?_, fun k k' hk hk' hne z z' => ?_⟩, ?_, fun k hk z => ?_⟩
  · rw [zz_takeo (f := 25) (by decide) (by decide), zz_takeo (f := 29) (by decide) (by decide), zz_takeo (f := 30) (by decide) (by decide)]
    exact K1
  · rw [zz_takeo (f := 14) (by decide) (by decide), zz_takeo (f := 15) (by decide) (by decide), zz_cntc 16 (fun k hk => hw (nI a) (nI b) k hk)]
    exact K2 a b ha hb
  · unfold zz_910
    rw [zz_takeo (f := 9) (by decide) (by decide), zz_takeo (f := 10) (by decide) (by decide)]
    exact K3
  · have := (hi k hk).1 z
    exact (hh k hk).2 ⟨K4 k hk this.1, this.2⟩
  · rw [zz_takeo (f := 11) (by decide) (by decide)]
    exact K5
  · rw [zz_takeo (f := 8) (by decide) (by decide), zz_takeo (f := 9) (by decide) (by decide), zz_takeo (f := 10) (by decide) (by decide)]
    obtain ⟨y1, y2⟩ := K6 k k' hk hk' hne ((hh k hk).1 z).1 ((hh k' hk').1 z').1
    refine ⟨y1, fun e1 e2 e3 e4 => y2 e1 e2 ((hi k hk).1 e3).1 (fun e5 => e4 ((hi k' hk').2 ⟨e5, ((hh k' hk').1 z').2⟩))⟩
  · rw [zz_takeo (f := 3) (by decide) (by decide)]
    exact k6
  · rw [zz_takeo (f := 8) (by decide) (by decide)]
    exact k7 k hk ((hh k hk).1 z).1
/-! ## post -/
theorem zz_post1 {S : zz_T} {a b m d : Nat} (ha : a < 8) (hb : b < 8) (hm : m < 16) (hd : d ≤ 1) (e0 : S 0 0 = nI d) : ∀ Y : zz_T, Y = mm_post1 a b m S →
    (∀ f, f ≠ 1 → f ≠ 2 → f ≠ 3 → f ≠ 8 → f ≠ 9 → f ≠ 10 → f ≠ 11 → Y f = S f) ∧ Y 1 0 = S 1 0 ||| ((1 : Int32) <<< (nI m &&& 31)) ∧ Y 2 0 = S 2 0 &&& (((1 : Int32) <<< (nI m &&& 31)) ^^^ (-1)) ∧
    Y 8 = upd (S 8) m (S 3 0) ∧ Y 3 0 = S 3 0 + 1 ∧ Y 9 = upd (S 9) m (nI a) ∧ Y 10 = upd (S 10) m (nI b) ∧ Y 11 = upd (S 11) m (nI d) := by
  intro Y hY
  unfold mm_post1 at hY
  subst hY
  refine ⟨fun f g1 g2 g3 g8 g9 g10 g11 => ?_, ?_, ?_, ?_, ?_, ?_, ?_, ?_⟩
  · rw [zz_sn g11, zz_sn g10, zz_sn g9, zz_sn g3, zz_sn g8, zz_sn g2, zz_sn g1]
  · rw [zz_sn (by decide), zz_sn (by decide), zz_sn (by decide), zz_sn (by decide), zz_sn (by decide), zz_sn (by decide), zz_se, pk_us]
  · rw [zz_sn (by decide), zz_sn (by decide), zz_sn (by decide), zz_sn (by decide), zz_sn (by decide), zz_se, pk_us]
  · rw [zz_sn (by decide), zz_sn (by decide), zz_sn (by decide), zz_sn (by decide), zz_se, zz_sn (by decide), zz_sn (by decide)]
  · rw [zz_sn (by decide), zz_sn (by decide), zz_sn (by decide), zz_se, pk_us]
  · rw [zz_sn (by decide), zz_sn (by decide), zz_se, zz_sn (by decide), zz_sn (by decide), zz_sn (by decide), zz_sn (by decide), zz_8 a (by omega)]
  · rw [zz_sn (by decide), zz_se, zz_sn (by decide), zz_sn (by decide), zz_sn (by decide), zz_sn (by decide), zz_sn (by decide), zz_8 b (by omega)]
  · rw [zz_se, zz_sn (by decide), zz_sn (by decide), zz_sn (by decide), zz_sn (by decide), zz_sn (by decide), zz_sn (by decide), e0, zz_8 d (by omega)]
theorem zz_post2 {Y : zz_T} {m d : Nat} (hd : d ≤ 1) : ∀ X : zz_T, X = zz_it (mm_post2 m) d Y → (∀ f, f ≠ 12 → X f = Y f) ∧ (∀ q, q < m * 8 ∨ m * 8 + d ≤ q → X 12 q = Y 12 q) ∧ (0 < d → X 12 (m * 8) = (Y 7 0).toInt8.toInt32) := by
  intro X hX
  have : d = 0 ∨ d = 1 := by omega
  rcases this with rfl | rfl
  · have e : X = Y := hX
    rw [e]
    exact ⟨fun _ _ => rfl, fun _ _ => rfl, fun z => absurd z (by omega)⟩
  · have e : X = zz_s Y 12 (m * 8 + 0) (Y 7 0).toInt8.toInt32 := hX
    rw [e]
    refine ⟨fun f hf => zz_sn hf, fun q hq => ?_, fun _ => ?_⟩
    · rw [zz_se, pk_un (by omega)]
    · rw [zz_se, Nat.add_zero, pk_us]
theorem zz_post {S : zz_T} {a b m d : Nat} (ha : a < 8) (hb : b < 8) (hm : m < 16) (hd : d ≤ 1) (e0 : S 0 0 = nI d) : ∀ T : zz_T, T = mm_post a b m d S →
    (∀ f, f ≠ 0 → f ≠ 1 → f ≠ 2 → f ≠ 3 → f ≠ 8 → f ≠ 9 → f ≠ 10 → f ≠ 11 → f ≠ 12 → T f = S f) ∧ T 0 0 = 0 ∧ (∀ k, k < 16 → (mm_has T k ↔ mm_has S k ∨ k = m)) ∧ (∀ k, k < 16 → (mm_isT T k ↔ mm_isT S k ∧ k ≠ m)) ∧
    T 8 = upd (S 8) m (S 3 0) ∧ T 3 0 = S 3 0 + 1 ∧ T 9 = upd (S 9) m (nI a) ∧ T 10 = upd (S 10) m (nI b) ∧ T 11 = upd (S 11) m (nI d) ∧ (∀ q, q < m * 8 ∨ m * 8 + d ≤ q → T 12 q = S 12 q) ∧ (0 < d → T 12 (m * 8) = (S 7 0).toInt8.toInt32) := by
  intro T hT
  obtain ⟨p0, p1, p2, p8, p3, p9, p10, p11⟩ := zz_post1 (S := S) ha hb hm hd e0 _ rfl
  obtain ⟨q0, q1, q2⟩ := zz_post2 (Y := mm_post1 a b m S) (m := m) hd _ rfl
  unfold mm_post at hT
  generalize zz_it (mm_post2 m) d (mm_post1 a b m S) = X at hT q0 q1 q2
  generalize mm_post1 a b m S = Y at p0 p1 p2 p8 p3 p9 p10 p11 q0 q1 q2
  have r : ∀ f, f ≠ 12 → f ≠ 0 → T f = Y f := fun f h1 h2 => by rw [hT, zz_sn h2]; exact q0 f h1
  have r0 : T 0 0 = 0 := by rw [hT, zz_se, pk_us]
  have r12 : T 12 = X 12 := by rw [hT, zz_sn (by decide)]
  clear hT
  refine ⟨fun f g0 g1 g2 g3 g8 g9 g10 g11 g12 => (r f g12 g0).trans (p0 f g1 g2 g3 g8 g9 g10 g11), r0, fun k hk => ?_, fun k hk => ?_, (r 8 (by decide) (by decide)).trans p8, ?_, (r 9 (by decide) (by decide)).trans p9, (r 10 (by decide) (by decide)).trans p10, (r 11 (by decide) (by decide)).trans p11, fun q hq => ?_, fun z => ?_⟩
  · show zz_b (T 1 0) k ↔ zz_b (S 1 0) k ∨ k = m
    rw [r 1 (by decide) (by decide), p1, zb_bor (by omega), zb_b1 (by omega) (by omega)]
  · show zz_b (T 2 0) k ↔ zz_b (S 2 0) k ∧ k ≠ m
    rw [r 2 (by decide) (by decide), p2, zb_bclr (by omega) (by omega)]
  · rw [r 3 (by decide) (by decide)]
    exact p3
  · rw [r12, q1 q hq, p0 12 (by decide) (by decide) (by decide) (by decide) (by decide) (by decide) (by decide)]
  · rw [r12, q2 z, p0 7 (by decide) (by decide) (by decide) (by decide) (by decide) (by decide) (by decide)]
theorem zz_Ipost {S : zz_T} {ns a b m d : Nat} (hns : ns < 2 ^ 30) (ha : a < 8) (hb : b < 8) (hm : m < 16) (hd : d ≤ 1) (e0 : S 0 0 = nI d) (hn : ¬ mm_has S m) (h : zz_I ns S) : ∀ T : zz_T, T = mm_post a b m d S → zz_I (ns + 1) T := by
  intro T hT
  obtain ⟨F, _, hh, hi, F8, F3, F9, F10, F11, _, _⟩ := zz_post ha hb hm hd e0 T hT
  clear hT
  obtain ⟨k1, k2, k3, k4, ⟨K1, K2, K3, K4, K5, K6⟩, k6, k7⟩ := h
  have FF : ∀ f, f = 5 ∨ f = 6 ∨ f = 14 ∨ f = 15 ∨ f = 18 ∨ f = 24 ∨ f = 25 ∨ f = 29 ∨ f = 30 → T f = S f := fun f hf => F f (by omega) (by omega) (by omega) (by omega) (by omega) (by omega) (by omega) (by omega) (by omega)
  have hm' : ∀ k, k < 16 → mm_isT T k → k ≠ m ∧ mm_isT S k := fun k hk z => ⟨((hi k hk).1 z).2, ((hi k hk).1 z).1⟩
  have hmT : ¬ mm_isT S m := fun z => hn (K4 m hm z)
  refine ⟨zz_lkc (FF 6 (by decide)) k1, zz_5of (FF 5 (by decide)) k2, zz_24of (FF 24 (by decide)) k3, zz_18of (FF 18 (by decide)) k4, ⟨?_, fun a' b' ha' hb' => ?_, fun k hk => ⟨?_, ?_⟩, fun k hk z => ?_, fun k hk => ?_, fun k k' hk hk' hne z z' => ?_⟩, ?_, fun k hk z => ?_⟩
  · rw [FF 25 (by decide), FF 29 (by decide), FF 30 (by decide)]
    exact K1
  · obtain ⟨c, d', y1, y2, y3, y4, y5⟩ := K2 a' b' ha' hb'
    have hle : zz_cnt (mm_wt T (nI a') (nI b')) 16 ≤ zz_cnt (mm_wt S (nI a') (nI b')) 16 + 1 := by
      have e1 : zz_cnt (fun k => k = m) 16 = 1 := zz_cnt1e 16 m hm rfl (fun k _ z => z)
      have e2 : zz_cnt (fun k => mm_wt S (nI a') (nI b') k ∨ k = m) 16 = zz_cnt (mm_wt S (nI a') (nI b')) 16 + zz_cnt (fun k => k = m) 16 := zz_cnta 16 (fun k _ => Iff.rfl) (fun k _ z y => hn (by rw [← y]; exact z.1))
      rw [e1] at e2
      rw [← e2]
      refine zz_cntm 16 (fun k hk z => ?_)
      obtain ⟨x1, x2, x3, x4⟩ := z
      rcases (hh k hk).1 x1 with y | y
      · by_cases e : k = m
        · exact Or.inr e
        · rw [F9, pk_un e] at x3
          rw [F10, pk_un e] at x4
          exact Or.inl ⟨y, fun w => x2 ((hi k hk).2 ⟨w, e⟩), x3, x4⟩
      · exact Or.inr y
    rw [FF 14 (by decide), FF 15 (by decide)]
    exact ⟨c, d', y1, y2, y3, y4, by omega⟩
  · rw [F9]
    by_cases e : k = m
    · rw [e, pk_us]
      exact ⟨a, ha, rfl⟩
    · rw [pk_un e]
      exact (K3 k hk).1
  · rw [F10]
    by_cases e : k = m
    · rw [e, pk_us]
      exact ⟨b, hb, rfl⟩
    · rw [pk_un e]
      exact (K3 k hk).2
  · exact (hh k hk).2 (Or.inl (K4 k hk ((hi k hk).1 z).1))
  · rw [F11]
    by_cases e : k = m
    · rw [e, pk_us]
      exact ⟨d, hd, rfl⟩
    · rw [pk_un e]
      exact K5 k hk
  · rw [F8]
    have ser : ∀ j, j < 16 → mm_has S j → S 8 j < nI ns := by
      intro j hj y
      obtain ⟨q, hq, eq⟩ := k7 j hj y
      rw [eq]
      exact nI_lt hq (by omega)
    by_cases e : k = m
    · have e' : k' ≠ m := fun z => hne (e.trans z.symm)
      have y := (hh k' hk').1 z'
      have s1 := ser k' hk' (y.resolve_right e')
      rw [e, pk_us, pk_un e', k6]
      exact ⟨fun z => by rw [z] at s1; exact Int32.lt_irrefl s1, fun _ _ z _ => absurd rfl (hm' m hm z).1⟩
    · have y0 := ((hh k hk).1 z).resolve_right e
      by_cases e' : k' = m
      · have s1 := ser k hk y0
        rw [e', pk_us, pk_un e, k6]
        exact ⟨Int32.ne_of_lt s1, fun _ _ _ _ => s1⟩
      · rw [pk_un e, pk_un e', F9, F10, pk_un e, pk_un e', pk_un e, pk_un e']
        obtain ⟨x1, x2⟩ := K6 k k' hk hk' hne y0 (((hh k' hk').1 z').resolve_right e')
        exact ⟨x1, fun e1 e2 e3 e4 => x2 e1 e2 (hm' k hk e3).2 (fun e5 => e4 ((hi k' hk').2 ⟨e5, e'⟩))⟩
  · rw [F3, k6, nI_1]
  · rw [F8]
    by_cases e : k = m
    · rw [e, pk_us, k6]
      exact ⟨ns, by omega, rfl⟩
    · rw [pk_un e]
      obtain ⟨q, hq, eq⟩ := k7 k hk (((hh k hk).1 z).resolve_right e)
      exact ⟨q, by omega, eq⟩
