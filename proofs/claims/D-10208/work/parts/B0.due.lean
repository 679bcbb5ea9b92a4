/-! ## when frames are due, by the orders used -/
def ro_3 (M : Nat) (S T : zz_T) : Prop := T 4 = S 4 ∧ ∀ i, i < 1024 → ¬ T 32 i = 0 → rf_ss S T i ∨ ∃ e, 1 ≤ e ∧ e ≤ M ∧ T 35 i = S 4 0 + nI e
theorem ro_3t {M : Nat} {S T U : zz_T} (h : ro_3 M S T) (g : ro_3 M T U) : ro_3 M S U := by
  refine ⟨g.1.trans h.1, fun i hi hu => ?_⟩
  rcases g.2 i hi hu with z | ⟨e, e1, e2, e3⟩
  · rcases h.2 i hi (by rw [← z.1]; exact hu) with y | ⟨e, e1, e2, e3⟩
    · exact Or.inl (rf_sst y z)
    · exact Or.inr ⟨e, e1, e2, by rw [z.2.2.2.1]; exact e3⟩
  · exact Or.inr ⟨e, e1, e2, by rw [e3, h.1]⟩
theorem ro_3e {M : Nat} {S T : zz_T} (h : ∀ f, f = 4 ∨ (31 < f ∧ f < 37) → T f = S f) : ro_3 M S T :=
  ⟨h 4 (by omega), fun i _ _ => Or.inl ⟨by rw [h 32 (by omega)], by rw [h 33 (by omega)], by rw [h 34 (by omega)], by rw [h 35 (by omega)], fun k _ => by rw [h 36 (by omega)]⟩⟩
theorem ro_3f {M e : Nat} {s to : Int32} {S : zz_T} (h1 : 1 ≤ e) (h2 : e ≤ M) : ro_3 M S (mm_fly s to (S 4 0 + nI e) S) := by
  have o : ∀ f, f ≠ 36 → mm_fly s to (S 4 0 + nI e) S f = (zz_s (zz_s (zz_s (zz_s (zz_s S 5 0 (nI (((S 5 0).toNatClampNeg + 1) % 1024))) 32 (S 5 0).toNatClampNeg 1) 33 (S 5 0).toNatClampNeg s.toInt8.toInt32) 34 (S 5 0).toNatClampNeg to.toInt8.toInt32) 35 (S 5 0).toNatClampNeg (S 4 0 + nI e)) f := fun f hf => by
    unfold mm_fly
    exact zz_itn (fun k T => zz_sn hf) 12 _
  generalize hj : (S 5 0).toNatClampNeg = j at o
  have e4 : mm_fly s to (S 4 0 + nI e) S 4 = S 4 := by
    rw [o 4 (by decide), zz_sn (by decide), zz_sn (by decide), zz_sn (by decide), zz_sn (by decide), zz_sn (by decide)]
  refine ⟨e4, fun i hi hu => ?_⟩
  by_cases c : i = j
  · refine Or.inr ⟨e, h1, h2, ?_⟩
    rw [o 35 (by decide), zz_se, c, pk_us]
  · refine Or.inl ⟨?_, ?_, ?_, ?_, fun k hk => ?_⟩
    · rw [o 32 (by decide), zz_sn (by decide), zz_sn (by decide), zz_sn (by decide), zz_se, pk_un c, zz_sn (by decide)]
    · rw [o 33 (by decide), zz_sn (by decide), zz_sn (by decide), zz_se, pk_un c, zz_sn (by decide), zz_sn (by decide)]
    · rw [o 34 (by decide), zz_sn (by decide), zz_se, pk_un c, zz_sn (by decide), zz_sn (by decide), zz_sn (by decide)]
    · rw [o 35 (by decide), zz_se, pk_un c, zz_sn (by decide), zz_sn (by decide), zz_sn (by decide), zz_sn (by decide)]
    · unfold mm_fly
      rw [hj]
      refine (zz_itI (fun (_ : Nat) (T : zz_T) => T 36 (i * 12 + k) = S 36 (i * 12 + k)) ?_ (fun m T hm hT => ?_))
      · rw [zz_sn (by decide), zz_sn (by decide), zz_sn (by decide), zz_sn (by decide), zz_sn (by decide)]
      · show zz_s T 36 (j * 12 + m) (T 42 m) 36 (i * 12 + k) = _
        rw [zz_se, pk_un (by omega)]
        exact hT
/-- orders: how often and how late -/
def ro_I (S : zz_T) (x : Int32 × Int32 × zz_T) : Prop := ∃ a b q, (a = 0 ∨ a = 1) ∧ x.2.1 = nI (1 + 5 * a) ∧ x.1 = nI q ∧ ((q ≤ 1 ∧ b = 0) ∨ (q = 2 ∧ b = 1) ∨ (q = 4 ∧ b = 2)) ∧ rv_o S + a + b ≤ rv_o x.2.2 ∧ (rv_o x.2.2 = rv_o S → q = 1)
theorem ro_Io {S : zz_T} {s num : Int32} {i : Nat} {x : Int32 × Int32 × zz_T} (hi : i < 16) (h : ro_I S x) (hle : rv_o S ≤ rv_o x.2.2) : ro_I S (mm_ord s num i x) ∧ rv_o S ≤ rv_o (mm_ord s num i x).2.2 := by
  by_cases c : mm_oc s num i x.2.2
  · have up : rv_o x.2.2 + 1 ≤ rv_o (zz_s x.2.2 38 i 0) := by
      refine zz_cnts (P := fun j => x.2.2 38 j = 0) (Q := fun j => zz_s x.2.2 38 i 0 38 j = 0) 16 (fun k _ z => ?_) i hi ?_ c.1
      · show zz_s x.2.2 38 i 0 38 k = 0
        rw [zz_se]
        by_cases e : k = i
        · rw [e, pk_us]
        · rw [pk_un e]; exact z
      · show zz_s x.2.2 38 i 0 38 i = 0
        rw [zz_se, pk_us]
    rw [mm_ordP c]
    refine ⟨?_, by show rv_o S ≤ rv_o (zz_s x.2.2 38 i 0); omega⟩
    obtain ⟨a, b, q, ha, hd, ht, hb, ho, hq⟩ := h
    show ∃ a b q, (a = 0 ∨ a = 1) ∧ mm_d (x.2.2 41 i) x.2.1 = nI (1 + 5 * a) ∧ mm_t (x.2.2 41 i) x.1 = nI q ∧ ((q ≤ 1 ∧ b = 0) ∨ (q = 2 ∧ b = 1) ∨ (q = 4 ∧ b = 2)) ∧ rv_o S + a + b ≤ rv_o (zz_s x.2.2 38 i 0) ∧ (rv_o (zz_s x.2.2 38 i 0) = rv_o S → q = 1)
    have nz : rv_o (zz_s x.2.2 38 i 0) ≠ rv_o S := by omega
    unfold mm_d mm_t
    by_cases k0 : x.2.2 41 i = 0
    · rw [if_pos (show x.2.2 41 i ≤ 1 by rw [k0]; decide), if_pos k0]
      exact ⟨a, 0, 0, ha, hd, rfl, Or.inl ⟨by omega, rfl⟩, by omega, fun z => absurd z nz⟩
    · rw [if_neg k0]
      by_cases k1 : x.2.2 41 i = 1
      · rw [if_pos (show x.2.2 41 i ≤ 1 by rw [k1]; decide), if_pos k1, ht]
        rcases hb with ⟨q1, b0⟩ | ⟨q2, b1⟩ | ⟨q4, b2⟩
        · have : q = 0 ∨ q = 1 := by omega
          rcases this with rfl | rfl
          · exact ⟨a, 0, 0, ha, hd, by decide, Or.inl ⟨by omega, rfl⟩, by omega, fun z => absurd z nz⟩
          · exact ⟨a, 1, 2, ha, hd, by decide, Or.inr (Or.inl ⟨rfl, rfl⟩), by omega, fun z => absurd z nz⟩
        · subst q2
          exact ⟨a, 2, 4, ha, hd, by decide, Or.inr (Or.inr ⟨rfl, rfl⟩), by omega, fun z => absurd z nz⟩
        · subst q4
          exact ⟨a, 2, 4, ha, hd, by decide, Or.inr (Or.inr ⟨rfl, rfl⟩), by omega, fun z => absurd z nz⟩
      · rw [if_neg k1]
        by_cases k2 : x.2.2 41 i ≤ 1
        · rw [if_pos k2]
          exact ⟨a, b, q, ha, hd, ht, hb, by omega, fun z => absurd z nz⟩
        · rw [if_neg k2]
          exact ⟨1, b, q, Or.inr rfl, rfl, ht, hb, by omega, fun z => absurd z nz⟩
  · rw [mm_ordN c]
    exact ⟨h, hle⟩
def ro_2 (S T : zz_T) : Prop := ro_O S T ∧ T 4 = S 4 ∧ ∀ i, i < 1024 → ¬ T 32 i = 0 → rf_ss S T i ∨ ∃ e, 1 ≤ e ∧ e + 2 * rv_o S ≤ 4 + 2 * rv_o T ∧ (e = 1 ∨ rv_o S < rv_o T) ∧ T 35 i = S 4 0 + nI e
theorem ro_2t {S T U : zz_T} (h : ro_2 S T) (g : ro_2 T U) : ro_2 S U := by
  have m1 := (rv_O h.1).1
  have m2 := (rv_O g.1).1
  refine ⟨ro_t h.1 g.1, g.2.1.trans h.2.1, fun i hi hu => ?_⟩
  rcases g.2.2 i hi hu with z | ⟨e, e1, e2, e3, e4⟩
  · rcases h.2.2 i hi (by rw [← z.1]; exact hu) with y | ⟨e, e1, e2, e3, e4⟩
    · exact Or.inl (rf_sst y z)
    · exact Or.inr ⟨e, e1, by omega, by omega, by rw [z.2.2.2.1]; exact e4⟩
  · exact Or.inr ⟨e, e1, by omega, by omega, by rw [e4, h.2.1]⟩
theorem ro_2e {S T : zz_T} (h : ∀ f, f = 4 ∨ (31 < f ∧ f < 37) ∨ f = 38 → T f = S f) : ro_2 S T :=
  ⟨ro_e (h 38 (by omega)), h 4 (by omega), fun i _ _ => Or.inl ⟨by rw [h 32 (by omega)], by rw [h 33 (by omega)], by rw [h 34 (by omega)], by rw [h 35 (by omega)], fun k _ => by rw [h 36 (by omega)]⟩⟩
theorem ro_2send {s : Nat} {to : Int32} {S : zz_T} : ro_2 S (mm_send s to S) := by
  have s0 : rv_o (zz_s S 37 s (S 37 s + 1)) = rv_o S := by
    unfold rv_o
    rw [zz_sn (by decide)]
  have hI : ro_I S (mm_ords s S) ∧ rv_o S ≤ rv_o (mm_ords s S).2.2 := by
    unfold mm_ords
    refine zz_itI (fun (_ : Nat) (x : Int32 × Int32 × zz_T) => ro_I S x ∧ rv_o S ≤ rv_o x.2.2) ⟨⟨0, 0, 1, Or.inl rfl, rfl, rfl, Or.inl ⟨Nat.le_refl _, rfl⟩, ?_, fun _ => rfl⟩, ?_⟩ (fun k x hk hx => ro_Io hk hx.1 hx.2)
    · show rv_o S + 0 + 0 ≤ rv_o (zz_s S 37 s (S 37 s + 1))
      omega
    · show rv_o S ≤ rv_o (zz_s S 37 s (S 37 s + 1))
      omega
  obtain ⟨⟨a, b, q, ha, hd, ht, hb, ho, hq⟩, hle⟩ := hI
  have oo : ∀ f, f ≠ 37 → f ≠ 38 → (mm_ords s S).2.2 f = S f := by
    intro f f1 f2
    unfold mm_ords
    refine zz_itI (fun (_ : Nat) (x : Int32 × Int32 × zz_T) => x.2.2 f = S f) (show zz_s S 37 s (S 37 s + 1) f = S f from zz_sn f1) (fun k x _ hx => ?_)
    rw [zz_ordo f2]
    exact hx
  have hO := ro_send (s := s) (to := to) (S := S)
  have e38 : mm_send s to S 38 = (mm_ords s S).2.2 38 := by
    unfold mm_send
    exact zz_itn (g := 38) (fun k T => ro_fly) _ _
  have eo : rv_o (mm_send s to S) = rv_o (mm_ords s S).2.2 := by
    unfold rv_o
    rw [e38]
  have main : ro_3 (5 * a + q) S (mm_send s to S) := by
    unfold mm_send
    rw [hd, ht, nI_clamp (show q < 2 ^ 31 by omega)]
    generalize (mm_ords s S).2.2 = Y at oo
    refine ro_3t (ro_3e (T := Y) (fun f hf => oo f (by omega) (by omega))) ?_
    refine zz_itI (fun (_ : Nat) (T : zz_T) => ro_3 (5 * a + q) Y T) (ro_3e (fun _ _ => rfl)) (fun k T hk hT => ro_3t hT ?_)
    have e : T 4 0 + nI (1 + 5 * a) + nI k = T 4 0 + nI (1 + 5 * a + k) := by
      rw [Int32.add_assoc, nI_add]
    rw [e]
    exact ro_3f (by omega) (by omega)
  refine ⟨hO, main.1, fun i hi hu => ?_⟩
  rcases main.2 i hi hu with z | ⟨e, e1, e2, e3⟩
  · exact Or.inl z
  · refine Or.inr ⟨e, e1, ?_, ?_, e3⟩
    · rw [eo]
      omega
    · rw [eo]
      by_cases c : rv_o (mm_ords s S).2.2 = rv_o S
      · have := hq c
        omega
      · omega

theorem ro_2s {S : zz_T} {F i : Nat} {v : Int32} (h : F ≠ 4 ∧ (F ≤ 31 ∨ 36 < F) ∧ F ≠ 38) : ro_2 S (zz_s S F i v) := ro_2e (fun f hf => zz_sn (by omega))
theorem ro_2o {S T : zz_T} (h : ∀ f, f ≠ 18 → f ≠ 19 → f ≠ 20 → f ≠ 22 → f ≠ 23 → f ≠ 24 → f ≠ 42 → T f = S f) : ro_2 S T := ro_2e (fun f hf => h f (by omega) (by omega) (by omega) (by omega) (by omega) (by omega) (by omega))
theorem ro_2beg {a b c : Int32} {S : zz_T} : ro_2 S (mm_beg a b c S) := ro_2o (fun f _ _ _ _ _ _ h => zz_bego h)
theorem ro_2cpy {S : zz_T} : ro_2 S (mm_cpy S) := ro_2o (fun f _ _ _ _ _ _ h => ro_cpy h)
theorem ro_2see {s : Nat} {a b : Int32} {S : zz_T} : ro_2 S (mm_see s a b S) := by
  unfold mm_see
  exact ro_2t (ro_2t (ro_2s (by omega)) (ro_2s (by omega))) (ro_2s (by omega))
theorem ro_2learn {s g : Nat} {a b c : Int32} {S : zz_T} : ro_2 S (mm_learn s g a b c S) := by
  unfold mm_learn
  split
  · unfold mm_lnS
    exact ro_2t (ro_2t (ro_2s (by omega)) (ro_2s (by omega))) (ro_2s (by omega))
  · exact ro_2e (fun _ _ => rfl)
theorem ro_2r {S : zz_T} : ro_2 S S := ro_2e (fun _ _ => rfl)
theorem ro_2tell {s : Nat} {S : zz_T} : ro_2 S (mm_tell s S) := by
  unfold mm_tell
  refine zz_itI (fun (_ : Nat) (T : zz_T) => ro_2 S T) ro_2r (fun k T _ hT => ro_2t hT ?_)
  unfold mm_tl
  split
  · exact ro_2send
  · exact ro_2r
theorem ro_2give {s g : Nat} {S : zz_T} : ro_2 S (mm_give s g S) := by
  unfold mm_give mm_lossW
  exact ro_2t (ro_2t (ro_2t (ro_2s (by omega)) ro_2beg) (ro_2s (by omega))) ro_2tell
theorem ro_2pass {s : Nat} {S : zz_T} : ro_2 S (mm_pass s S) := by
  unfold mm_pass
  split
  · exact ro_2r
  · split
    · exact ro_2send
    · exact ro_2give
theorem ro_2hw {s g : Nat} {S : zz_T} : ro_2 S (mm_hw s g S) := by
  unfold mm_hw
  split
  · exact ro_2r
  · split
    · exact ro_2r
    · exact ro_2give
theorem ro_2carry {s : Nat} {S : zz_T} : ro_2 S (mm_carry s S) := by
  have e : ro_2 S (mm_lifeW S) := by
    unfold mm_lifeW
    exact ro_2t ro_2cpy (ro_2s (by omega))
  unfold mm_carry
  split
  · exact e
  · exact ro_2t e ro_2pass
theorem ro_2ask {s g : Nat} {S : zz_T} : ro_2 S (mm_ask s g S) := by
  unfold mm_ask
  split
  · refine ro_2t ?_ ro_2tell
    unfold mm_ask3 mm_ask2
    refine ro_2t (ro_2t (ro_2t (ro_2t (ro_2t ?_ ro_2see) ro_2beg) (ro_2s (by omega))) (ro_2s (by omega))) (ro_2s (by omega))
    unfold mm_ask0
    exact ro_2t (ro_2t (ro_2s (by omega)) (ro_2s (by omega))) (ro_2s (by omega))
  · exact ro_2r
theorem ro_2ha2 {s : Nat} {b : Int32} {S : zz_T} : ro_2 S (mm_ha2 s b S) := by
  unfold mm_ha2 mm_ha1
  exact ro_2t ro_2see ro_2learn
theorem ro_2hearAsk {s : Nat} {b : Int32} {S : zz_T} : ro_2 S (mm_hearAsk s b S) := by
  unfold mm_hearAsk
  split
  · exact ro_2r
  · split
    · refine ro_2t (ro_2t ?_ (ro_2s (by omega))) ro_2pass
      unfold mm_haT
      exact ro_2t (ro_2t ro_2ha2 (ro_2s (by omega))) ro_2beg
    · exact ro_2t (ro_2t (ro_2t ro_2ha2 ro_2cpy) (ro_2s (by omega))) ro_2tell
theorem ro_2hearTell {s : Nat} {b : Int32} {S : zz_T} : ro_2 S (mm_hearTell s b S) := by
  have e : ro_2 S (mm_ht1 s b S) := ro_2learn
  unfold mm_hearTell
  split
  · exact e
  · unfold mm_ht2
    exact ro_2t (ro_2t (ro_2t e ro_2cpy) (ro_2s (by omega))) ro_2pass
theorem ro_2hearLoss {s : Nat} {b : Int32} {S : zz_T} : ro_2 S (mm_hearLoss s b S) := by
  unfold mm_hearLoss
  split
  · exact ro_2give
  · exact ro_2r
theorem ro_2hearPiece {s : Nat} {S : zz_T} : ro_2 S (mm_hearPiece s S) := by
  unfold mm_hearPiece
  split
  · unfold mm_hp92
    refine ro_2t (ro_2e (fun f hf => ?_)) ro_2pass
    rw [ro_anW (by omega)]
    by_cases z : f = 38
    · rw [z, ro_hpT]
    · exact rf_hpTo (by omega)
  · exact ro_2carry
theorem ro_2hearAnswer {s : Nat} {S : zz_T} : ro_2 S (mm_hearAnswer s S) := by
  unfold mm_hearAnswer
  split
  · split
    · unfold mm_anS
      exact ro_2t (ro_2t (ro_2t (ro_2s (by omega)) (ro_2s (by omega))) (ro_2s (by omega))) (ro_2s (by omega))
    · exact ro_2r
  · exact ro_2carry
theorem ro_2hear {s : Nat} {b : Int32} {S : zz_T} : ro_2 S (mm_hear s b S) := by
  unfold mm_hear
  split
  · exact ro_2hearAsk
  · split
    · exact ro_2hearTell
    · split
      · exact ro_2hearLoss
      · split
        · exact ro_2hearPiece
        · exact ro_2hearAnswer
theorem ro_2u142 {a b : Nat} {m : Option Nat} {T : zz_T} : ro_2 T (mm_u142 a b m T) := by
  unfold mm_u142
  split
  · unfold mm_u187
    exact ro_2t (ro_2hw (s := a) (g := b)) (ro_2t (ro_2t (ro_2t (ro_2e (fun f hf => zz_uWo (by omega))) (ro_2s (by omega))) (ro_2s (by omega))) ro_2pass)
  · exact ro_2t (ro_2hw (s := a) (g := b)) (ro_2t (ro_2s (by omega)) ro_2ask)
theorem ro_2u108 {a b : Nat} {m : Option Nat} {z0 : Int32} {S : zz_T} : ro_2 S (mm_u108 a b m z0 S) := by
  have e : ro_2 S (mm_uA (a + 8 * b) z0 S) := ro_2s (by omega)
  unfold mm_u108
  split
  · exact ro_2t e ro_2u142
  · split
    · exact ro_2t e (ro_2t ro_2hw (ro_2t ro_2give (ro_2t (ro_2s (by omega)) ro_2u142)))
    · exact ro_2t e (ro_2t ro_2hw ro_2u142)
theorem ro_2urge {a b : Nat} {S : zz_T} : ro_2 S (mm_urge a b S) := by
  unfold mm_urge
  split
  · unfold mm_u46
    split
    · unfold mm_u82
      split
      · exact ro_2u108
      · exact ro_2u108
    · exact ro_2r
  · exact ro_2r
