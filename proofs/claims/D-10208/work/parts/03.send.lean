/-! ## what a loop of stores leaves as it is; the ring's place -/
theorem zz_itn {f : Nat → zz_T → zz_T} {g : Nat} (h : ∀ k T, f k T g = T g) (n : Nat) (S : zz_T) : zz_it f n S g = S g := by
  induction n with
  | zero => rfl
  | succ n ih => exact (h n _).trans ih
theorem zz_itI {σ : Type} {f : Nat → σ → σ} (I : Nat → σ → Prop) {n : Nat} {S : σ} (h0 : I 0 S) (h : ∀ k T, k < n → I k T → I (k + 1) (f k T)) : I n (zz_it f n S) := by
  induction n with
  | zero => exact h0
  | succ n ih => exact h n _ (Nat.lt_succ_self n) (ih (fun k T hk => h k T (Nat.lt_succ_of_lt hk)))
def zz_5 (S : zz_T) : Prop := ∃ j, j < 1024 ∧ S 5 0 = nI j
theorem zz_5s {S : zz_T} {f i : Nat} {v : Int32} (hf : 5 ≠ f) (h : zz_5 S) : zz_5 (zz_s S f i v) := by
  unfold zz_5
  rw [zz_sn hf]
  exact h
theorem zz_5fly {S : zz_T} {s to due : Int32} : zz_5 (mm_fly s to due S) := by
  refine ⟨((S 5 0).toNatClampNeg + 1) % 1024, Nat.mod_lt _ (by decide), ?_⟩
  unfold mm_fly
  rw [zz_itn (g := 5) (fun k T => zz_sn (by decide))]
  rfl
/-! ## send -/
def mm_t (kind t : Int32) : Int32 := if kind = 0 then 0 else if kind = 1 then (if 4 ≤ t then t else 2 * t) else t
def mm_d (kind d : Int32) : Int32 := if kind ≤ 1 then d else 6
def mm_oc (s num : Int32) (i : Nat) (T : zz_T) : Prop := ¬ T 38 i = 0 ∧ T 39 i = s ∧ T 40 i = num
noncomputable def mm_ord (s num : Int32) (i : Nat) (x : Int32 × Int32 × zz_T) : Int32 × Int32 × zz_T :=
  @ite _ (mm_oc s num i x.2.2) (Classical.propDecidable _) (mm_t (x.2.2 41 i) x.1, mm_d (x.2.2 41 i) x.2.1, zz_s x.2.2 38 i 0) x

theorem mm_ordP {s num : Int32} {i : Nat} {x : Int32 × Int32 × zz_T} (h : mm_oc s num i x.2.2) : mm_ord s num i x = (mm_t (x.2.2 41 i) x.1, mm_d (x.2.2 41 i) x.2.1, zz_s x.2.2 38 i 0) := if_pos h
theorem mm_ordN {s num : Int32} {i : Nat} {x : Int32 × Int32 × zz_T} (h : ¬ mm_oc s num i x.2.2) : mm_ord s num i x = x := if_neg h
noncomputable def mm_ords (s : Nat) (S : zz_T) : Int32 × Int32 × zz_T := zz_it (mm_ord (nI s) (S 37 s)) 16 (1, 1, zz_s S 37 s (S 37 s + 1))
noncomputable def mm_send (s : Nat) (to : Int32) (S : zz_T) : zz_T :=
  zz_it (fun k T => mm_fly (nI s) to (T 4 0 + (mm_ords s S).2.1 + nI k) T) (mm_ords s S).1.toNatClampNeg (mm_ords s S).2.2
def mm_tI (x : Int32 × Int32 × zz_T) : Prop := (∃ q, (q = 0 ∨ q = 1 ∨ q = 2 ∨ q = 4) ∧ x.1 = nI q) ∧ zz_5 x.2.2
theorem mm_tIo {s num : Int32} {i : Nat} {x : Int32 × Int32 × zz_T} (h : mm_tI x) : mm_tI (mm_ord s num i x) := by
  by_cases c : mm_oc s num i x.2.2
  · rw [mm_ordP c]
    refine ⟨?_, zz_5s (by decide) h.2⟩
    show ∃ q, (q = 0 ∨ q = 1 ∨ q = 2 ∨ q = 4) ∧ mm_t (x.2.2 41 i) x.1 = nI q
    obtain ⟨q, hq, e⟩ := h.1
    rw [e]
    unfold mm_t
    split
    · exact ⟨0, Or.inl rfl, rfl⟩
    · split
      · rcases hq with rfl | rfl | rfl | rfl
        · exact ⟨0, by decide, by decide⟩
        · exact ⟨2, by decide, by decide⟩
        · exact ⟨4, by decide, by decide⟩
        · exact ⟨4, by decide, by decide⟩
      · exact ⟨q, hq, rfl⟩
  · rw [mm_ordN c]
    exact h
theorem mm_ordsI {s : Nat} {S : zz_T} (h : zz_5 S) : mm_tI (mm_ords s S) :=
  zz_itI (fun _ x => mm_tI x) ⟨⟨1, by decide, rfl⟩, zz_5s (by decide) h⟩ (fun _ _ _ hx => mm_tIo hx)
theorem zz_5send {s : Nat} {to : Int32} {S : zz_T} (h : zz_5 S) : zz_5 (mm_send s to S) :=
  zz_itI (fun _ T => zz_5 T) (mm_ordsI h).2 (fun _ _ _ _ => zz_5fly)
theorem wk_send {post : St1 → Prop} {S : zz_T} {s : Nat} {to : Int32} (hs : s < 8) (h5 : zz_5 S) (H : post (zz_u (mm_send s to S))) : wpX_send post (zz_u S) (nI s) to := by
  refine And.intro (vp_in_nI hs (by decide)) ?_
  rw [nI_clamp (show s < 2 ^ 31 by omega)]
  refine nm_e ⟨vp_in_nI hs (by decide), vp_in_nI hs (by decide), nm_e ?_⟩
  refine zz_lp (fun n i x => wX_send_26 post (nI s) to (S 37 s) (x.2.2 0 0) (x.2.2 1 0) (x.2.2 2 0) (x.2.2 3 0) (x.2.2 4 0) (x.2.2 5 0) n x.1 x.2.1 (nI i) (x.2.2 6) (x.2.2 7) (x.2.2 8) (x.2.2 9) (x.2.2 10) (x.2.2 11) (x.2.2 12) (x.2.2 13) (x.2.2 14) (x.2.2 15) (x.2.2 16) (x.2.2 17) (x.2.2 18) (x.2.2 19) (x.2.2 20) (x.2.2 21) (x.2.2 22) (x.2.2 23) (x.2.2 24) (x.2.2 25) (x.2.2 26) (x.2.2 27) (x.2.2 28) (x.2.2 29) (x.2.2 30) (x.2.2 31) (x.2.2 32) (x.2.2 33) (x.2.2 34) (x.2.2 35) (x.2.2 36) (x.2.2 37) (x.2.2 38) (x.2.2 39) (x.2.2 40) (x.2.2 41) (x.2.2 42) (x.2.2 43)) (mm_ord (nI s) (S 37 s)) (fun _ _ => True) 16
    (1, 1, zz_s S 37 s (S 37 s + 1)) trivial (fun _ _ _ _ => trivial) ?_ ?_
  · intro n _
    refine pk_le 16 16 (fun _ => ?_) (fun z => absurd z (by omega))
    obtain ⟨⟨q, hq, e⟩, h5'⟩ := mm_ordsI (s := s) h5
    have hq4 : q ≤ 4 := by omega
    unfold mm_send at H
    rw [zz_cl (by omega) e] at H
    refine zz_lp (fun n i T => wX_send_138 post (nI s) to (mm_ords s S).1 (mm_ords s S).2.1 n (nI i) (T 0 0) (T 1 0) (T 2 0) (T 3 0) (T 4 0) (T 5 0) (T 6) (T 7) (T 8) (T 9) (T 10) (T 11) (T 12) (T 13) (T 14) (T 15) (T 16) (T 17) (T 18) (T 19) (T 20) (T 21) (T 22) (T 23) (T 24) (T 25) (T 26) (T 27) (T 28) (T 29) (T 30) (T 31) (T 32) (T 33) (T 34) (T 35) (T 36) (T 37) (T 38) (T 39) (T 40) (T 41) (T 42) (T 43)) (fun k T => mm_fly (nI s) to (T 4 0 + (mm_ords s S).2.1 + nI k) T) (fun _ T => zz_5 T) q
      (mm_ords s S).2.2 h5' (fun _ _ _ _ => zz_5fly) ?_ ?_
    · intro n _
      exact pk_le q q (fun _ => H) (fun z => absurd z (by omega)) e
    · intro n i T hi hT hw
      refine pk_le q i (fun z => absurd z (by omega)) (fun _ => ?_) e
      obtain ⟨j, hj, ej⟩ := hT
      exact wk_fly ej hj (nm_r (nI_1 i) hw)
  · intro n i x hi _ hw
    refine pk_le 16 i (fun z => absurd z (by omega)) (fun _ => ?_)
    refine ⟨vp_in_nI hi (by decide), ?_⟩
    rw [nI_clamp (show i < 2 ^ 31 by omega)]
    refine ⟨fun c => ?_, fun c => ⟨vp_in_nI hi (by decide), fun c2 => ⟨vp_in_nI hi (by decide), fun c3 => ?_, fun c3 => ?_⟩, fun c2 => ?_⟩⟩
    · rw [mm_ordN (fun z => z.1 c)] at hw
      exact nm_r (nI_1 i) hw
    · rw [mm_ordP ⟨c, c2, c3⟩] at hw
      refine ⟨vp_in_nI hi (by decide), nm_e ⟨vp_in_nI hi (by decide), nm_e ?_⟩⟩
      unfold mm_t mm_d at hw
      refine ⟨fun k0 => ?_, fun k0 => ⟨fun k1 => ⟨fun k4 => ?_, fun k4 => ?_⟩, fun k1 => ?_⟩⟩
      · rw [if_pos k0] at hw
        exact ⟨fun k => nm_r (nI_1 i) (by rw [if_pos k] at hw; exact hw), fun k => nm_r (nI_1 i) (by rw [if_neg k] at hw; exact hw)⟩
      · rw [if_neg k0, if_pos k1, if_pos k4] at hw
        exact ⟨fun k => nm_r (nI_1 i) (by rw [if_pos k] at hw; exact hw), fun k => nm_r (nI_1 i) (by rw [if_neg k] at hw; exact hw)⟩
      · rw [if_neg k0, if_pos k1, if_neg k4] at hw
        exact ⟨fun k => nm_r (nI_1 i) (by rw [if_pos k] at hw; exact hw), fun k => nm_r (nI_1 i) (by rw [if_neg k] at hw; exact hw)⟩
      · rw [if_neg k0, if_neg k1] at hw
        exact ⟨fun k => nm_r (nI_1 i) (by rw [if_pos k] at hw; exact hw), fun k => nm_r (nI_1 i) (by rw [if_neg k] at hw; exact hw)⟩
    · rw [mm_ordN (fun z => c3 z.2.2)] at hw
      exact nm_r (nI_1 i) hw
    · rw [mm_ordN (fun z => c2 z.2.1)] at hw
      exact nm_r (nI_1 i) hw
