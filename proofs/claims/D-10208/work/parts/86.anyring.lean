/-! ## the ring in general: orders may be used up -/
def rf_pi (S T : zz_T) (O : ab_F → Prop) (i : Nat) : Prop := rf_ss S T i ∨ (rf_sm T i ∧ (∃ e, 1 ≤ e ∧ e ≤ 9 ∧ T 35 i = S 4 0 + nI e) ∧ ∃ w, O w ∧ rf_c (T 33 i) = w 1 ∧ rf_c (T 34 i) = w 2 ∧ ∀ j, 3 ≤ j → j ≤ 8 → rf_sl T i j = w j)
def rf_pg (S T : zz_T) (O : ab_F → Prop) : Prop := zz_5 T ∧ T 4 = S 4 ∧ ∀ i, i < 1024 → ¬ T 32 i = 0 → rf_pi S T O i
theorem rf_pg0 {S T : zz_T} {O : ab_F → Prop} (h5 : zz_5 S) (h : ∀ f, f = 4 ∨ f = 5 ∨ (31 < f ∧ f < 37) → T f = S f) : rf_pg S T O :=
  ⟨zz_5of (h 5 (by omega)) h5, h 4 (by omega), fun i _ _ => Or.inl ⟨by rw [h 32 (by omega)], by rw [h 33 (by omega)], by rw [h 34 (by omega)], by rw [h 35 (by omega)], fun k _ => by rw [h 36 (by omega)]⟩⟩
theorem rf_pgc {S T U : zz_T} {O P Q : ab_F → Prop} (h : rf_pg S T O) (g : rf_pg T U P) (hO : ∀ w, O w → Q w) (hP : ∀ w, P w → Q w) : rf_pg S U Q := by
  refine ⟨g.1, g.2.1.trans h.2.1, fun i hi hu => ?_⟩
  rcases g.2.2 i hi hu with z | ⟨z1, ⟨e, e1, e2, e3⟩, w, w1, w2⟩
  · rcases h.2.2 i hi (by rw [← z.1]; exact hu) with y | ⟨y1, ⟨e, e1, e2, e3⟩, w, w1, w2, w3, w4⟩
    · exact Or.inl ⟨z.1.trans y.1, z.2.1.trans y.2.1, z.2.2.1.trans y.2.2.1, z.2.2.2.1.trans y.2.2.2.1, fun k hk => (z.2.2.2.2 k hk).trans (y.2.2.2.2 k hk)⟩
    · refine Or.inr ⟨rf_smc z y1, ⟨e, e1, e2, by rw [z.2.2.2.1]; exact e3⟩, w, hO w w1, by rw [z.2.1]; exact w2, by rw [z.2.2.1]; exact w3, fun j h1 h2 => by rw [rf_sss z]; exact w4 j h1 h2⟩
  · exact Or.inr ⟨z1, ⟨e, e1, e2, by rw [← h.2.1]; exact e3⟩, w, hP w w1, w2⟩
theorem rf_pgw {S T : zz_T} {O P : ab_F → Prop} (h : rf_pg S T O) (e : ∀ w, O w → P w) : rf_pg S T P := by
  refine ⟨h.1, h.2.1, fun i hi hu => ?_⟩
  rcases h.2.2 i hi hu with z | ⟨z1, z2, w, w1, w2⟩
  · exact Or.inl z
  · exact Or.inr ⟨z1, z2, w, e w w1, w2⟩
/-- what is ahead may change fields that the ring does not hold -/
theorem rf_pgl {S T U : zz_T} {O : ab_F → Prop} (e : ∀ f, f = 4 ∨ f = 5 ∨ (31 < f ∧ f < 37) → T f = S f) (g : rf_pg T U O) : rf_pg S U O := by
  refine ⟨g.1, g.2.1.trans (e 4 (by omega)), fun i hi hu => ?_⟩
  rcases g.2.2 i hi hu with z | ⟨z1, ⟨c, e1, e2, e3⟩, w⟩
  · exact Or.inl ⟨z.1.trans (by rw [e 32 (by omega)]), z.2.1.trans (by rw [e 33 (by omega)]), z.2.2.1.trans (by rw [e 34 (by omega)]), z.2.2.2.1.trans (by rw [e 35 (by omega)]), fun k hk => (z.2.2.2.2 k hk).trans (by rw [e 36 (by omega)])⟩
  · exact Or.inr ⟨z1, ⟨c, e1, e2, by rw [e3, e 4 (by omega)]⟩, w⟩
theorem rf_pgfly {s r e : Nat} {due : Int32} {S : zz_T} (hs : s < 8) (hr : r < 8) (h5 : zz_5 S) (hk : ∃ t, t < 2 ^ 29 ∧ S 4 0 = nI t) (hw : rf_wn S) (he1 : 1 ≤ e) (he : e ≤ 9) (hdue : due = S 4 0 + nI e) :
    rf_pg S (mm_fly (nI s) (nI r) due S) (fun w => w = ab_pt (rf_c (S 4 0)) s r (rf_wr S)) := by
  have h5' := h5
  obtain ⟨j, hj, ej⟩ := h5
  obtain ⟨t, ht, e4⟩ := hk
  have ec : (S 5 0).toNatClampNeg = j := zz_cl (by omega) ej
  have hF : ∀ F : zz_T, F = mm_fly (nI s) (nI r) due S → F 4 = S 4 ∧ F 32 = upd (S 32) j 1 ∧ F 33 = upd (S 33) j (nI s) ∧ F 34 = upd (S 34) j (nI r) ∧ F 35 = upd (S 35) j due ∧
      (∀ k, k < 12 → F 36 (j * 12 + k) = S 42 k) ∧ ∀ q, (∀ k, k < 12 → q ≠ j * 12 + k) → F 36 q = S 36 q := by
    intro F hF
    rw [hF]
    unfold mm_fly
    rw [ec]
    have hit : ∀ g, g ≠ 36 → ∀ B : zz_T, zz_it (fun k T => zz_s T 36 (j * 12 + k) (T 42 k)) 12 B g = B g := fun g hg B => zz_itn (fun k T => zz_sn hg) 12 B
    refine ⟨?_, ?_, ?_, ?_, ?_, ?_, ?_⟩
    · rw [hit 4 (by decide), zz_sn (by decide), zz_sn (by decide), zz_sn (by decide), zz_sn (by decide), zz_sn (by decide)]
    · rw [hit 32 (by decide), zz_sn (by decide), zz_sn (by decide), zz_sn (by decide), zz_se, zz_sn (by decide)]
    · rw [hit 33 (by decide), zz_sn (by decide), zz_sn (by decide), zz_se, zz_sn (by decide), zz_sn (by decide), zz_8 s (by omega)]
    · rw [hit 34 (by decide), zz_sn (by decide), zz_se, zz_sn (by decide), zz_sn (by decide), zz_sn (by decide), zz_8 r (by omega)]
    · rw [hit 35 (by decide), zz_se, zz_sn (by decide), zz_sn (by decide), zz_sn (by decide), zz_sn (by decide)]
    · have : ∀ n, n ≤ 12 → ∀ B : zz_T, B 42 = S 42 → ∀ k, k < n → zz_it (fun k T => zz_s T 36 (j * 12 + k) (T 42 k)) n B 36 (j * 12 + k) = S 42 k := by
        intro n
        induction n with
        | zero => intro _ B _ k hk; omega
        | succ n ih =>
          intro hn B hB k hk
          show zz_s (zz_it (fun k T => zz_s T 36 (j * 12 + k) (T 42 k)) n B) 36 (j * 12 + n) _ 36 (j * 12 + k) = _
          rw [zz_se]
          by_cases e : k = n
          · rw [e, pk_us, zz_itn (fun k T => zz_sn (by decide)) n B, hB]
          · rw [pk_un (by omega)]
            exact ih (by omega) B hB k (by omega)
      intro k hk
      refine this 12 (by omega) _ ?_ k hk
      rw [zz_sn (by decide), zz_sn (by decide), zz_sn (by decide), zz_sn (by decide), zz_sn (by decide)]
    · intro q hq
      have : ∀ n, n ≤ 12 → ∀ B : zz_T, zz_it (fun k T => zz_s T 36 (j * 12 + k) (T 42 k)) n B 36 q = B 36 q := by
        intro n
        induction n with
        | zero => intro _ B; rfl
        | succ n ih =>
          intro hn B
          show zz_s (zz_it (fun k T => zz_s T 36 (j * 12 + k) (T 42 k)) n B) 36 (j * 12 + n) _ 36 q = _
          rw [zz_se, pk_un (hq n (by omega))]
          exact ih (by omega) B
      rw [this 12 (by omega)]
      rw [zz_sn (by decide), zz_sn (by decide), zz_sn (by decide), zz_sn (by decide), zz_sn (by decide)]
  obtain ⟨f4, f32, f33, f34, f35, f36, f36'⟩ := hF _ rfl
  have e35 : due = nI (t + e) := by rw [hdue, e4, nI_add]
  refine ⟨zz_5fly, f4, fun i hi hu => ?_⟩
  by_cases ei : i = j
  · subst ei
    refine Or.inr ⟨⟨?_, ?_, ?_, fun k hk => ?_⟩, ⟨e, he1, he, by rw [f35, pk_us]; exact hdue⟩, _, rfl, ?_, ?_, fun q h1 h2 => ?_⟩
    · rw [f33, pk_us]; exact rf_nI (by omega)
    · rw [f34, pk_us]; exact rf_nI (by omega)
    · rw [f35, pk_us, e35]; exact rf_nI (by omega)
    · rw [f36 k (by omega)]; exact hw k hk
    · rw [f33, pk_us, rf_cn (by omega)]; rfl
    · rw [f34, pk_us, rf_cn (by omega)]; rfl
    · have g0 := f36 0 (by omega)
      rw [Nat.add_zero] at g0
      unfold rf_sl rf_wr
      rw [g0, f36 1 (by omega), f36 2 (by omega), f36 3 (by omega), f36 4 (by omega), f36 5 (by omega)]
      unfold ab_pt
      rw [if_neg (by omega), if_neg (by omega), if_neg (by omega), if_neg (by omega), if_neg (by omega), if_neg (by omega)]
  · refine Or.inl ⟨?_, ?_, ?_, ?_, fun k hk => f36' _ (fun k' hk' => by omega)⟩
    · rw [f32, pk_un ei]
    · rw [f33, pk_un ei]
    · rw [f34, pk_un ei]
    · rw [f35, pk_un ei]
theorem rf_od {s : Nat} {S : zz_T} : (mm_ords s S).2.1 = nI 1 ∨ (mm_ords s S).2.1 = nI 6 := by
  refine zz_itI (fun _ (x : Int32 × Int32 × zz_T) => x.2.1 = nI 1 ∨ x.2.1 = nI 6) (Or.inl rfl) (fun i x _ hx => ?_)
  unfold mm_ord
  split
  · show mm_d _ _ = _ ∨ mm_d _ _ = _
    unfold mm_d
    split
    · exact hx
    · exact Or.inr rfl
  · exact hx
theorem rf_pgsend {s r : Nat} {S : zz_T} (hs : s < 8) (hr : r < 8) (h5 : zz_5 S) (hk : rf_nw S) (hw : rf_wn S) : rf_pg S (mm_send s (nI r) S) (fun w => w = ab_pt (rf_c (S 4 0)) s r (rf_wr S)) := by
  have eo : ∀ f, f ≠ 37 → f ≠ 38 → (mm_ords s S).2.2 f = S f := fun f h1 h2 => zz_ordsq h1 h2
  obtain ⟨⟨q, hq, eq⟩, ho5⟩ := mm_ordsI (s := s) h5
  have hd := rf_od (s := s) (S := S)
  unfold mm_send
  generalize hd' : (mm_ords s S).2.1 = dd at hd ⊢
  generalize hT' : (mm_ords s S).2.2 = T0 at eo ho5 ⊢
  rw [eq, nI_clamp (by omega)]
  refine rf_pgl (T := T0) (fun f hf => eo f (by omega) (by omega)) ?_
  have e4 : T0 4 = S 4 := eo 4 (by decide) (by decide)
  have e42 : T0 42 = S 42 := eo 42 (by decide) (by decide)
  have main : ∀ n, n ≤ 4 → rf_pg T0 (zz_it (fun k T => mm_fly (nI s) (nI r) (T 4 0 + dd + nI k) T) n T0) (fun w => w = ab_pt (rf_c (S 4 0)) s r (rf_wr S)) ∧ zz_it (fun k T => mm_fly (nI s) (nI r) (T 4 0 + dd + nI k) T) n T0 42 = S 42 := by
    intro n
    induction n with
    | zero => intro _; exact ⟨rf_pg0 ho5 (fun f _ => rfl), e42⟩
    | succ n ih =>
      intro hn
      obtain ⟨g, g42⟩ := ih (by omega)
      generalize hU : zz_it (fun k T => mm_fly (nI s) (nI r) (T 4 0 + dd + nI k) T) n T0 = U at g g42
      have u4 : U 4 = S 4 := g.2.1.trans e4
      have hnx : zz_it (fun k T => mm_fly (nI s) (nI r) (T 4 0 + dd + nI k) T) (n + 1) T0 = mm_fly (nI s) (nI r) (U 4 0 + dd + nI n) U := by
        show mm_fly (nI s) (nI r) (zz_it _ n T0 4 0 + dd + nI n) (zz_it _ n T0) = _
        rw [hU]
      rw [hnx]
      obtain ⟨t, ht, et⟩ := hk
      have hdue : ∃ e, 1 ≤ e ∧ e ≤ 9 ∧ U 4 0 + dd + nI n = U 4 0 + nI e := by
        have eu : U 4 0 = nI t := by rw [u4]; exact et
        rcases hd with z | z
        · exact ⟨1 + n, by omega, by omega, by rw [z, eu, nI_add, nI_add, nI_add, Nat.add_assoc]⟩
        · exact ⟨6 + n, by omega, by omega, by rw [z, eu, nI_add, nI_add, nI_add, Nat.add_assoc]⟩
      obtain ⟨e, e1, e2, e3⟩ := hdue
      have f := rf_pgfly (s := s) (r := r) hs hr g.1 ⟨t, ht, by rw [u4]; exact et⟩ (rf_wnc g42 hw) e1 e2 e3
      have ew : (fun w => w = ab_pt (rf_c (U 4 0)) s r (rf_wr U)) = (fun w => w = ab_pt (rf_c (S 4 0)) s r (rf_wr S)) := by rw [u4, rf_wrc g42]
      rw [ew] at f
      refine ⟨rf_pgc g f (fun w z => z) (fun w z => z), ?_⟩
      rw [zz_flyq (Or.inr (Or.inl rfl))]
      exact g42
  exact (main q (by omega)).1
theorem rf_pgtell {s : Nat} {S : zz_T} (hs : s < 8) (h5 : zz_5 S) (hk : rf_nw S) (hw : rf_wn S) : rf_pg S (mm_tell s S) (fun w => ∃ k, k < 8 ∧ rf_u S s k ∧ w = ab_pt (rf_c (S 4 0)) s k (rf_wr S)) := by
  have main : ∀ n, n ≤ 8 → rf_pg S (zz_it (mm_tl s) n S) (fun w => ∃ k, k < n ∧ rf_u S s k ∧ w = ab_pt (rf_c (S 4 0)) s k (rf_wr S)) := by
    intro n
    induction n with
    | zero => intro _; exact rf_pg0 h5 (fun f _ => rfl)
    | succ n ih =>
      intro hn
      have g := ih (by omega)
      have e42 : zz_it (mm_tl s) n S 42 = S 42 := rf_tlf (by decide) n
      have e6 : zz_it (mm_tl s) n S 6 = S 6 := rf_tlf (by decide) n
      have e4 : zz_it (mm_tl s) n S 4 = S 4 := rf_tlf (by decide) n
      have e5 : zz_5 (zz_it (mm_tl s) n S) := zz_itI (fun _ T => zz_5 T) h5 (fun _ _ _ hT => zz_5tl hT)
      have hu : mm_up (zz_it (mm_tl s) n S) s (nI n) ↔ rf_u S s n := by
        unfold rf_u mm_up
        rw [e6]
        exact ⟨fun z => ⟨hs, by omega, z⟩, fun z => z.2.2⟩
      show rf_pg S (mm_tl s n (zz_it (mm_tl s) n S)) _
      by_cases c : mm_up (zz_it (mm_tl s) n S) s (nI n)
      · have et : mm_tl s n (zz_it (mm_tl s) n S) = mm_send s (nI n) (zz_it (mm_tl s) n S) := if_pos c
        rw [et]
        have g1 := rf_pgsend (r := n) hs (by omega) e5 (rf_nwc e4 hk) (rf_wnc e42 hw)
        rw [e4, rf_wrc e42] at g1
        exact rf_pgc g g1 (fun w ⟨k, k1, k2, k3⟩ => ⟨k, by omega, k2, k3⟩) (fun w z => ⟨n, by omega, hu.1 c, z⟩)
      · have et : mm_tl s n (zz_it (mm_tl s) n S) = zz_it (mm_tl s) n S := if_neg c
        rw [et]
        exact rf_pgw g (fun w ⟨k, k1, k2, k3⟩ => ⟨k, by omega, k2, k3⟩)
  exact main 8 (by omega)
theorem rf_pggive {s g : Nat} {S : zz_T} (hs : s < 8) (hg : g < 8) (h5 : zz_5 S) (hk : rf_nw S) (h20 : rf_nn (S 20 (s * 8 + g))) : rf_pg S (mm_give s g S) (ab_gv (rf_u S) s g (rf_a S)).2 := by
  have hlo : ∀ f, f ≠ 18 → f ≠ 42 → mm_lossW s g S f = S f := by
    intro f a b
    unfold mm_lossW
    rw [zz_sn b, zz_bego b, zz_sn a]
  obtain ⟨b0, b1, b2, b3⟩ := zz_begw (k := 2) (f := nI s) (g := nI g) (S := zz_s S 18 (s * 8 + g) (-1))
  have w0 : mm_lossW s g S 42 0 = nI 2 := by
    unfold mm_lossW
    rw [zz_se, pk_un (by decide), b0]
    rfl
  have w1 : mm_lossW s g S 42 1 = nI s := by
    unfold mm_lossW
    rw [zz_se, pk_un (by decide), b1]
  have w2 : mm_lossW s g S 42 2 = nI g := by
    unfold mm_lossW
    rw [zz_se, pk_un (by decide), b2]
  have w3 : mm_lossW s g S 42 3 = S 20 (s * 8 + g) := by
    unfold mm_lossW
    rw [zz_se, pk_us, zz_bego (by decide), zz_sn (by decide)]
  have w4 : mm_lossW s g S 42 4 = nI 0 := by
    unfold mm_lossW
    rw [zz_se, pk_un (by decide), b3 4 (by omega) (by omega)]
    rfl
  have w5 : mm_lossW s g S 42 5 = nI 0 := by
    unfold mm_lossW
    rw [zz_se, pk_un (by decide), b3 5 (by omega) (by omega)]
    rfl
  have gg := rf_pgtell (S := mm_lossW s g S) hs (zz_5lossW h5) (rf_nwc (hlo 4 (by decide) (by decide)) hk) (rf_wn6 (rf_nx w0 (by omega)) (rf_nx w1 (by omega)) (rf_nx w2 (by omega)) (by rw [w3]; exact h20) (rf_nx w4 (by omega)) (rf_nx w5 (by omega)))
  have ew : rf_wr (mm_lossW s g S) = ab_fr 2 s g (rf_c (S 20 (s * 8 + g))) 0 0 := by
    unfold rf_wr
    rw [w0, w1, w2, w3, w4, w5, rf_cn (by omega), rf_cn (by omega), rf_cn (by omega), rf_cn (by omega)]
  refine rf_pgw (rf_pgl (fun f hf => hlo f (by omega) (by omega)) gg) (fun w => ?_)
  rw [hlo 4 (by decide) (by decide), rf_uc (hlo 6 (by decide) (by decide)), ew]
  show _ → ∃ k, k < 8 ∧ rf_u S s k ∧ w = ab_pt (ab_w (rf_a S) 1 s g 8 0 0 0) s k (ab_fr 2 s g (rf_a S 3 s g) 0 0)
  rw [ab_wf (by decide), rf_0r, rf_3r hs hg]
  exact fun z => z
theorem rf_pgpass {s g : Nat} {S : zz_T} {w : ab_F} (hs : s < 8) (hg : g < 8) (h5 : zz_5 S) (hk : rf_nw S) (h18 : zz_18 S) (h20 : rf_nn (S 20 (s * 8 + g))) (hwn : rf_wn S) (e2 : S 42 2 = nI g) (hw : rf_wr S = w) : rf_pg S (mm_pass s S) (ab_ps (rf_u S) s w (rf_a S)).2 := by
  have hst : rf_st (S 18 (s * 8 + g)) := h18 _ (by omega)
  have hw5 : w 5 = g := by
    rw [← hw]
    show rf_c (S 42 2) = g
    rw [e2, rf_cn (by omega)]
  unfold mm_pass
  unfold ab_ps
  rw [zz_cl (show g < 2 ^ 31 by omega) e2]
  rw [hw5, rf_1r hs hg]
  by_cases c : S 18 (s * 8 + g) = -1
  · rw [if_pos c, ab_ip ((rf_m8 hst).2 c)]
    exact rf_pg0 h5 (fun f _ => rfl)
  · rw [if_neg c]
    rw [ab_in (fun z => c ((rf_m8 hst).1 z))]
    obtain ⟨e, hr⟩ := rf_mc hst c
    by_cases d : mm_up S s (S 18 (s * 8 + g))
    · rw [if_pos d]
      rw [ab_ip ⟨hs, hr, by rw [← e]; exact d⟩]
      rw [e]
      rw [rf_mn (show rf_m (S 18 (s * 8 + g)) < 2 ^ 31 by omega)]
      refine rf_pgw (rf_pgsend hs hr h5 hk hwn) (fun v => ?_)
      show _ → v = ab_pt (rf_a S 0 0 0) s (rf_m (S 18 (s * 8 + g))) w
      rw [rf_0r, hw]
      exact fun z => z
    · rw [if_neg d]
      rw [ab_in (fun z => d (by rw [e]; exact z.2.2))]
      exact rf_pggive hs hg h5 hk h20
theorem rf_pgask {s g : Nat} {S : zz_T} (hs : s < 8) (hg : g < 8) (h5 : zz_5 S) (hk : rf_k S) : rf_pg S (mm_ask s g S) (ab_k (rf_u S) s g (rf_a S)).2 := by
  obtain ⟨⟨t, ht, e4⟩, k16, k17, k18, k20, k21, kt, k24, _⟩ := id hk
  obtain ⟨n, hn, e16⟩ := k16 s hs
  obtain ⟨q, hq, e17⟩ := k17 s hs
  obtain ⟨a, ha, e21⟩ := k21 (s * 8 + g) (by omega)
  have hc : (24 ≤ S 4 0 - S 21 (s * 8 + g)) ↔ ¬ rf_a S 0 0 0 < rf_a S 6 s g := by
    rw [rf_0r, rf_6r hs hg, e21, e4, rf_cn (by omega), rf_cn (by omega)]
    exact rf_24c ht ha e21
  unfold mm_ask
  by_cases c : 24 ≤ S 4 0 - S 21 (s * 8 + g)
  · rw [if_pos c]
    rw [ab_ky (hc.1 c)]
    have e38 : mm_ask3 s g S 38 = S 38 := rf_ask3o (by decide)
    have a16 : mm_ask2 s g S 16 s = nI (n + 1) := by
      unfold mm_ask2
      rw [zz_bego (by decide), zz_seeo (by decide) (by decide) (by decide)]
      unfold mm_ask0
      rw [zz_sn (by decide), zz_se, pk_us, e16, nI_1]
    have a17 : mm_ask2 s g S 17 s = nI (q + 1) := by
      unfold mm_ask2
      rw [zz_bego (by decide), zz_seeo (by decide) (by decide) (by decide)]
      unfold mm_ask0
      rw [zz_se, pk_us, e17, nI_1]
    obtain ⟨b0, b1, b2, b3⟩ := zz_begw (k := 0) (f := nI s) (g := nI g) (S := mm_see s (nI s) (mm_ask0 s g S 17 s) (mm_ask0 s g S))
    have b0' : mm_ask2 s g S 42 0 = nI 0 := b0
    have b1' : mm_ask2 s g S 42 1 = nI s := b1
    have b2' : mm_ask2 s g S 42 2 = nI g := b2
    have w0 : mm_ask3 s g S 42 0 = nI 0 := by
      unfold mm_ask3
      rw [zz_se, pk_un (by decide), zz_se, pk_un (by decide), zz_se, pk_un (by decide), b0']
    have w1 : mm_ask3 s g S 42 1 = nI s := by
      unfold mm_ask3
      rw [zz_se, pk_un (by decide), zz_se, pk_un (by decide), zz_se, pk_un (by decide), b1']
    have w2 : mm_ask3 s g S 42 2 = nI g := by
      unfold mm_ask3
      rw [zz_se, pk_un (by decide), zz_se, pk_un (by decide), zz_se, pk_un (by decide), b2']
    have w3 : mm_ask3 s g S 42 3 = nI (n + 1) := by
      unfold mm_ask3
      rw [zz_se, pk_un (by decide), zz_se, pk_un (by decide), zz_se, pk_us, a16]
    have w4 : mm_ask3 s g S 42 4 = nI 0 := by
      unfold mm_ask3
      rw [zz_se, pk_un (by decide), zz_se, pk_us]
      rfl
    have w5 : mm_ask3 s g S 42 5 = nI (q + 1) := by
      unfold mm_ask3
      rw [zz_se, pk_us, a17]
    have gg := rf_pgtell (S := mm_ask3 s g S) hs (zz_5ask3 h5) (rf_nwc (rf_ask3o (by decide)) ⟨t, ht, e4⟩) (rf_wn6 (rf_nx w0 (by omega)) (rf_nx w1 (by omega)) (rf_nx w2 (by omega)) (rf_nx w3 (by omega)) (rf_nx w4 (by omega)) (rf_nx w5 (by omega)))
    have ew : rf_wr (mm_ask3 s g S) = ab_fr 0 s g (n + 1) 0 (q + 1) := by
      unfold rf_wr
      rw [w0, w1, w2, w3, w4, w5, rf_cn (by omega), rf_cn (by omega), rf_cn (by omega), rf_cn (by omega), rf_cn (by omega)]
    refine rf_pgw (rf_pgl (fun f hf => rf_ask3o (by omega)) gg) (fun w => ?_)
    rw [rf_ask3o (f := 4) (by decide), rf_uc (rf_ask3o (by decide)), ew]
    show _ → ∃ k, k < 8 ∧ rf_u S s k ∧ w = ab_pt (ab_k1 s g (rf_a S) 0 0 0) s k (ab_fr 0 s g (rf_a S 4 s 0 + 1) 0 (rf_a S 5 s 0 + 1))
    rw [ab_k1f (by decide), rf_0r, rf_4r hs, rf_5r hs, e16, e17, rf_cn (n := n) (by omega), rf_cn (n := q) (by omega)]
    exact fun z => z
  · rw [if_neg c, ab_kn (by
      by_cases z : rf_a S 0 0 0 < rf_a S 6 s g
      · exact z
      · exact absurd (hc.2 z) c)]
    exact rf_pg0 h5 (fun f _ => rfl)
theorem rf_pghearAsk {s p f g n l q : Nat} {S : zz_T} (hs : s < 8) (hp : p < 8) (h5 : zz_5 S) (hk : rf_k S) (hr : rf_r S 0 f g n l q) : rf_pg S (mm_hearAsk s (nI p) S) (ab_hA (rf_u S) s p (ab_fr 0 f g n l q) (rf_a S)).2 := by
  have hA := rf_ha2 hs hp hk hr
  obtain ⟨_, hf, hg, hn, hl, hq, e0, e1, e2, e3, e4, e5⟩ := hr
  obtain ⟨know, k16, k17, k18, k20, k21, kt, k24, _⟩ := id hk
  have hsn : mm_seenP s (S 43 1) (S 43 5) S ↔ ab_sn s f q (rf_a S) := by
    rw [e1, e5]; exact rf_seen hs hf (by omega) kt
  unfold mm_hearAsk
  unfold ab_hA
  show rf_pg S _ (ab_if (ab_sn s f q (rf_a S)) (ab_nil (rf_a S)) (ab_if (g = s) (ab_ps (rf_u S) s (ab_fr 1 s f (ab_hA1 s p (ab_fr 0 f g n l q) (rf_a S) 4 s 0 + 1) 0 0) (ab_w (ab_hA1 s p (ab_fr 0 f g n l q) (rf_a S)) 4 s 0 (ab_hA1 s p (ab_fr 0 f g n l q) (rf_a S) 4 s 0 + 1)))
      (ab_tl (rf_u S) s (ab_fr 0 f g n (l + 1) q) (ab_hA1 s p (ab_fr 0 f g n l q) (rf_a S))))).2
  by_cases c : mm_seenP s (S 43 1) (S 43 5) S
  · rw [if_pos c, ab_ip (hsn.1 c)]
    exact rf_pg0 h5 (fun f _ => rfl)
  · rw [if_neg c]
    rw [ab_in (fun z => c (hsn.2 z))]
    by_cases d : S 43 2 = nI s
    · have egs : g = s := by rw [e2] at d; exact (nI_eq (by omega) (by omega)).1 d
      rw [if_pos d]
      rw [ab_ip egs]
      obtain ⟨m, hm, e16⟩ := k16 s hs
      have e16' : mm_ha2 s (nI p) S 16 s = nI m := by rw [rf_ha2o (by decide)]; exact e16
      have h16 : ab_hA1 s p (ab_fr 0 f g n l q) (rf_a S) 4 s 0 = m := by
        rw [ab_hA1n (by decide), rf_4r hs, e16, rf_cn (by omega)]
      have hT : rf_a (zz_s (mm_haT s (nI p) S) 42 3 (mm_haT s (nI p) S 16 s)) = ab_w (ab_hA1 s p (ab_fr 0 f g n l q) (rf_a S)) 4 s 0 (m + 1) := by
        unfold mm_haT
        rw [rf_n (by decide), rf_beg, rf_16 hs, hA, e16', nI_1, rf_cn (by omega)]
      have h18 : zz_18 (zz_s (mm_haT s (nI p) S) 42 3 (mm_haT s (nI p) S 16 s)) := by
        refine zz_18of (S := mm_ha2 s (nI p) S) ?_ (rf_18a hp k18)
        unfold mm_haT
        rw [zz_sn (by decide), zz_bego (by decide), zz_sn (by decide)]
      have h42 : zz_s (mm_haT s (nI p) S) 42 3 (mm_haT s (nI p) S 16 s) 42 2 = nI f := by
        rw [zz_se, pk_un (by decide)]
        unfold mm_haT
        rw [zz_beg2, e1]
      have t16 : mm_haT s (nI p) S 16 s = nI (m + 1) := by
        unfold mm_haT
        rw [zz_bego (by decide), zz_se, pk_us, e16', nI_1]
      obtain ⟨b0, b1, b2, b3⟩ := zz_begw (k := 1) (f := nI s) (g := S 43 1) (S := zz_s (mm_ha2 s (nI p) S) 16 s (mm_ha2 s (nI p) S 16 s + 1))
      have w0 : zz_s (mm_haT s (nI p) S) 42 3 (mm_haT s (nI p) S 16 s) 42 0 = nI 1 := by rw [zz_se, pk_un (by decide)]; exact b0
      have w1 : zz_s (mm_haT s (nI p) S) 42 3 (mm_haT s (nI p) S 16 s) 42 1 = nI s := by rw [zz_se, pk_un (by decide)]; exact b1
      have w2 : zz_s (mm_haT s (nI p) S) 42 3 (mm_haT s (nI p) S 16 s) 42 2 = nI f := h42
      have w3 : zz_s (mm_haT s (nI p) S) 42 3 (mm_haT s (nI p) S 16 s) 42 3 = nI (m + 1) := by rw [zz_se, pk_us]; exact t16
      have w4 : zz_s (mm_haT s (nI p) S) 42 3 (mm_haT s (nI p) S 16 s) 42 4 = nI 0 := by rw [zz_se, pk_un (by decide)]; exact b3 4 (by omega) (by omega)
      have w5 : zz_s (mm_haT s (nI p) S) 42 3 (mm_haT s (nI p) S 16 s) 42 5 = nI 0 := by rw [zz_se, pk_un (by decide)]; exact b3 5 (by omega) (by omega)
      have ew : rf_wr (zz_s (mm_haT s (nI p) S) 42 3 (mm_haT s (nI p) S 16 s)) = ab_fr 1 s f (m + 1) 0 0 := by
        unfold rf_wr
        rw [w0, w1, w2, w3, w4, w5, rf_cn (by omega), rf_cn (by omega), rf_cn (by omega), rf_cn (by omega), rf_cn (by omega)]
      have h20 : rf_nn (zz_s (mm_haT s (nI p) S) 42 3 (mm_haT s (nI p) S 16 s) 20 (s * 8 + f)) := by
        unfold mm_haT
        rw [zz_sn (by decide), zz_bego (by decide), zz_sn (by decide)]
        unfold mm_ha2 mm_ha1
        rw [e1, e3, e4, nI_1]
        refine rf_20l (by omega) (fun r hr => ?_) (by omega)
        rw [zz_seeo (by decide) (by decide) (by decide)]
        exact k20 r hr
      have e38 : zz_s (mm_haT s (nI p) S) 42 3 (mm_haT s (nI p) S 16 s) 38 = S 38 := rf_haTo (by decide)
      have gg := rf_pgpass (w := ab_fr 1 s f (m + 1) 0 0) hs hf (zz_5of (rf_haTo (by decide)) h5) (rf_nwc (rf_haTo (by decide)) know) h18 h20 (rf_wn6 (rf_nx w0 (by omega)) (rf_nx w1 (by omega)) (rf_nx w2 (by omega)) (rf_nx w3 (by omega)) (rf_nx w4 (by omega)) (rf_nx w5 (by omega))) h42 ew
      rw [hT, rf_uc (rf_haTo (by decide))] at gg
      rw [h16]
      exact rf_pgl (fun f hf => rf_haTo (by omega)) gg
    · have egs : ¬ g = s := fun z => d (by rw [e2, z])
      rw [if_neg d]
      rw [ab_in egs]
      have hlo : ∀ F, F ≠ 18 ∧ F ≠ 19 ∧ F ≠ 20 ∧ F ≠ 22 ∧ F ≠ 23 ∧ F ≠ 24 → F ≠ 42 → zz_s (mm_cpy (mm_ha2 s (nI p) S)) 42 4 (mm_cpy (mm_ha2 s (nI p) S) 42 4 + 1) F = S F := by
        intro F a b
        rw [zz_sn b, zz_cpyo b, rf_ha2o a]
      have w43 : ∀ k, k < 12 → mm_cpy (mm_ha2 s (nI p) S) 42 k = S 43 k := fun k hk => by rw [zz_cpyw hk, rf_ha2o (by decide)]
      have w0 : zz_s (mm_cpy (mm_ha2 s (nI p) S)) 42 4 (mm_cpy (mm_ha2 s (nI p) S) 42 4 + 1) 42 0 = nI 0 := by rw [zz_se, pk_un (by decide), w43 0 (by omega), e0]
      have w1 : zz_s (mm_cpy (mm_ha2 s (nI p) S)) 42 4 (mm_cpy (mm_ha2 s (nI p) S) 42 4 + 1) 42 1 = nI f := by rw [zz_se, pk_un (by decide), w43 1 (by omega), e1]
      have w2 : zz_s (mm_cpy (mm_ha2 s (nI p) S)) 42 4 (mm_cpy (mm_ha2 s (nI p) S) 42 4 + 1) 42 2 = nI g := by rw [zz_se, pk_un (by decide), w43 2 (by omega), e2]
      have w3 : zz_s (mm_cpy (mm_ha2 s (nI p) S)) 42 4 (mm_cpy (mm_ha2 s (nI p) S) 42 4 + 1) 42 3 = nI n := by rw [zz_se, pk_un (by decide), w43 3 (by omega), e3]
      have w4 : zz_s (mm_cpy (mm_ha2 s (nI p) S)) 42 4 (mm_cpy (mm_ha2 s (nI p) S) 42 4 + 1) 42 4 = nI (l + 1) := by rw [zz_se, pk_us, w43 4 (by omega), e4, nI_1]
      have w5 : zz_s (mm_cpy (mm_ha2 s (nI p) S)) 42 4 (mm_cpy (mm_ha2 s (nI p) S) 42 4 + 1) 42 5 = nI q := by rw [zz_se, pk_un (by decide), w43 5 (by omega), e5]
      have ew : rf_wr (zz_s (mm_cpy (mm_ha2 s (nI p) S)) 42 4 (mm_cpy (mm_ha2 s (nI p) S) 42 4 + 1)) = ab_fr 0 f g n (l + 1) q := by
        unfold rf_wr
        rw [w0, w1, w2, w3, w4, w5, rf_cn (by omega), rf_cn (by omega), rf_cn (by omega), rf_cn (by omega), rf_cn (by omega), rf_cn (by omega)]
      have e38 := hlo 38 (by decide) (by decide)
      have gg := rf_pgtell (S := zz_s (mm_cpy (mm_ha2 s (nI p) S)) 42 4 (mm_cpy (mm_ha2 s (nI p) S) 42 4 + 1)) hs (zz_5of (hlo 5 (by decide) (by decide)) h5) (rf_nwc (hlo 4 (by decide) (by decide)) know) (rf_wn6 (rf_nx w0 (by omega)) (rf_nx w1 (by omega)) (rf_nx w2 (by omega)) (rf_nx w3 (by omega)) (rf_nx w4 (by omega)) (rf_nx w5 (by omega)))
      refine rf_pgw (rf_pgl (fun f hf => hlo f (by omega) (by omega)) gg) (fun w => ?_)
      rw [hlo 4 (by decide) (by decide), rf_uc (hlo 6 (by decide) (by decide)), ew]
      show _ → ∃ k, k < 8 ∧ rf_u S s k ∧ w = ab_pt (ab_hA1 s p (ab_fr 0 f g n l q) (rf_a S) 0 0 0) s k (ab_fr 0 f g n (l + 1) q)
      rw [ab_hA1n (by decide), rf_0r]
      exact fun z => z
theorem rf_pghearTell {s p f g n l q : Nat} {S : zz_T} (hs : s < 8) (hp : p < 8) (h5 : zz_5 S) (hk : rf_k S) (hr : rf_r S 1 f g n l q) (hq0 : q = 0) : rf_pg S (mm_hearTell s (nI p) S) (ab_hT (rf_u S) s p (ab_fr 1 f g n l q) (rf_a S)).2 := by
  obtain ⟨_, hf, hg, hn, hl, hq, e0, e1, e2, e3, e4, e5⟩ := hr
  obtain ⟨know, k16, k17, k18, k20, k21, kt, k24, _⟩ := id hk
  obtain ⟨m, hm, e20⟩ := k20 (s * 8 + f) (by omega)
  have h1 : rf_a (mm_ht1 s (nI p) S) = ab_ln s f p (l + 1) n (rf_a S) := by
    unfold mm_ht1
    rw [e1, e3, e4, nI_clamp (show f < 2 ^ 31 by omega), nI_1]
    exact rf_learn hs hf hp (by omega) (by omega) k18 hm e20
  unfold mm_hearTell
  unfold ab_hT
  show rf_pg S _ (ab_if (g = s) (ab_nil (ab_ln s f p (l + 1) n (rf_a S))) (ab_ps (rf_u S) s (ab_fr 1 f g n (l + 1) 0) (ab_ln s f p (l + 1) n (rf_a S)))).2
  by_cases d : S 43 2 = nI s
  · have egs : g = s := by rw [e2] at d; exact (nI_eq (by omega) (by omega)).1 d
    rw [if_pos d, ab_ip egs]
    unfold mm_ht1
    exact rf_pg0 h5 (fun f hf => zz_lno (by omega) (by omega) (by omega))
  · have egs : ¬ g = s := fun z => d (by rw [e2, z])
    rw [if_neg d]
    rw [ab_in egs]
    have hT : rf_a (mm_ht2 s (nI p) S) = ab_ln s f p (l + 1) n (rf_a S) := by
      unfold mm_ht2
      rw [rf_n (by decide), rf_cpy, h1]
    have h18 : zz_18 (mm_ht2 s (nI p) S) := by
      refine zz_18of (S := mm_ht1 s (nI p) S) ?_ (rf_18l hp k18)
      unfold mm_ht2
      rw [zz_sn (by decide), zz_cpyo (by decide)]
    have w43 : ∀ k, k < 12 → mm_cpy (mm_ht1 s (nI p) S) 42 k = S 43 k := fun k hk => by
      rw [zz_cpyw hk]
      unfold mm_ht1
      rw [zz_lno (by decide) (by decide) (by decide)]
    have h42 : mm_ht2 s (nI p) S 42 2 = nI g := by
      unfold mm_ht2
      rw [zz_se, pk_un (by decide), w43 2 (by omega), e2]
    have w0 : mm_ht2 s (nI p) S 42 0 = nI 1 := by
      unfold mm_ht2
      rw [zz_se, pk_un (by decide), w43 0 (by omega), e0]
    have w1 : mm_ht2 s (nI p) S 42 1 = nI f := by
      unfold mm_ht2
      rw [zz_se, pk_un (by decide), w43 1 (by omega), e1]
    have w2 : mm_ht2 s (nI p) S 42 2 = nI g := by
      unfold mm_ht2
      rw [zz_se, pk_un (by decide), w43 2 (by omega), e2]
    have w3 : mm_ht2 s (nI p) S 42 3 = nI n := by
      unfold mm_ht2
      rw [zz_se, pk_un (by decide), w43 3 (by omega), e3]
    have w4 : mm_ht2 s (nI p) S 42 4 = nI (l + 1) := by
      unfold mm_ht2
      rw [zz_se, pk_us, w43 4 (by omega), e4, nI_1]
    have w5 : mm_ht2 s (nI p) S 42 5 = nI q := by
      unfold mm_ht2
      rw [zz_se, pk_un (by decide), w43 5 (by omega), e5]
    have ew : rf_wr (mm_ht2 s (nI p) S) = ab_fr 1 f g n (l + 1) 0 := by
      unfold rf_wr
      rw [w0, w1, w2, w3, w4, w5, rf_cn (by omega), rf_cn (by omega), rf_cn (by omega), rf_cn (by omega), rf_cn (by omega), rf_cn (by omega), hq0]
    have h20 : rf_nn (mm_ht2 s (nI p) S 20 (s * 8 + g)) := by
      unfold mm_ht2 mm_ht1
      rw [zz_sn (by decide), zz_cpyo (by decide), e1, e3, e4, nI_1]
      exact rf_20l (by omega) k20 (by omega)
    have e38 : mm_ht2 s (nI p) S 38 = S 38 := rf_ht2o (by decide)
    have gg := rf_pgpass (w := ab_fr 1 f g n (l + 1) 0) hs hg (zz_5of (rf_ht2o (by decide)) h5) (rf_nwc (rf_ht2o (by decide)) know) h18 h20 (rf_wn6 (rf_nx w0 (by omega)) (rf_nx w1 (by omega)) (rf_nx w2 (by omega)) (rf_nx w3 (by omega)) (rf_nx w4 (by omega)) (rf_nx w5 (by omega))) h42 ew
    rw [hT, rf_uc (rf_ht2o (by decide))] at gg
    exact rf_pgl (fun f hf => rf_ht2o (by omega)) gg
theorem rf_pghearLoss {s p f g n l q : Nat} {S : zz_T} (hs : s < 8) (hp : p < 8) (h5 : zz_5 S) (hk : rf_k S) (hr : rf_r S 2 f g n l q) : rf_pg S (mm_hearLoss s (nI p) S) (ab_hL (rf_u S) s p (ab_fr 2 f g n l q) (rf_a S)).2 := by
  obtain ⟨_, hf, hg, hn, hl, hq, e0, e1, e2, e3, e4, e5⟩ := hr
  obtain ⟨know, k16, k17, k18, k20, k21, kt, k24, _⟩ := hk
  obtain ⟨m, hm, e20⟩ := k20 (s * 8 + g) (by omega)
  have hst : rf_st (S 18 (s * 8 + g)) := k18 _ (by omega)
  unfold mm_hearLoss
  unfold ab_hL
  rw [e2, nI_clamp (show g < 2 ^ 31 by omega), e3, e20]
  show rf_pg S _ (ab_if (s ≠ g ∧ rf_a S 1 s g = p ∧ rf_a S 3 s g ≤ n) (ab_gv (rf_u S) s g (rf_a S)) (ab_nil (rf_a S))).2
  have hc : (¬ nI s = nI g ∧ S 18 (s * 8 + g) = nI p ∧ ¬ nI n < nI m) ↔ (s ≠ g ∧ rf_a S 1 s g = p ∧ rf_a S 3 s g ≤ n) := by
    rw [nI_eq (by omega) (by omega), rf_1r hs hg, rf_3r hs hg, e20, rf_cn (by omega)]
    have h1 : S 18 (s * 8 + g) = nI p ↔ rf_m (S 18 (s * 8 + g)) = p := by
      rcases hst with e | ⟨r, hr, e⟩
      · rw [e, rf_m1]
        exact ⟨fun z => absurd z.symm (rf_n1 (by omega)), fun z => by omega⟩
      · rw [e, rf_mn (by omega)]
        exact nI_eq (by omega) (by omega)
    have h2 : ¬ nI n < nI m ↔ m ≤ n := by
      rw [Int32.lt_iff_toInt_lt, nI_toInt (by omega), nI_toInt (by omega)]
      omega
    rw [h1, h2]
  by_cases c : ¬ nI s = nI g ∧ S 18 (s * 8 + g) = nI p ∧ ¬ nI n < nI m
  · rw [if_pos c]
    rw [ab_ip (hc.1 c)]
    exact rf_pggive hs hg h5 know (rf_nx e20 hm)
  · rw [if_neg c, ab_in (fun z => c (hc.2 z))]
    exact rf_pg0 h5 (fun f _ => rfl)
theorem rf_pgcarry {s k f g n l q : Nat} {S : zz_T} (hs : s < 8) (h5 : zz_5 S) (hk : rf_k S) (hr : rf_r S k f g n l q) : rf_pg S (mm_carry s S) (ab_cy (rf_u S) s (ab_fr k f g n l q) (rf_a S)).2 := by
  obtain ⟨hk5, hf, hg, hn, hl, hq, e0, e1, e2, e3, e4, e5⟩ := hr
  obtain ⟨know, k16, k17, k18, k20, k21, kt, k24, _⟩ := hk
  unfold mm_carry
  unfold ab_cy
  show rf_pg S _ (ab_if (q ≤ 1) (ab_nil (rf_a S)) (ab_ps (rf_u S) s (ab_fr k f g n l (q - 1)) (rf_a S))).2
  have hT : rf_a (mm_lifeW S) = rf_a S := by
    unfold mm_lifeW
    rw [rf_n (by decide), rf_cpy]
  have h5' : mm_lifeW S 42 5 = nI q - 1 := by
    unfold mm_lifeW
    rw [zz_se, pk_us, zz_cpyw (by decide), e5]
  have hc : mm_lifeW S 42 5 ≤ 0 ↔ q ≤ 1 := by
    rw [h5', Int32.le_iff_toInt_le, Int32.toInt_sub, nI_toInt (by omega)]
    have e1 : ((1 : Int32)).toInt = 1 := by decide
    have e0 : ((0 : Int32)).toInt = 0 := by decide
    rw [e1, e0, Int.bmod_eq_of_le (by omega) (by omega)]
    omega
  by_cases c : mm_lifeW S 42 5 ≤ 0
  · rw [if_pos c, ab_ip (hc.1 c)]
    exact rf_pg0 h5 (fun f hf => rf_lifeo (by omega))
  · rw [if_neg c]
    have c' : ¬ q ≤ 1 := fun z => c (hc.2 z)
    rw [ab_in c']
    have w43 : ∀ k, k < 12 → k ≠ 5 → mm_lifeW S 42 k = S 43 k := fun k hk hk5 => by
      unfold mm_lifeW
      rw [zz_se, pk_un hk5, zz_cpyw hk]
    have w0 : mm_lifeW S 42 0 = nI k := by rw [w43 0 (by omega) (by omega), e0]
    have w1 : mm_lifeW S 42 1 = nI f := by rw [w43 1 (by omega) (by omega), e1]
    have w2 : mm_lifeW S 42 2 = nI g := by rw [w43 2 (by omega) (by omega), e2]
    have w3 : mm_lifeW S 42 3 = nI n := by rw [w43 3 (by omega) (by omega), e3]
    have w4 : mm_lifeW S 42 4 = nI l := by rw [w43 4 (by omega) (by omega), e4]
    have w5 : mm_lifeW S 42 5 = nI (q - 1) := by rw [h5', rf_sub1 hq (by omega)]
    have ew : rf_wr (mm_lifeW S) = ab_fr k f g n l (q - 1) := by
      unfold rf_wr
      rw [w0, w1, w2, w3, w4, w5, rf_cn (by omega), rf_cn (by omega), rf_cn (by omega), rf_cn (by omega), rf_cn (by omega), rf_cn (by omega)]
    obtain ⟨m20, hm20, e20⟩ := k20 (s * 8 + g) (by omega)
    have e38 : mm_lifeW S 38 = S 38 := rf_lifeo (by decide)
    have gg := rf_pgpass (w := ab_fr k f g n l (q - 1)) hs hg (zz_5of (rf_lifeo (by decide)) h5) (rf_nwc (rf_lifeo (by decide)) know) (zz_18of (rf_lifeo (by decide)) k18) (by rw [rf_lifeo (by decide)]; exact rf_nx e20 hm20) (rf_wn6 (rf_nx w0 (by omega)) (rf_nx w1 (by omega)) (rf_nx w2 (by omega)) (rf_nx w3 (by omega)) (rf_nx w4 (by omega)) (rf_nx w5 (by omega))) w2 ew
    rw [hT, rf_uc (rf_lifeo (by decide))] at gg
    exact rf_pgl (fun f hf => rf_lifeo (by omega)) gg
theorem rf_pghearPiece {s f g n l q c : Nat} {S : zz_T} {ac : Nat → Nat → Nat} (hs : s < 8) (h5 : zz_5 S) (hk : rf_k S) (hr : rf_r S 3 f g n l q) (hnp : g = s → ¬ (S 43 3 = S 15 (f + 8 * s) ∧ S 43 4 = S 29 (f + 8 * s))) (hac : S 15 (f + 8 * s) = nI c ∧ c < 2 ^ 30 ∧ ac f s = c) (h29 : S 29 (f + 8 * s) = nI 0) : rf_pg S (mm_hearPiece s S) (ab_hP (rf_u S) ac s (ab_fr 3 f g n l q) (rf_a S)).2 := by
  have hcy := rf_pgcarry hs h5 hk hr
  obtain ⟨_, hf, hg, hn, hl, hq, e0, e1, e2, e3, e4, e5⟩ := hr
  obtain ⟨know, k16, k17, k18, k20, k21, kt, k24, _⟩ := hk
  unfold mm_hearPiece
  unfold ab_hP
  show rf_pg S _ (ab_if (g = s) (ab_ps (rf_u S) s (ab_fr 4 s f (ac f s) 0 8) (rf_a S)) (ab_cy (rf_u S) s (ab_fr 3 f g n l q) (rf_a S))).2
  by_cases d : S 43 2 = nI s
  · have egs : g = s := by rw [e2] at d; exact (nI_eq (by omega) (by omega)).1 d
    rw [if_pos d, e1, nI_clamp (show f < 2 ^ 31 by omega)]
    rw [ab_ip egs]
    unfold mm_hp92 mm_hpT
    rw [if_neg (hnp egs)]
    have hT : rf_a (mm_anW s f (f + 8 * s) S) = rf_a S := rf_same (fun F hF => rf_anWo (by unfold rf_F at hF; omega))
    have h42 : mm_anW s f (f + 8 * s) S 42 2 = nI f := by
      unfold mm_anW
      rw [zz_se, pk_un (by decide), zz_se, pk_un (by decide), zz_se, pk_un (by decide), zz_beg2]
    obtain ⟨b0, b1, b2, b3⟩ := zz_begw (k := 4) (f := nI s) (g := nI f) (S := S)
    have w0 : mm_anW s f (f + 8 * s) S 42 0 = nI 4 := by
      unfold mm_anW
      rw [zz_se, pk_un (by decide), zz_se, pk_un (by decide), zz_se, pk_un (by decide), b0]
      rfl
    have w1 : mm_anW s f (f + 8 * s) S 42 1 = nI s := by
      unfold mm_anW
      rw [zz_se, pk_un (by decide), zz_se, pk_un (by decide), zz_se, pk_un (by decide), b1]
    have w3 : mm_anW s f (f + 8 * s) S 42 3 = nI c := by
      unfold mm_anW
      rw [zz_se, pk_un (by decide), zz_se, pk_un (by decide), zz_se, pk_us, zz_bego (by decide), hac.1]
    have w4 : mm_anW s f (f + 8 * s) S 42 4 = nI 0 := by
      unfold mm_anW
      rw [zz_se, pk_un (by decide), zz_se, pk_us, zz_bego (by decide), h29]
    have w5 : mm_anW s f (f + 8 * s) S 42 5 = nI 8 := by
      unfold mm_anW
      rw [zz_se, pk_us]
      rfl
    have w2 := h42
    have ew : rf_wr (mm_anW s f (f + 8 * s) S) = ab_fr 4 s f (ac f s) 0 8 := by
      unfold rf_wr
      rw [w0, w1, w2, w3, w4, w5, rf_cn (by omega), rf_cn (by omega), rf_cn (by omega), rf_cn (by omega), rf_cn (by omega), rf_cn (by omega), hac.2.2]
    obtain ⟨m20, hm20, e20⟩ := k20 (s * 8 + f) (by omega)
    have hc30 := hac.2.1
    have e38 : mm_anW s f (f + 8 * s) S 38 = S 38 := rf_anWo (by decide)
    have gg := rf_pgpass (w := ab_fr 4 s f (ac f s) 0 8) hs hf (zz_5of (rf_anWo (by decide)) h5) (rf_nwc (rf_anWo (by decide)) know) (zz_18of (rf_anWo (by decide)) k18) (by rw [rf_anWo (by decide)]; exact rf_nx e20 hm20) (rf_wn6 (rf_nx w0 (by omega)) (rf_nx w1 (by omega)) (rf_nx w2 (by omega)) (rf_nx w3 (by omega)) (rf_nx w4 (by omega)) (rf_nx w5 (by omega))) h42 ew
    rw [hT, rf_uc (rf_anWo (by decide))] at gg
    exact rf_pgl (fun f hf => rf_anWo (by omega)) gg
  · have egs : ¬ g = s := fun z => d (by rw [e2, z])
    rw [if_neg d]
    rw [ab_in egs]
    exact hcy
theorem rf_pghearAnswer {s k f g n l q : Nat} {S : zz_T} (hs : s < 8) (h5 : zz_5 S) (hk : rf_k S) (hr : rf_r S k f g n l q) (hnp : g = s → ¬ mm_anP (s + 8 * f) S) :
    rf_pg S (mm_hearAnswer s S) (ab_hW (rf_u S) s (ab_fr k f g n l q) (rf_a S)).2 := by
  have hcy := rf_pgcarry hs h5 hk hr
  obtain ⟨_, hf, hg, hn, hl, hq, e0, e1, e2, e3, e4, e5⟩ := hr
  unfold mm_hearAnswer
  unfold ab_hW
  show rf_pg S _ (ab_if (g = s) (ab_nil (rf_a S)) (ab_cy (rf_u S) s (ab_fr k f g n l q) (rf_a S))).2
  by_cases d : S 43 2 = nI s
  · have egs : g = s := by rw [e2] at d; exact (nI_eq (by omega) (by omega)).1 d
    rw [if_pos d, ab_ip egs, e1, nI_clamp (show f < 2 ^ 31 by omega), if_neg (hnp egs)]
    exact rf_pg0 h5 (fun f _ => rfl)
  · have egs : ¬ g = s := fun z => d (by rw [e2, z])
    rw [if_neg d]
    rw [ab_in egs]
    exact hcy
