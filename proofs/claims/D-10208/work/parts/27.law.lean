theorem wk_178 {post : Int32 → Prop} {X : Nat → zz_T → Prop} {L : Nat} {xs : Nat → Int32} {J : Int64 → Int32 → Int32 → Int32 → Int32 → Int32 → Int32 → Int32 → Int32 → Int32 → (Nat → Int32) → (Nat → Int32) → (Nat → Int32) → (Nat → Int32) → (Nat → Int32) → (Nat → Int32) → (Nat → Int32) → (Nat → Int32) → (Nat → Int32) → (Nat → Int32) → (Nat → Int32) → (Nat → Int32) → (Nat → Int32) → (Nat → Int32) → (Nat → Int32) → (Nat → Int32) → (Nat → Int32) → (Nat → Int32) → (Nat → Int32) → (Nat → Int32) → (Nat → Int32) → (Nat → Int32) → (Nat → Int32) → (Nat → Int32) → (Nat → Int32) → (Nat → Int32) → (Nat → Int32) → (Nat → Int32) → (Nat → Int32) → (Nat → Int32) → (Nat → Int32) → (Nat → Int32) → (Nat → Int32) → (Nat → Int32) → (Nat → Int32) → (Nat → Int32) → (Nat → Int32) → (Nat → Int32) → Prop} {so go k ns sent tk a b kc ks d u : Nat} {row : Int64} {x13 : Int32} {S : zz_T} (hso : so < 8) (hgo : go < 8) (hsg : so ≠ go) (ha : a < 8) (hb : b < 8) (hab : a ≠ b) (hk : k < 260) (hX : zz_X so go X)
    (hns : ns ≤ k) (hI : zz_I ns S) (hD : zz_D so go row sent tk S) (hr : sent < 7 → zr_0 row sent) (hs : sent ≤ k) (hx : X k S) (hd : d ≤ 1) (e0 : S 0 0 = nI d) (hu : u ≤ 256) (hud : d = if u = 0 then 0 else 1) (h7 : 0 < d → S 7 0 = nI (u - 1))
    (hc : (x13 = 0 ∧ (a = 0 ∨ a = 4)) ∨ ¬ x13 = 0) (HP : post 1)
    (H : ∀ T row' sent', zz_V X so go (k + 1) row' sent' tk T → J row' (nI sent') (nI tk) (nI (k + 1)) (T 0 0) (T 1 0) (T 2 0) (T 3 0) (T 4 0) (T 5 0) (T 6) (T 7) (T 8) (T 9) (T 10) (T 11) (T 12) (T 13) (T 14) (T 15) (T 16) (T 17) (T 18) (T 19) (T 20) (T 21) (T 22) (T 23) (T 24) (T 25) (T 26) (T 27) (T 28) (T 29) (T 30) (T 31) (T 32) (T 33) (T 34) (T 35) (T 36) (T 37) (T 38) (T 39) (T 40) (T 41) (T 42) (T 43)) :
    wL_law_178 post L xs J (nI so) (nI go) row (nI sent) (nI tk) (nI k) (nI a) (nI b) x13 (nI u) kc ks (S 0 0) (S 1 0) (S 2 0) (S 3 0) (S 4 0) (S 5 0) (S 6) (S 7) (S 8) (S 9) (S 10) (S 11) (S 12) (S 13) (S 14) (S 15) (S 16) (S 17) (S 18) (S 19) (S 20) (S 21) (S 22) (S 23) (S 24) (S 25) (S 26) (S 27) (S 28) (S 29) (S 30) (S 31) (S 32) (S 33) (S 34) (S 35) (S 36) (S 37) (S 38) (S 39) (S 40) (S 41) (S 42) (S 43) := by
  have hp : (d = 0 ∧ nI u ≤ 0) ∨ (d = 1 ∧ ¬ nI u ≤ 0) := by
    by_cases c : u = 0
    · rw [if_pos c] at hud
      exact Or.inl ⟨hud, by rw [c]; decide⟩
    · rw [if_neg c] at hud
      exact Or.inr ⟨hud, nI_nle (by omega) (by omega)⟩
  unfold wL_law_178
  refine wk_arr (S := S) ha hb ?_
  by_cases c : x13 = 0
  · refine br_t c (wk_post (S := S) (d := d) ha hb hab (by omega) e0 (fun hall => ?_) (fun m hm hn _ T hT => ?_))
    · exact wk_full (S := S) (so := so) (go := go) ha hb (by omega) hns hX hI hx hd e0 hp hall HP
    · exact wk_put (S := S) (T := T) hso hgo ha hb hab ha hb hab hk hX hns hI hD hr hs hx hd e0 hu hud h7 (Or.inl ⟨c, rfl, rfl, (hc.resolve_right (fun z => z c)).2⟩) hm hn hT (H T)
  · refine br_f c (wk_post (S := S) (d := d) hso hgo hsg (by omega) e0 (fun hall => ?_) (fun m hm hn _ T hT => ?_))
    · exact wk_full (S := S) (so := so) (go := go) ha hb (by omega) hns hX hI hx hd e0 hp hall HP
    · exact wk_put (S := S) (T := T) hso hgo ha hb hab hso hgo hsg hk hX hns hI hD hr hs hx hd e0 hu hud h7 (Or.inr ⟨c, rfl, rfl⟩) hm hn hT (H T)
theorem wk_135 {post : Int32 → Prop} {X : Nat → zz_T → Prop} {L : Nat} {xs : Nat → Int32} {J : Int64 → Int32 → Int32 → Int32 → Int32 → Int32 → Int32 → Int32 → Int32 → Int32 → (Nat → Int32) → (Nat → Int32) → (Nat → Int32) → (Nat → Int32) → (Nat → Int32) → (Nat → Int32) → (Nat → Int32) → (Nat → Int32) → (Nat → Int32) → (Nat → Int32) → (Nat → Int32) → (Nat → Int32) → (Nat → Int32) → (Nat → Int32) → (Nat → Int32) → (Nat → Int32) → (Nat → Int32) → (Nat → Int32) → (Nat → Int32) → (Nat → Int32) → (Nat → Int32) → (Nat → Int32) → (Nat → Int32) → (Nat → Int32) → (Nat → Int32) → (Nat → Int32) → (Nat → Int32) → (Nat → Int32) → (Nat → Int32) → (Nat → Int32) → (Nat → Int32) → (Nat → Int32) → (Nat → Int32) → (Nat → Int32) → (Nat → Int32) → (Nat → Int32) → (Nat → Int32) → (Nat → Int32) → Prop} {so go k sent tk a b kc ks : Nat} {row : Int64} {x10 x13 : Int32} {S : zz_T} (hso : so < 8) (hgo : go < 8) (hsg : so ≠ go) (ha : a < 8) (hb : b < 8) (hab : a ≠ b) (hk : k < 260) (hX : zz_X so go X)
    (hV : zz_V X so go k row sent tk S) (hc : (x13 = 0 ∧ (a = 0 ∨ a = 4)) ∨ ¬ x13 = 0) (HP : post 1)
    (H : ∀ T row' sent', zz_V X so go (k + 1) row' sent' tk T → J row' (nI sent') (nI tk) (nI (k + 1)) (T 0 0) (T 1 0) (T 2 0) (T 3 0) (T 4 0) (T 5 0) (T 6) (T 7) (T 8) (T 9) (T 10) (T 11) (T 12) (T 13) (T 14) (T 15) (T 16) (T 17) (T 18) (T 19) (T 20) (T 21) (T 22) (T 23) (T 24) (T 25) (T 26) (T 27) (T 28) (T 29) (T 30) (T 31) (T 32) (T 33) (T 34) (T 35) (T 36) (T 37) (T 38) (T 39) (T 40) (T 41) (T 42) (T 43)) :
    wL_law_135 post L xs J (nI so) (nI go) row (nI sent) (nI tk) (nI k) x10 (nI a) (nI b) x13 kc ks (S 0 0) (S 1 0) (S 2 0) (S 3 0) (S 4 0) (S 5 0) (S 6) (S 7) (S 8) (S 9) (S 10) (S 11) (S 12) (S 13) (S 14) (S 15) (S 16) (S 17) (S 18) (S 19) (S 20) (S 21) (S 22) (S 23) (S 24) (S 25) (S 26) (S 27) (S 28) (S 29) (S 30) (S 31) (S 32) (S 33) (S 34) (S 35) (S 36) (S 37) (S 38) (S 39) (S 40) (S 41) (S 42) (S 43) := by
  obtain ⟨ns, hns, hI, hD, h0, hr, hs, hx⟩ := hV
  have h162 : ∀ u, u ≤ 256 → wL_law_162 post L xs J (nI so) (nI go) row (nI sent) (nI tk) (nI k) (nI a) (nI b) x13 (nI u) kc ks (S 0 0) (S 1 0) (S 2 0) (S 3 0) (S 4 0) (S 5 0) (S 6) (S 7) (S 8) (S 9) (S 10) (S 11) (S 12) (S 13) (S 14) (S 15) (S 16) (S 17) (S 18) (S 19) (S 20) (S 21) (S 22) (S 23) (S 24) (S 25) (S 26) (S 27) (S 28) (S 29) (S 30) (S 31) (S 32) (S 33) (S 34) (S 35) (S 36) (S 37) (S 38) (S 39) (S 40) (S 41) (S 42) (S 43) := by
    intro u hu
    unfold wL_law_162
    by_cases c : u = 0
    · refine br_t (by rw [c]; decide) ?_
      exact wk_178 (S := S) (d := 0) hso hgo hsg ha hb hab hk hX hns hI hD hr hs hx (by omega) h0 hu (by rw [if_pos c]) (fun z => absurd z (by omega)) hc HP H
    · refine br_f (nI_nle (by omega) (by omega)) ?_
      rw [show nI u - 1 = nI (u - 1) from by rw [show (1 : Int32) = nI 1 from rfl, pk_sub (by omega)]]
      refine wk_write (S := S) (d := 0) (nI_pos (by omega)) (nI_le (b := 255) (by omega) (by decide)) (by decide) h0 ?_
      have hf : ∀ f, f ≠ 0 → f ≠ 7 → zz_s (zz_s S 7 0 (nI (u - 1))) 0 0 (nI 1) f = S f := fun f z1 z2 => (zz_sn z1).trans (zz_sn z2)
      refine wk_178 (S := zz_s (zz_s S 7 0 (nI (u - 1))) 0 0 (nI 1)) (d := 1) hso hgo hsg ha hb hab hk hX hns (zz_Ic (S := S) (fun f z => hf f (by omega) (by omega)) (zz_18of (hf 18 (by decide) (by decide)) hI.2.2.2.1) ?_ hI) (zz_Dc (fun f z => hf f (by omega) (by omega)) hD) hr hs (hX.2.2.2.2.2.2.1 k _ S hx) (by omega) ?_ hu (by rw [if_neg c]) (fun _ => ?_) hc HP H
      · rw [hf 25 (by decide) (by decide), hf 29 (by decide) (by decide), hf 30 (by decide) (by decide)]
        exact hI.2.2.2.2.1.1
      · rw [zz_se, pk_us]
      · rw [zz_sn (by decide), zz_se, pk_us]
  unfold wL_law_135
  refine ⟨fun _ => h162 0 (by omega), fun _ => ?_⟩
  obtain ⟨z, hz, ez⟩ := pk_andE (x10 >>> ((14 : Int32) &&& 31)) (m := 255) 8 (by decide)
  rw [ez, show (1 : Int32) = nI 1 from rfl, nI_add]
  exact h162 (1 + z) (by omega)

/-! ## the loop -/
theorem zz_viewc {S T : zz_T} (h : ∀ f, f = 0 ∨ f = 1 ∨ f = 2 ∨ f = 6 ∨ f = 9 ∨ f = 10 → T f = S f) : mm_view T = mm_view S := by
  have e1 : mm_wt T = mm_wt S := funext (fun a => funext (fun b => funext (fun m => propext (zz_wtc (h 1 (by decide)) (h 2 (by decide)) (h 9 (by decide)) (h 10 (by decide)) a b m))))
  have e2 : mm_at T = mm_at S := funext (fun a => funext (fun b => funext (fun m => by unfold mm_at mm_has mm_isT; rw [h 1 (by decide), h 2 (by decide), h 9 (by decide), h 10 (by decide)])))
  have e3 : mm_has T = mm_has S := funext (fun m => by unfold mm_has; rw [h 1 (by decide)])
  have e4 : mm_rd T = mm_rd S := funext (fun m => by
    unfold mm_rd mm_isT
    rw [e3, h 2 (by decide), h 9 (by decide), h 10 (by decide)]
    have : mm_dist T (S 9 m).toNatClampNeg (S 10 m).toNatClampNeg = mm_dist S (S 9 m).toNatClampNeg (S 10 m).toNatClampNeg := by
      unfold mm_dist
      exact zz_fstc (fun n => by rw [zz_rchc (h 6 (by decide))]) 8 0
    rw [this])
  have e5 : mm_view1 T = mm_view1 S := funext (fun a => funext (fun v => by unfold mm_view1; rw [e1, e2, h 6 (by decide)]))
  unfold mm_view
  rw [e3, e4, e5, h 0 (by decide)]
theorem zz_Vq {X : Nat → zz_T → Prop} {so go k ns sent tk : Nat} {row : Int64} {S T : zz_T} (hns : ns ≤ k) (hI : zz_I ns T) (hD : zz_D so go row sent tk S) (h0 : S 0 0 = 0) (hr : sent < 7 → zr_0 row sent) (hs : sent ≤ k) (hx : X (k + 1) T)
    (h : ∀ f, f = 0 ∨ f = 1 ∨ f = 2 ∨ f = 8 ∨ f = 9 ∨ f = 10 ∨ f = 11 ∨ f = 12 ∨ f = 13 → T f = S f) : zz_V X so go (k + 1) row sent tk T :=
  ⟨ns, by omega, hI, zz_Dc (fun f hf => h f (by omega)) hD, by rw [h 0 (by decide)]; exact h0, hr, by omega, hx⟩
theorem wk_step {post : Int32 → Prop} {X : Nat → zz_T → Prop} {L : Nat} {xs : Nat → Int32} {so go k sent tk kc ks n : Nat} {row : Int64} {S : zz_T} (hso : so < 8) (hgo : go < 8) (hsg : so ≠ go) (hL : L ≤ 260) (hk : k < L) (hX : zz_X so go X)
    (hV : zz_V X so go k row sent tk S) (HP : post 1)
    (H : ∀ T row' sent' tk', zz_V X so go (k + 1) row' sent' tk' T → wL_law_65 post L xs (nI so) (nI go) kc ks n row' (nI sent') (nI tk') (nI (k + 1)) (T 0 0) (T 1 0) (T 2 0) (T 3 0) (T 4 0) (T 5 0) (T 6) (T 7) (T 8) (T 9) (T 10) (T 11) (T 12) (T 13) (T 14) (T 15) (T 16) (T 17) (T 18) (T 19) (T 20) (T 21) (T 22) (T 23) (T 24) (T 25) (T 26) (T 27) (T 28) (T 29) (T 30) (T 31) (T 32) (T 33) (T 34) (T 35) (T 36) (T 37) (T 38) (T 39) (T 40) (T 41) (T 42) (T 43)) :
    wL_law_65 post L xs (nI so) (nI go) kc ks (n + 1) row (nI sent) (nI tk) (nI k) (S 0 0) (S 1 0) (S 2 0) (S 3 0) (S 4 0) (S 5 0) (S 6) (S 7) (S 8) (S 9) (S 10) (S 11) (S 12) (S 13) (S 14) (S 15) (S 16) (S 17) (S 18) (S 19) (S 20) (S 21) (S 22) (S 23) (S 24) (S 25) (S 26) (S 27) (S 28) (S 29) (S 30) (S 31) (S 32) (S 33) (S 34) (S 35) (S 36) (S 37) (S 38) (S 39) (S 40) (S 41) (S 42) (S 43) := by
  have hV' := hV
  obtain ⟨ns, hns, hI, hD, h0, hr, hs, hx⟩ := hV'
  have vk : vp_in (nI k) L := vp_in_nI hk (by omega)
  refine pk_le L k (fun z => absurd z (by omega)) (fun _ => ⟨vk, ?_⟩)
  rw [nI_clamp (show k < 2 ^ 31 by omega)]
  obtain ⟨w, hw, ew⟩ := pk_andE (xs k) (m := 15) 4 (by decide)
  rw [ew]
  refine nm_e ⟨vk, nm_e ?_⟩
  generalize xs k >>> ((4 : Int32) &&& 31) = x
  have ea := pk_and x (m := 7) 3 (by decide)
  have e3 := pk_and x (m := 3) 2 (by decide)
  have ha : x.toBitVec.toNat % 2 ^ 3 < 8 := Nat.mod_lt _ (by decide)
  have h04 : x &&& 3 = 0 → x.toBitVec.toNat % 2 ^ 3 = 0 ∨ x.toBitVec.toNat % 2 ^ 3 = 4 := by
    intro z
    rw [e3] at z
    have := (nI_eq (show x.toBitVec.toNat % 2 ^ 2 < 2 ^ 31 by omega) (by decide)).1 (show _ = nI 0 from z)
    omega
  generalize x.toBitVec.toNat % 2 ^ 3 = a at ea ha h04
  obtain ⟨y, hy, ey⟩ := pk_andE (x >>> ((3 : Int32) &&& 31)) (m := 255) 8 (by decide)
  have hb : (a + 1 + y % 7) % 8 < 8 := Nat.mod_lt _ (by decide)
  have hab : a ≠ (a + 1 + y % 7) % 8 := by omega
  have eb : nI a + 1 + (nI y - nI y / 7 * 7) &&& 7 = nI ((a + 1 + y % 7) % 8) := by
    rw [show (7 : Int32) = nI 7 from rfl, pk_rem (by omega) (by omega) (by omega), nI_1, nI_add]
    exact zz_and7 (by omega)
  rw [ey]
  refine nm_r ea ⟨by decide, nm_r eb ?_⟩
  generalize (a + 1 + y % 7) % 8 = b at hb hab
  clear ey eb hy ea e3
  refine pk_le 5 w (fun w5 => ?_) (fun w5 => ?_)
  · refine pk_le 9 w (fun w9 => ?_) (fun w9 => ?_)
    · refine pk_le 11 w (fun w11 => ?_) (fun w11 => ?_)
      · refine pk_le 14 w (fun w14 => ?_) (fun w14 => ?_)
        · -- take
          refine wk_take (S := S) (fun hf => ?_) (fun m hm hf => ?_)
          · refine br_t (by decide) ?_
            have hv : zz_V X so go (k + 1) row sent tk S := zz_Vq hns hI hD h0 hr hs (hX.2.2.2.2.2.1 k S hx) (fun _ _ => rfl)
            unfold wL_law_509
            exact wk_511 hso hgo ha hb hab (by omega) hv (H S row sent tk hv)
          · obtain ⟨_, _, ⟨hat, _⟩, _⟩ := zz_fst_some 16 0 m hf
            obtain ⟨l, hl, el⟩ := hI.2.2.2.2.1.2.2.2.2.1 m hm
            refine br_f (by rw [el]; exact nI_pos (by omega)) ?_
            have hv : zz_V X so go (k + 1) row sent (tk + 1) (mm_take m S) := ⟨ns, by omega, zz_Itake hm hat.2.1 hI, zz_Dtake hI.2.2.2.2.1 hm hf hD, by rw [zz_takeo (by decide) (by decide)]; exact h0, hr, by omega, hX.2.2.2.2.1 k m S hm hx⟩
            unfold wL_law_509
            rw [nI_1]
            exact wk_511 (S := mm_take m S) hso hgo ha hb hab (by omega) hv (H _ row sent (tk + 1) hv)
        · -- settle
          refine wk_setl (S := S) (show ns < 2 ^ 30 by omega) hI (fun U hU => (hX.2.2.2.2.2.2.2.2 k ns S U (by omega) hns hI hx hU).1) (fun U hU hIU hQc hQ hU0 => br_f (by decide) ?_)
          have hv : zz_V X so go (k + 1) row sent tk U := ⟨ns, by omega, hIU, zz_Dset (hQc S (fun _ _ => rfl) hQ) hD, by rw [hU0]; exact h0, hr, by omega, (hX.2.2.2.2.2.2.2.2 k ns S U (by omega) hns hI hx hU).2⟩
          clear hU hQ hQc
          exact wk_511 (S := U) hso hgo ha hb hab (by omega) hv (H U row sent tk hv)
      · refine wk_view (S := S) hI.2.2.2.2.1.2.2.1 ?_
        refine pk_le 10 w (fun w10 => ?_) (fun w10 => ?_)
        · -- forget
          refine wk_forget (S := S) ha (fun C hC => ?_)
          have ho : ∀ f, f < 16 → C f = S f := fun f hf => by rw [hC]; exact zz_clro (by omega)
          have hq : ∀ f, f < 16 → zz_s C 16 a (C 16 a + 1) f = S f := fun f hf => (zz_sn (by omega)).trans (ho f hf)
          have hv : zz_V X so go (k + 1) row sent tk (zz_s C 16 a (C 16 a + 1)) := zz_Vq hns (zz_Iforget hC hI) hD h0 hr hs (hX.2.2.1 k a S C ha hC hx) (fun f hf => hq f (by omega))
          clear hC
          unfold wL_law_449
          refine br_f (by decide) (wk_view (S := zz_s C 16 a (C 16 a + 1)) ?_ (br_t (zz_viewc (fun f hf => hq f (by omega))) ?_))
          · unfold zz_910
            rw [hq 9 (by decide), hq 10 (by decide)]
            exact hI.2.2.2.2.1.2.2.1
          · exact wk_511 (S := zz_s C 16 a (C 16 a + 1)) hso hgo ha hb hab (by omega) hv (H _ row sent tk hv)
        · -- disturb
          obtain ⟨y1, hy1, ey1⟩ := pk_andE (x >>> ((12 : Int32) &&& 31)) (m := 15) 4 (by decide)
          obtain ⟨y2, hy2, ey2⟩ := pk_andE (x >>> ((16 : Int32) &&& 31)) (m := 3) 2 (by decide)
          refine ⟨by decide, ?_⟩
          rw [ey1, ey2, show (3 : Int32) = nI 3 from rfl, pk_rem (by omega) (by omega) (by omega)]
          refine wk_disturb (S := S) ha (nI_pos (by omega)) (nI_nlt (b := y1) (a := 20) (by omega) (by decide)) (nI_pos (by omega)) (nI_le (b := 2) (by omega) (by decide)) (fun T hT hT1 => ?_)
          have hv : zz_V X so go (k + 1) row sent tk T := zz_Vq hns (zz_Idisturb hT hI) hD h0 hr hs (hX.2.2.2.1 k S T hT hT1 hx) (fun f hf => hT f (by omega))
          unfold wL_law_449
          refine br_f (by decide) (wk_view (S := T) ?_ (br_t (zz_viewc (fun f hf => hT f (by omega))) ?_))
          · unfold zz_910
            rw [hT 9 (by decide), hT 10 (by decide)]
            exact hI.2.2.2.2.1.2.2.1
          · exact wk_511 (S := T) hso hgo ha hb hab (by omega) hv (H T row sent tk hv)
    · -- link
      have hl : ∀ up, wL_law_390 post L xs (wL_law_65 post L xs (nI so) (nI go) kc ks n) (nI so) (nI go) row (nI sent) (nI tk) (nI k) (nI a) (nI b) up (nI b) (nI a) kc ks (S 0 0) (S 1 0) (S 2 0) (S 3 0) (S 4 0) (S 5 0) (S 6) (S 7) (S 8) (S 9) (S 10) (S 11) (S 12) (S 13) (S 14) (S 15) (S 16) (S 17) (S 18) (S 19) (S 20) (S 21) (S 22) (S 23) (S 24) (S 25) (S 26) (S 27) (S 28) (S 29) (S 30) (S 31) (S 32) (S 33) (S 34) (S 35) (S 36) (S 37) (S 38) (S 39) (S 40) (S 41) (S 42) (S 43) := by
        intro up
        unfold wL_law_390
        refine wk_link (S := S) ha hb hab ?_
        have hv : zz_V X so go (k + 1) row sent tk (mm_link a b up S) := zz_Vq hns (zz_Ilink ha hb hab hI) hD h0 hr hs (hX.2.1 k a b up S ha hb hab hx) (fun f hf => zz_linko (by omega))
        exact wk_511 (S := mm_link a b up S) hso hgo ha hb hab (by omega) hv (H _ row sent tk hv)
      exact ⟨fun _ => hl 0, fun _ => hl 1⟩
  · -- post
    refine ⟨fun c => ?_, fun c => ?_⟩
    · exact wk_135 (S := S) hso hgo hsg ha hb hab (by omega) hX hV (Or.inl ⟨rfl, h04 c⟩) HP (fun T row' sent' hv => H T row' sent' tk hv)
    · exact wk_135 (S := S) hso hgo hsg ha hb hab (by omega) hX hV (Or.inr (by decide)) HP (fun T row' sent' hv => H T row' sent' tk hv)
theorem wk_loop {X : Nat → zz_T → Prop} {L : Nat} {xs : Nat → Int32} {so go kc ks : Nat} {S : zz_T} (hso : so < 8) (hgo : go < 8) (hsg : so ≠ go) (hL : L ≤ 260) (hX : zz_X so go X) (hV : zz_V X so go 0 0 0 0 S) :
    ∃ n, wL_law_65 (fun r => r = 1) L xs (nI so) (nI go) kc ks n 0 0 0 0 (S 0 0) (S 1 0) (S 2 0) (S 3 0) (S 4 0) (S 5 0) (S 6) (S 7) (S 8) (S 9) (S 10) (S 11) (S 12) (S 13) (S 14) (S 15) (S 16) (S 17) (S 18) (S 19) (S 20) (S 21) (S 22) (S 23) (S 24) (S 25) (S 26) (S 27) (S 28) (S 29) (S 30) (S 31) (S 32) (S 33) (S 34) (S 35) (S 36) (S 37) (S 38) (S 39) (S 40) (S 41) (S 42) (S 43) := by
  refine pk_loop (fun n i (x : Int64 × Nat × Nat × zz_T) => wL_law_65 (fun r => r = 1) L xs (nI so) (nI go) kc ks n x.1 (nI x.2.1) (nI x.2.2.1) (nI i) (x.2.2.2 0 0) (x.2.2.2 1 0) (x.2.2.2 2 0) (x.2.2.2 3 0) (x.2.2.2 4 0) (x.2.2.2 5 0) (x.2.2.2 6) (x.2.2.2 7) (x.2.2.2 8) (x.2.2.2 9) (x.2.2.2 10) (x.2.2.2 11) (x.2.2.2 12) (x.2.2.2 13) (x.2.2.2 14) (x.2.2.2 15) (x.2.2.2 16) (x.2.2.2 17) (x.2.2.2 18) (x.2.2.2 19) (x.2.2.2 20) (x.2.2.2 21) (x.2.2.2 22) (x.2.2.2 23) (x.2.2.2 24) (x.2.2.2 25) (x.2.2.2 26) (x.2.2.2 27) (x.2.2.2 28) (x.2.2.2 29) (x.2.2.2 30) (x.2.2.2 31) (x.2.2.2 32) (x.2.2.2 33) (x.2.2.2 34) (x.2.2.2 35) (x.2.2.2 36) (x.2.2.2 37) (x.2.2.2 38) (x.2.2.2 39) (x.2.2.2 40) (x.2.2.2 41) (x.2.2.2 42) (x.2.2.2 43)) (fun i x => zz_V X so go i x.1 x.2.1 x.2.2.1 x.2.2.2) L 0 (0, 0, 0, S) (Nat.zero_le L) hV ?_ ?_
  · rintro n ⟨row, sent, tk, U⟩ hv
    have hv' : zz_V X so go L row sent tk U := hv
    obtain ⟨ns, hns, hI, hD, h0, hr, hs, hx⟩ := hv'
    refine pk_le L L (fun _ => ?_) (fun z => absurd z (by omega))
    refine wk_setl (S := U) (show ns < 2 ^ 30 by omega) hI (fun W hW => (hX.2.2.2.2.2.2.2.2 L ns U W (by omega) hns hI hx hW).1) (fun W hW hIW hQc hQ _ => br_f (by decide) ?_)
    have hDW := zz_Dset (hQc U (fun _ _ => rfl) hQ) hD
    obtain ⟨r1, r2⟩ := zz_row hIW.2.2.2.2.1 hDW
    have hle := hD.1
    clear hW hQ hQc
    exact wk_row (S := W) (tk := tk) hso hgo rfl rfl (show tk < 2 ^ 30 by omega) r1 r2 (br_f (by decide) rfl)
  · rintro n i ⟨row, sent, tk, U⟩ hi hv hw
    exact wk_step (S := U) hso hgo hsg hL hi hX hv rfl (fun T row' sent' tk' hv' => hw (row', sent', tk', T) hv')
/-- the law holds on every script, if a settling ends well in all states of an invariant X that the calls keep -/
theorem wk_law (X : Nat → Nat → Nat → zz_T → Prop) (hX : ∀ so go, so < 8 → go < 8 → so ≠ go → zz_X so go (X so go)) (xs : Nat → Int32) (L : Nat) (hL : L ≤ 260) : wpL_law (fun r => r = 1) L xs := by
  unfold wpL_law
  refine ⟨38, 19144, by decide, by decide, wk_init (fun T hT => ?_)⟩
  have go1 : ∀ so go, so < 8 → go < 8 → so ≠ go → ∃ n, wL_law_65 (fun r => r = 1) L xs (nI so) (nI go) (1 + 38) (44 + 19144) n 0 0 0 0 (T 0 0) (T 1 0) (T 2 0) (T 3 0) (T 4 0) (T 5 0) (T 6) (T 7) (T 8) (T 9) (T 10) (T 11) (T 12) (T 13) (T 14) (T 15) (T 16) (T 17) (T 18) (T 19) (T 20) (T 21) (T 22) (T 23) (T 24) (T 25) (T 26) (T 27) (T 28) (T 29) (T 30) (T 31) (T 32) (T 33) (T 34) (T 35) (T 36) (T 37) (T 38) (T 39) (T 40) (T 41) (T 42) (T 43) := by
    intro so go hso hgo hsg
    have hx := hX so go hso hgo hsg
    refine wk_loop (S := T) hso hgo hsg hL hx ⟨0, Nat.le_refl 0, ?_, ⟨Nat.le_refl 0, fun _ => 0, fun m hm z => ?_, fun m _ hm _ z => ?_, fun j _ hj => absurd hj (by omega)⟩, ?_, fun _ j _ _ => ?_, Nat.le_refl 0, ?_⟩
    · rw [hT]
      exact zz_Iini
    · obtain ⟨q, hq, _⟩ := zz_Iini.2.2.2.2.2.2 m hm (by rw [← hT]; exact z.1)
      omega
    · obtain ⟨q, hq, _⟩ := zz_Iini.2.2.2.2.2.2 m hm (by rw [← hT]; exact z.1)
      omega
    · rw [hT]
      exact zz_ini0
    · unfold zr_t
      exact BitVec.getLsbD_zero
    · rw [hT]
      exact hx.1
  clear hT
  have h52 : ∀ so go, so < 8 → go < 8 → so ≠ go → wL_law_52 (fun r => r = 1) L xs (nI so) (nI go) (1 + 38) (44 + 19144) (T 0 0) (T 1 0) (T 2 0) (T 3 0) (T 4 0) (T 5 0) (T 6) (T 7) (T 8) (T 9) (T 10) (T 11) (T 12) (T 13) (T 14) (T 15) (T 16) (T 17) (T 18) (T 19) (T 20) (T 21) (T 22) (T 23) (T 24) (T 25) (T 26) (T 27) (T 28) (T 29) (T 30) (T 31) (T 32) (T 33) (T 34) (T 35) (T 36) (T 37) (T 38) (T 39) (T 40) (T 41) (T 42) (T 43) := by
    intro so go hso hgo hsg
    unfold wL_law_52
    exact go1 so go hso hgo hsg
  by_cases c : Int32.ofNat L ≤ 0
  · refine br_t c ?_
    unfold wL_law_23
    exact br_t c (h52 2 5 (by decide) (by decide) (by decide))
  · have hL0 : 0 < L := by
      refine Nat.pos_of_ne_zero (fun z => c ?_)
      rw [z]
      decide
    have v0 : vp_in 0 L := vp_in_nI (n := 0) hL0 (by omega)
    refine br_f c ⟨v0, ?_⟩
    unfold wL_law_23
    refine br_f c ⟨v0, by decide, ?_⟩
    rw [show (0 : Int32).toNatClampNeg = 0 from rfl]
    obtain ⟨a, ha, ea⟩ := pk_andE (xs 0) (m := 7) 3 (by decide)
    obtain ⟨y, hy, ey⟩ := pk_andE (xs 0 >>> ((3 : Int32) &&& 31)) (m := 255) 8 (by decide)
    rw [ea, ey]
    have eb : nI a + 1 + (nI y - nI y / 7 * 7) &&& 7 = nI ((a + 1 + y % 7) % 8) := by
      rw [show (7 : Int32) = nI 7 from rfl, pk_rem (by omega) (by omega) (by omega), nI_1, nI_add]
      exact zz_and7 (by omega)
    rw [eb]
    exact h52 a _ (by omega) (Nat.mod_lt _ (by decide)) (by omega)
