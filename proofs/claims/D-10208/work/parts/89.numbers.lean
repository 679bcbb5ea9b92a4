/-- HEARING in general -/
theorem rf_gHear {s p k f g n l q c : Nat} {S : zz_T} {ac : Nat → Nat → Nat} (hs : s < 8) (hp : p < 8) (h5 : zz_5 S) (hk : rf_k S) (hr : rf_r S k f g n l q) (hq0 : k = 1 → q = 0)
    (hc : k = 3 → g = s → mm_hpT s f (f + 8 * s) S 15 (f + 8 * s) = nI c) (hc30 : c < 2 ^ 30) (h29 : k = 3 → g = s → mm_hpT s f (f + 8 * s) S 29 (f + 8 * s) = nI 0) (hac : ac f s = c) :
    rf_pg S (mm_hear s (nI p) S) (ab_h (rf_u S) ac s p (ab_fr k f g n l q) (rf_a S)).2 ∧ (rf_a (mm_hear s (nI p) S) = (ab_h (rf_u S) ac s p (ab_fr k f g n l q) (rf_a S)).1 ∨
      (k = 4 ∧ g = s ∧ mm_anP (s + 8 * f) S ∧ rf_a (mm_hear s (nI p) S) = ab_w (ab_w (rf_a S) 7 s f 0) 9 s f 0)) := by
  have e0 : S 43 0 = nI k := hr.2.2.2.2.2.2.1
  have hk5 := hr.1
  have K : ∀ j, j < 5 → (S 43 0 = nI j ↔ k = j) := fun j hj => by rw [e0]; exact nI_eq (by omega) (by omega)
  have K0 : S 43 0 = 0 ↔ k = 0 := by rw [show (0 : Int32) = nI 0 from rfl]; exact K 0 (by omega)
  have K1 : S 43 0 = 1 ↔ k = 1 := by rw [show (1 : Int32) = nI 1 from rfl]; exact K 1 (by omega)
  have K2 : S 43 0 = 2 ↔ k = 2 := by rw [show (2 : Int32) = nI 2 from rfl]; exact K 2 (by omega)
  have K3 : S 43 0 = 3 ↔ k = 3 := by rw [show (3 : Int32) = nI 3 from rfl]; exact K 3 (by omega)
  have hab : ab_h (rf_u S) ac s p (ab_fr k f g n l q) (rf_a S) = ab_if (k = 0) (ab_hA (rf_u S) s p (ab_fr k f g n l q) (rf_a S)) (ab_if (k = 1) (ab_hT (rf_u S) s p (ab_fr k f g n l q) (rf_a S)) (ab_if (k = 2) (ab_hL (rf_u S) s p (ab_fr k f g n l q) (rf_a S)) (ab_if (k = 3) (ab_hP (rf_u S) ac s (ab_fr k f g n l q) (rf_a S)) (ab_hW (rf_u S) s (ab_fr k f g n l q) (rf_a S))))) := rfl
  rw [hab]
  unfold mm_hear
  by_cases c0 : k = 0
  · subst c0
    rw [if_pos (K0.2 rfl), ab_ip rfl]
    exact ⟨rf_pghearAsk hs hp h5 hk hr, Or.inl (rf_hearAsk hs hp hk hr)⟩
  · rw [if_neg (fun z => c0 (K0.1 z)), ab_in c0]
    by_cases c1 : k = 1
    · subst c1
      rw [if_pos (K1.2 rfl), ab_ip rfl]
      exact ⟨rf_pghearTell hs hp h5 hk hr (hq0 rfl), Or.inl (rf_hearTell hs hp hk hr)⟩
    · rw [if_neg (fun z => c1 (K1.1 z)), ab_in c1]
      by_cases c2 : k = 2
      · subst c2
        rw [if_pos (K2.2 rfl), ab_ip rfl]
        exact ⟨rf_pghearLoss hs hp h5 hk hr, Or.inl (rf_hearLoss hs hp hk hr)⟩
      · rw [if_neg (fun z => c2 (K2.1 z)), ab_in c2]
        by_cases c3 : k = 3
        · subst c3
          rw [if_pos (K3.2 rfl), ab_ip rfl]
          obtain ⟨r1, r2⟩ := rf_gPiece (ac := ac) hs h5 hk hr (hc rfl) hc30 (h29 rfl) hac
          exact ⟨r1, Or.inl r2⟩
        · rw [if_neg (fun z => c3 (K3.1 z)), ab_in c3]
          obtain ⟨r1, r2⟩ := rf_gAnswer hs h5 hk hr
          refine ⟨r1, ?_⟩
          rcases r2 with z | ⟨z1, z2, z3⟩
          · exact Or.inl z
          · exact Or.inr ⟨by omega, z1, z2, z3⟩
/-- numbers stay below their owners', whatever is heard -/
theorem ri_h {u lv : Nat → Nat → Prop} {cf ac : Nat → Nat → Nat} {s p : Nat} {x : ab_F} {D : ab_D} (hu : u s p) (hp : p ≠ 8) (hD : ri_D D) (hx : ri_x D x) :
    ri_D (ab_h u ac s p x D).1 ∧ (∀ w, ri_x D w → ri_x (ab_h u ac s p x D).1 w) ∧ ∀ w, (ab_h u ac s p x D).2 w → ri_x (ab_h u ac s p x D).1 w := by
  have := ri_do (u := u) (lv := lv) (cf := cf) (ac := ac) (k := 1) (a := s) (b := p) (x := x) (D := D) (fun _ => ⟨hu, hp⟩) hD (fun _ => hx)
  rw [ab_do1] at this
  exact this
theorem ri_u {u lv : Nat → Nat → Prop} {cf ac : Nat → Nat → Nat} {a b : Nat} {x : ab_F} {D : ab_D} (hD : ri_D D) :
    ri_D (ab_u u lv cf a b D).1 ∧ (∀ w, ri_x D w → ri_x (ab_u u lv cf a b D).1 w) ∧ ∀ w, (ab_u u lv cf a b D).2 w → ri_x (ab_u u lv cf a b D).1 w := by
  have := ri_do (u := u) (lv := lv) (cf := cf) (ac := ac) (k := 2) (a := a) (b := b) (x := x) (D := D) (fun z => absurd z (by decide)) hD (fun z => absurd z (by decide))
  rw [ab_do2] at this
  exact this
/-- the state of numbers: the picture and every slot -/
def ri_S (S : zz_T) : Prop := ri_D (rf_a S) ∧ ∀ i, i < 1024 → ¬ S 32 i = 0 → ri_x (rf_a S) (rf_sl S i)
theorem ri_xw {D : ab_D} {x y : ab_F} (h : ∀ j, 3 ≤ j → j ≤ 8 → x j = y j) (k : ri_x D y) : ri_x D x := by
  unfold ri_x
  rw [h 3 (by omega) (by omega), h 4 (by omega) (by omega), h 5 (by omega) (by omega), h 6 (by omega) (by omega), h 8 (by omega) (by omega)]
  exact k
/-- one step: what is put into the ring and the new picture -/
theorem ri_pg {S T : zz_T} {Y : ab_S} (hS : ri_S S) (g : rf_pg S T Y.2) (hD : ri_D (rf_a T)) (h1 : ∀ w, ri_x (rf_a S) w → ri_x (rf_a T) w) (h2 : ∀ w, Y.2 w → ri_x (rf_a T) w) : ri_S T := by
  refine ⟨hD, fun i hi hu => ?_⟩
  rcases g.2.2 i hi hu with z | ⟨_, _, w, w1, _, _, w4⟩
  · rw [rf_sss z]
    exact h1 _ (hS.2 i hi (by rw [← z.1]; exact hu))
  · exact ri_xw w4 (h2 w w1)
/-- HEARING keeps it -/
theorem ri_hear {s p k f g n l q c : Nat} {S : zz_T} (hs : s < 8) (hp : p < 8) (hu : rf_u S s p) (h5 : zz_5 S) (hk : rf_k S) (hr : rf_r S k f g n l q) (hq0 : k = 1 → q = 0)
    (hc : k = 3 → g = s → mm_hpT s f (f + 8 * s) S 15 (f + 8 * s) = nI c) (hc30 : c < 2 ^ 30) (h29 : k = 3 → g = s → mm_hpT s f (f + 8 * s) S 29 (f + 8 * s) = nI 0) (hS : ri_S S) (hx : ri_x (rf_a S) (ab_fr k f g n l q)) : ri_S (mm_hear s (nI p) S) := by
  obtain ⟨g1, g2⟩ := rf_gHear (ac := fun _ _ => c) hs hp h5 hk hr hq0 hc hc30 h29 rfl
  obtain ⟨r1, r2, r3⟩ := ri_h (u := rf_u S) (lv := fun _ _ => False) (cf := fun _ _ => 0) (ac := fun _ _ => c) (s := s) (p := p) hu (by omega) hS.1 hx
  rcases g2 with e | ⟨e4, eg, _, e⟩
  · refine ri_pg (Y := ab_h (rf_u S) (fun _ _ => c) s p (ab_fr k f g n l q) (rf_a S)) hS g1 (by rw [e]; exact r1) (by rw [e]; exact r2) (by rw [e]; exact r3)
  · -- news: nothing is sent, no number changes
    have ex : ∀ F i j, F ≠ 7 → F ≠ 9 → rf_a (mm_hear s (nI p) S) F i j = rf_a S F i j := by
      intro F i j h7 h9
      rw [e, ab_wf h9, ab_wf h7]
    have hsn : ∀ s' f' q', ab_sn s' f' q' (rf_a (mm_hear s (nI p) S)) → ab_sn s' f' q' (rf_a S) := by
      intro s' f' q' ⟨i, i1, i2, i3⟩
      exact ⟨i, i1, by rw [← ex 13 s' i (by decide) (by decide)]; exact i2, by rw [← ex 14 s' i (by decide) (by decide)]; exact i3⟩
    have rx : ∀ w, ri_x (rf_a S) w → ri_x (rf_a (mm_hear s (nI p) S)) w := by
      intro w hw
      unfold ri_x
      rw [ex 4 _ _ (by decide) (by decide), ex 4 _ _ (by decide) (by decide), ex 5 _ _ (by decide) (by decide)]
      exact hw
    refine ri_pg (Y := ab_h (rf_u S) (fun _ _ => c) s p (ab_fr k f g n l q) (rf_a S)) hS g1 ⟨fun v c' => ?_, fun s' f' q' h' => ?_⟩ rx (fun w hw => ?_)
    · rw [ex 3 _ _ (by decide) (by decide), ex 4 _ _ (by decide) (by decide)]
      exact hS.1.1 v c'
    · rw [ex 5 _ _ (by decide) (by decide)]
      exact hS.1.2 s' f' q' (hsn s' f' q' h')
    · exfalso
      have he : ab_h (rf_u S) (fun _ _ => c) s p (ab_fr k f g n l q) (rf_a S) = ab_hW (rf_u S) s (ab_fr k f g n l q) (rf_a S) := by
        subst e4
        exact (ab_in (by show ¬ (4 : Nat) = 0; decide)).trans ((ab_in (by show ¬ (4 : Nat) = 1; decide)).trans ((ab_in (by show ¬ (4 : Nat) = 2; decide)).trans (ab_in (by show ¬ (4 : Nat) = 3; decide))))
      rw [he] at hw
      have h0 : ab_hW (rf_u S) s (ab_fr k f g n l q) (rf_a S) = ab_nil (rf_a S) := ab_ip eg
      rw [h0] at hw
      exact hw
/-- URGING keeps it -/
theorem ri_urge {a b c : Nat} {S : zz_T} (ha : a < 8) (hb : b < 8) (hab : a ≠ b) (h5 : zz_5 S) (hk : rf_k S) (h27 : S 28 (a + 8 * b) = nI 1 → ∃ n, n < 2 ∧ S 27 (a + 8 * b) = nI n) (hc : S 14 (a + 8 * b) = nI c) (hc30 : c < 2 ^ 30) (hS : ri_S S) : ri_S (mm_urge a b S) := by
  have g := rf_pgurge (cf := fun _ _ => c) ha hb hab h5 hk h27 ⟨hc, hc30, rfl⟩
  have e := rf_urge (cf := fun _ _ => c) ha hb hab hk h27
  obtain ⟨r1, r2, r3⟩ := ri_u (u := rf_u S) (lv := rf_l S) (cf := fun _ _ => c) (ac := fun _ _ => 0) (a := a) (b := b) (x := fun _ => 0) hS.1
  exact ri_pg (Y := ab_u (rf_u S) (rf_l S) (fun _ _ => c) a b (rf_a S)) hS g (by rw [e]; exact r1) (by rw [e]; exact r2) (by rw [e]; exact r3)
