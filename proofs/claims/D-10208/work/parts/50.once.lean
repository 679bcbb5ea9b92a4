/-! ## a TELL is one frame, if every frame is heard once -/
def ax_U (Z : ab_Z) (N : Nat) : Prop := ∀ i j, i < N → j < N → ab_zK Z i = 1 → ab_zK Z j = 1 → ab_zX Z i 3 = 1 → ab_zD Z 0 4 (ab_zX Z i 4) 0 < ab_zX Z i 6 → ab_zX Z i = ab_zX Z j → i = j
theorem ax_one {Z : ab_Z} {i : Nat} {w1 w2 : ab_F} (o1 : ab_zO Z i w1) (o2 : ab_zO Z i w2) (h1 : w1 3 = 1) (h2 : w2 3 = 1) : w1 = w2 := by
  have d1 := ab_d1 o1 (by omega)
  have k1 : ab_zK Z i = 1 := by
    rcases d1.2.2.2 with ⟨hk, _⟩ | ⟨_, _, _, _, ⟨hk, _⟩ | ⟨_, _, e3, _⟩⟩
    · exact hk
    · exact hk
    · omega
  unfold ab_zO ab_zY at o1 o2
  rw [k1, ab_do1] at o1 o2
  obtain ⟨_, y1⟩ := ab_hho o1
  obtain ⟨_, y2⟩ := ab_hho o2
  rcases y1 with ⟨e3, es, e5, e⟩ | ⟨e3, es, e5, e, e4, e2⟩ | ⟨e3, e5, e, e2⟩ | ⟨e3, _, _, e, _⟩ | ⟨_, _, e, _⟩ | ⟨c, r, e, _⟩
  · have : w1 3 = 0 := by rw [e]; rfl
    omega
  · rcases y2 with ⟨f3, fs, f5, f⟩ | ⟨f3, fs, f5, f, f4, f2⟩ | ⟨f3, f5, f, f2⟩ | ⟨f3, _, _, f, _⟩ | ⟨_, _, f, _⟩ | ⟨c, r, f, _⟩
    · have : w2 3 = 0 := by rw [f]; rfl
      omega
    · rw [e, f, e2, f2]
    · omega
    · have : w2 3 = ab_zX Z i 3 := by rw [f]; rfl
      omega
    · have : w2 3 = 4 := by rw [f]; rfl
      omega
    · have : w2 3 = 2 := by rw [f]; rfl
      omega
  · rcases y2 with ⟨f3, fs, f5, f⟩ | ⟨f3, fs, f5, f, f4, f2⟩ | ⟨f3, f5, f, f2⟩ | ⟨f3, _, _, f, _⟩ | ⟨_, _, f, _⟩ | ⟨c, r, f, _⟩
    · omega
    · omega
    · rw [e, f, e2, f2]
    · omega
    · have : w2 3 = 4 := by rw [f]; rfl
      omega
    · have : w2 3 = 2 := by rw [f]; rfl
      omega
  · have : w1 3 = ab_zX Z i 3 := by rw [e]; rfl
    omega
  · have : w1 3 = 4 := by rw [e]; rfl
    omega
  · have : w1 3 = 2 := by rw [e]; rfl
    omega
/-- frame w of the TELL born at j, sent at i -/
def ax_fr (Z : ab_Z) (N j c z i : Nat) (w : ab_F) : Prop := i < N ∧ ab_zO Z i w ∧ w 3 = 1 ∧ ab_rc Z w ∧ ab_bth Z j w ∧ w 4 = c ∧ w 5 = z
theorem ax_frn {Z : ab_Z} {N j c z i : Nat} {w : ab_F} (hf : ax_fr Z N j c z i w) : ab_zD Z 0 4 (w 4) 0 < w 6 := by
  rcases hf.2.2.2.1.2 with q | q
  · exact q
  · have := hf.2.2.1
    omega
/-- the frame before -/
theorem ax_prv {Z : ab_Z} {d : Nat → Nat → Nat} {N j a c z i : Nat} {w : ab_F} (hW : ax_W Z d N) (hj : j < N) (ht : ab_tb Z d j a c z) (hf : ax_fr Z N j c z i w) (h7 : w 7 ≠ 0) :
    ab_zK Z i = 1 ∧ ab_zs Z i ≠ z ∧ ab_zX Z i 7 + 1 = w 7 ∧ ab_zX Z i 3 = 1 ∧ ∃ m, m < i ∧ ax_fr Z N j c z m (ab_zX Z i) := by
  obtain ⟨h, hL, hG, hl8, hq⟩ := hW
  obtain ⟨hi, ho, h3, hr, hb, e4c, e5z⟩ := hf
  obtain ⟨e0, e1, hu, y⟩ := ab_d1 ho hr.1
  rcases y with ⟨hk, e3, e4, e5, e6, e7, eg, y0, y1⟩ | ⟨e4, e7, e6, es, y⟩
  · have hx3 : ab_zX Z i 3 = 1 := by omega
    have hx : ab_rc Z (ab_zX Z i) := by
      unfold ab_rc at hr ⊢
      rw [e3, ← e4, ← e6]
      refine ⟨hr.1, ?_⟩
      rcases hr.2 with z | z
      · exact Or.inl z
      · omega
    obtain ⟨m, hm, hom, t0, t1, t2, tu⟩ := ab_hrc h hi hk hx
    have hbx : ab_bth Z j (ab_zX Z i) := by
      obtain ⟨b, hbm, hbb⟩ := ab_fbI h m (by omega) _ hom hx
      have : b = j := by
        refine ab_bone (n := w 6) (c := w 4) h (by omega) hj ?_ ?_ hb.2.2.1 hb.2.2.2.1
        · rw [e4, e6]; exact hbb.2.2.1
        · rw [e4, e6]; exact hbb.2.2.2.1
      rw [← this]; exact hbb
    have x5 : ab_zX Z i 5 = z := by rw [← e5]; exact e5z
    exact ⟨hk, fun q => eg (by rw [x5, q]), by omega, hx3, m, hm, by omega, hom, hx3, hx, hbx, by rw [← e4]; exact e4c, x5⟩
  · exact absurd e7 h7
theorem ax_uq {Z : ab_Z} {d : Nat → Nat → Nat} {N j a c z : Nat} (hW : ax_W Z d N) (hU : ax_U Z N) (hj : j < N) (ht : ab_tb Z d j a c z) : ∀ l i1 i2 w1 w2, ax_fr Z N j c z i1 w1 → ax_fr Z N j c z i2 w2 → w1 7 = l → w2 7 = l → i1 = i2 ∧ w1 = w2 := by
  have hl : ∀ a b, ab_zl Z a b → a ≠ b := fun a b z => (hW.2.2.2.1 a b z).1
  intro l
  induction l with
  | zero =>
    intro i1 i2 w1 w2 f1 f2 l1 l2
    have g1 := (ab_tnr hW.1 hl hj ht i1 f1.1 w1 f1.2.1 f1.2.2.1 f1.2.2.2.1 f1.2.2.2.2.1 f1.2.2.2.2.2.1 f1.2.2.2.2.2.2).2.2.2.2 l1
    have g2 := (ab_tnr hW.1 hl hj ht i2 f2.1 w2 f2.2.1 f2.2.2.1 f2.2.2.2.1 f2.2.2.2.2.1 f2.2.2.2.2.2.1 f2.2.2.2.2.2.2).2.2.2.2 l2
    refine ⟨by omega, ?_⟩
    have o1 := f1.2.1
    have o2 := f2.2.1
    rw [g1] at o1
    rw [g2] at o2
    exact ax_one o1 o2 f1.2.2.1 f2.2.2.1
  | succ l ih =>
    intro i1 i2 w1 w2 f1 f2 l1 l2
    obtain ⟨k1, _, x1, y1, m1, _, h1⟩ := ax_prv hW hj ht f1 (by omega)
    obtain ⟨k2, _, x2, y2, m2, _, h2⟩ := ax_prv hW hj ht f2 (by omega)
    obtain ⟨_, e⟩ := ih m1 m2 _ _ h1 h2 (by omega) (by omega)
    have ei := hU i1 i2 f1.1 f2.1 k1 k2 y1 (ax_frn h1) e
    refine ⟨ei, ?_⟩
    have o2 := f2.2.1
    rw [← ei] at o2
    exact ax_one f1.2.1 o2 f1.2.2.1 f2.2.2.1
/-- frames of all smaller ages were there -/
theorem ax_dn {Z : ab_Z} {d : Nat → Nat → Nat} {N j a c z : Nat} (hW : ax_W Z d N) (hj : j < N) (ht : ab_tb Z d j a c z) : ∀ k i w, ax_fr Z N j c z i w → k ≤ w 7 → ∃ i' w', ax_fr Z N j c z i' w' ∧ w' 7 + k = w 7 := by
  intro k
  induction k with
  | zero => intro i w hf _; exact ⟨i, w, hf, by omega⟩
  | succ k ih =>
    intro i w hf hk
    obtain ⟨i', w', f', e'⟩ := ih i w hf (by omega)
    obtain ⟨_, _, x1, _, m1, _, h1⟩ := ax_prv hW hj ht f' (by omega)
    exact ⟨m1, _, h1, by omega⟩
/-- heard at its goal it ends -/
theorem ax_end {Z : ab_Z} {d : Nat → Nat → Nat} {N j a c z q m : Nat} (hW : ax_W Z d N) (hU : ax_U Z N) (hj : j < N) (ht : ab_tb Z d j a c z) (hqN : q < N) (hk : ab_zK Z q = 1) (hs : ab_zs Z q = z) (hm : ax_fr Z N j c z m (ab_zX Z q)) : ∀ i w, ax_fr Z N j c z i w → w 7 ≤ ab_zX Z q 7 := by
  intro i w hf
  by_cases e : w 7 ≤ ab_zX Z q 7
  · exact e
  · exfalso
    obtain ⟨i', w', f', e'⟩ := ax_dn hW hj ht (w 7 - (ab_zX Z q 7 + 1)) i w hf (by omega)
    obtain ⟨k1, s1, x1, y1, m1, _, h1⟩ := ax_prv hW hj ht f' (by omega)
    obtain ⟨_, ee⟩ := ax_uq hW hU hj ht (ab_zX Z q 7) m1 m _ _ h1 hm (by omega) rfl
    have := hU i' q f'.1 hqN k1 hk y1 (ax_frn h1) ee
    rw [this] at s1
    exact s1 hs
