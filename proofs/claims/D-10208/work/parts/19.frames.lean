/-! ## what is quiet under sending, and what frames say -/
/-- the fields that messages and frames are judged by; sending, ways and questions leave them as they are -/
abbrev zz_qf (f : Nat) : Prop := (f < 16 ∧ f ≠ 4 ∧ f ≠ 5) ∨ f = 25 ∨ f = 29 ∨ f = 30
theorem zz_rchc {S T : zz_T} (h : T 6 = S 6) (a : Nat) : ∀ n, mm_rch T a n = mm_rch S a n
  | 0 => rfl
  | n + 1 => by
    show mm_wid T (mm_rch T a n) = mm_wid S (mm_rch S a n)
    rw [zz_rchc h a n]
    unfold mm_wid
    rw [show mm_wid1 T (mm_rch S a n) = mm_wid1 S (mm_rch S a n) from funext (fun s => funext (fun w => by unfold mm_wid1; rw [h]))]
theorem zz_conc {S T : zz_T} (h : T 6 = S 6) (a b : Nat) : zz_con T a b ↔ zz_con S a b := by
  unfold zz_con zz_R
  rw [zz_rchc h]
theorem zz_wtc {S T : zz_T} (h1 : T 1 = S 1) (h2 : T 2 = S 2) (h9 : T 9 = S 9) (h10 : T 10 = S 10) (a b : Int32) (m : Nat) : mm_wt T a b m ↔ mm_wt S a b m := by
  unfold mm_wt mm_has mm_isT
  rw [h1, h2, h9, h10]
theorem zz_fwc {S T : zz_T} (h1 : T 1 = S 1) (h2 : T 2 = S 2) (h8 : T 8 = S 8) (h9 : T 9 = S 9) (h10 : T 10 = S 10) (a b : Int32) : mm_fw T a b = mm_fw S a b := by
  unfold mm_fw
  rw [show mm_fw1 T a b = mm_fw1 S a b from funext (fun m => funext (fun r => by unfold mm_fw1; rw [propext (zz_wtc h1 h2 h9 h10 a b m), h8]))]
/-- the words w of a frame that is on its way to r fit the state -/
def zz_ok (S : zz_T) (r : Nat) (w : Nat → Int32) : Prop :=
  ∃ f g, f < 8 ∧ g < 8 ∧ w 1 = nI f ∧ w 2 = nI g ∧
    (w 0 = 3 → zz_con S f r ∧ ∃ c d l, w 3 = nI c ∧ w 4 = 0 ∧ w 6 = nI l ∧ l ≤ 1 ∧ d < 2 ^ 30 ∧ S 15 (f + 8 * g) = nI d ∧ c ≤ d ∧
      (c = d → S 14 (f + 8 * g) = nI d ∧ w 7 = 1 ∧ ∃ m, mm_fw S (nI f) (nI g) = some m ∧ S 11 m = nI l ∧ ∀ k, k < l → w (8 + k) = S 12 (m * 8 + k) &&& 255)) ∧
    (¬ w 0 = 0 → ¬ w 0 = 1 → ¬ w 0 = 2 → ¬ w 0 = 3 → ∃ c d, w 3 = nI c ∧ w 4 = 0 ∧ d < 2 ^ 30 ∧ S 15 (g + 8 * f) = nI d ∧ c ≤ d)
theorem zz_okc {S T : zz_T} {r : Nat} {w : Nat → Int32} (h : ∀ f, zz_qf f → T f = S f) (k : zz_ok S r w) : zz_ok T r w := by
  obtain ⟨f, g, hf, hg, e1, e2, h3, h4⟩ := k
  refine ⟨f, g, hf, hg, e1, e2, fun z => ?_, fun z0 z1 z2 z3 => ?_⟩
  · obtain ⟨c0, c, d, l, q1, q2, q3, q4, qd, q5, q6, q7⟩ := h3 z
    refine ⟨(zz_conc (h 6 (by decide)) f r).2 c0, c, d, l, q1, q2, q3, q4, qd, ?_, q6, fun e => ?_⟩
    · rw [h 15 (by decide)]
      exact q5
    · obtain ⟨y0, y1, m, y2, y3, y4⟩ := q7 e
      refine ⟨?_, y1, m, ?_, ?_, fun k hk => ?_⟩
      · rw [h 14 (by decide)]
        exact y0
      · rw [zz_fwc (h 1 (by decide)) (h 2 (by decide)) (h 8 (by decide)) (h 9 (by decide)) (h 10 (by decide))]
        exact y2
      · rw [h 11 (by decide)]
        exact y3
      · rw [h 12 (by decide)]
        exact y4 k hk
  · obtain ⟨c, d, q1, q2, qd, q3, q4⟩ := h4 z0 z1 z2 z3
    refine ⟨c, d, q1, q2, qd, ?_, q4⟩
    rw [h 15 (by decide)]
    exact q3
theorem zz_okw {S : zz_T} {r : Nat} {w v : Nat → Int32} (h : ∀ k, k < 12 → v k = w k) (k : zz_ok S r w) : zz_ok S r v := by
  obtain ⟨f, g, hf, hg, e1, e2, h3, h4⟩ := k
  unfold zz_ok
  rw [h 0 (by decide), h 1 (by decide), h 2 (by decide), h 3 (by decide), h 4 (by decide), h 6 (by decide), h 7 (by decide)]
  refine ⟨f, g, hf, hg, e1, e2, fun z => ?_, h4⟩
  obtain ⟨c0, c, d, l, q1, q2, q3, q4, qd, q5, q6, q7⟩ := h3 z
  refine ⟨c0, c, d, l, q1, q2, q3, q4, qd, q5, q6, fun e => ?_⟩
  obtain ⟨y0, y1, m, y2, y3, y4⟩ := q7 e
  refine ⟨y0, y1, m, y2, y3, fun k hk => ?_⟩
  rw [h (8 + k) (by omega)]
  exact y4 k hk
theorem zz_okup {S : zz_T} {s r : Nat} {w : Nat → Int32} (hs : s < 8) (hr : r < 8) (hu : mm_up S s (nI r)) (k : zz_ok S s w) : zz_ok S r w := by
  obtain ⟨f, g, hf, hg, e1, e2, h3, h4⟩ := k
  refine ⟨f, g, hf, hg, e1, e2, fun z => ?_, h4⟩
  obtain ⟨c0, q⟩ := h3 z
  exact ⟨zz_cons hf hs hr c0 hu, q⟩
/-- a question, an answer to one, a loss: any stations will do -/
theorem zz_ok012 {S : zz_T} {r f g : Nat} {w : Nat → Int32} (hf : f < 8) (hg : g < 8) (h0 : w 0 = 0 ∨ w 0 = 1 ∨ w 0 = 2) (e1 : w 1 = nI f) (e2 : w 2 = nI g) : zz_ok S r w := by
  refine ⟨f, g, hf, hg, e1, e2, fun z => ?_, fun z0 z1 z2 _ => ?_⟩
  · rw [z] at h0
    exact absurd h0 (by decide)
  · exact absurd h0 (fun y => y.elim z0 (fun y => y.elim z1 z2))
/-- frames in the air fit the state -/
def zz_A (S : zz_T) : Prop := ∀ i, i < 1024 → ¬ S 32 i = 0 → ∃ s r, s < 8 ∧ r < 8 ∧ S 33 i = nI s ∧ S 34 i = nI r ∧ zz_ok S r (fun k => S 36 (i * 12 + k))
/-- ways lead to stations -/
def zz_18 (S : zz_T) : Prop := ∀ q, q < 64 → S 18 q = -1 ∨ ∃ r, r < 8 ∧ S 18 q = nI r
def zz_B (S : zz_T) : Prop := zz_5 S ∧ zz_24 S ∧ zz_18 S ∧ zz_A S
theorem zz_Bof {S T : zz_T} (hq : ∀ f, zz_qf f → T f = S f) (h5 : T 5 = S 5) (h18 : zz_18 S → zz_18 T) (h24 : zz_24 S → zz_24 T) (h32 : T 32 = S 32) (h33 : T 33 = S 33) (h34 : T 34 = S 34) (h36 : T 36 = S 36) (h : zz_B S) : zz_B T := by
  refine ⟨zz_5of h5 h.1, h24 h.2.1, h18 h.2.2.1, fun i hi hu => ?_⟩
  rw [h32] at hu
  obtain ⟨s, r, hs, hr, e1, e2, e3⟩ := h.2.2.2 i hi hu
  refine ⟨s, r, hs, hr, ?_, ?_, ?_⟩
  · rw [h33]
    exact e1
  · rw [h34]
    exact e2
  · rw [h36]
    exact zz_okc hq e3
theorem zz_18of {S T : zz_T} (h : T 18 = S 18) (k : zz_18 S) : zz_18 T := by
  intro q hq
  rw [h]
  exact k q hq
theorem zz_24of {S T : zz_T} (h : T 24 = S 24) (k : zz_24 S) : zz_24 T := by
  intro q hq
  rw [h]
  exact k q hq
/-- one place written, of a field that is neither core nor transport -/
theorem zz_Bs {S : zz_T} {f i : Nat} {v : Int32} (hf : ¬ zz_qf f ∧ f ≠ 5 ∧ f ≠ 18 ∧ f ≠ 24 ∧ f ≠ 32 ∧ f ≠ 33 ∧ f ≠ 34 ∧ f ≠ 36) (h : zz_B S) : zz_B (zz_s S f i v) :=
  zz_Bof (fun g hg => zz_sn (fun e => hf.1 (e ▸ hg))) (zz_sn (Ne.symm hf.2.1)) (zz_18of (zz_sn (Ne.symm hf.2.2.1))) (zz_24of (zz_sn (Ne.symm hf.2.2.2.1))) (zz_sn (Ne.symm hf.2.2.2.2.1)) (zz_sn (Ne.symm hf.2.2.2.2.2.1)) (zz_sn (Ne.symm hf.2.2.2.2.2.2.1)) (zz_sn (Ne.symm hf.2.2.2.2.2.2.2)) h
/-! ## fly, send, tellAll -/
theorem zz_flyq {s to due : Int32} {S : zz_T} {f : Nat} (h : zz_qf f ∨ f = 42 ∨ f = 18 ∨ f = 24) : mm_fly s to due S f = S f :=
  zz_flyo (by unfold zz_qf at h; omega)
theorem zz_sendq {s : Nat} {to : Int32} {S : zz_T} {f : Nat} (h : zz_qf f ∨ f = 42 ∨ f = 18 ∨ f = 24) : mm_send s to S f = S f :=
  zz_sendo (by unfold zz_qf at h; omega)
theorem zz_fly3 {S : zz_T} {s to due : Int32} {j : Nat} (hj : (S 5 0).toNatClampNeg = j) :
    mm_fly s to due S 32 = upd (S 32) j 1 ∧ mm_fly s to due S 33 = upd (S 33) j s.toInt8.toInt32 ∧ mm_fly s to due S 34 = upd (S 34) j to.toInt8.toInt32 := by
  unfold mm_fly
  rw [hj, zz_itn (g := 32) (fun k T => zz_sn (by decide)), zz_itn (g := 33) (fun k T => zz_sn (by decide)), zz_itn (g := 34) (fun k T => zz_sn (by decide))]
  refine ⟨?_, ?_, ?_⟩
  · rw [zz_sn (by decide), zz_sn (by decide), zz_sn (by decide), zz_se, zz_sn (by decide)]
  · rw [zz_sn (by decide), zz_sn (by decide), zz_se, zz_sn (by decide), zz_sn (by decide)]
  · rw [zz_sn (by decide), zz_se, zz_sn (by decide), zz_sn (by decide), zz_sn (by decide)]
theorem zz_fly36 {S : zz_T} {s to due : Int32} {j : Nat} (hj : (S 5 0).toNatClampNeg = j) :
    ∀ q, mm_fly s to due S 36 q = if j * 12 ≤ q ∧ q < j * 12 + 12 then S 42 (q - j * 12) else S 36 q := by
  unfold mm_fly
  rw [hj]
  refine (zz_itI (fun (n : Nat) (V : zz_T) => V 42 = S 42 ∧ ∀ q, V 36 q = if j * 12 ≤ q ∧ q < j * 12 + n then S 42 (q - j * 12) else S 36 q) ⟨?_, ?_⟩ ?_).2
  · rw [zz_sn (by decide), zz_sn (by decide), zz_sn (by decide), zz_sn (by decide), zz_sn (by decide)]
  · intro q
    rw [zz_sn (by decide), zz_sn (by decide), zz_sn (by decide), zz_sn (by decide), zz_sn (by decide), if_neg (by omega)]
  · intro n V _ hV
    refine ⟨(zz_sn (by decide)).trans hV.1, fun q => ?_⟩
    show zz_s V 36 (j * 12 + n) (V 42 n) 36 q = _
    rw [zz_se]
    by_cases e : q = j * 12 + n
    · rw [e, pk_us, if_pos (by omega), hV.1, show j * 12 + n - j * 12 = n by omega]
    · rw [pk_un e, hV.2 q]
      by_cases c : j * 12 ≤ q ∧ q < j * 12 + n
      · rw [if_pos c, if_pos (by omega)]
      · rw [if_neg c, if_neg (by omega)]
theorem zz_Bfly {S : zz_T} {s r : Nat} {due : Int32} (hs : s < 8) (hr : r < 8) (h : zz_B S) (k : zz_ok S r (S 42)) : zz_B (mm_fly (nI s) (nI r) due S) := by
  obtain ⟨j, hj, ej⟩ := h.1
  have ec : (S 5 0).toNatClampNeg = j := zz_cl (by omega) ej
  obtain ⟨e32, e33, e34⟩ := zz_fly3 (s := nI s) (to := nI r) (due := due) ec
  have e36 := zz_fly36 (s := nI s) (to := nI r) (due := due) ec
  refine ⟨zz_5fly, zz_24of (zz_flyq (by decide)) h.2.1, zz_18of (zz_flyq (by decide)) h.2.2.1, fun i hi hu => ?_⟩
  rw [e32] at hu
  rw [e33, e34]
  by_cases c : i = j
  · rw [c, pk_us, pk_us, zz_8 s (by omega), zz_8 r (by omega)]
    refine ⟨s, r, hs, hr, rfl, rfl, zz_okc (S := S) (fun f hf => zz_flyq (Or.inl hf)) (zz_okw (fun q hq => ?_) k)⟩
    show mm_fly (nI s) (nI r) due S 36 (j * 12 + q) = S 42 q
    rw [e36, if_pos (by omega), show j * 12 + q - j * 12 = q by omega]
  · rw [pk_un c] at hu
    rw [pk_un c, pk_un c]
    obtain ⟨s', r', hs', hr', f1, f2, f3⟩ := h.2.2.2 i hi hu
    refine ⟨s', r', hs', hr', f1, f2, zz_okc (S := S) (fun f hf => zz_flyq (Or.inl hf)) (zz_okw (fun q hq => ?_) f3)⟩
    show mm_fly (nI s) (nI r) due S 36 (i * 12 + q) = S 36 (i * 12 + q)
    rw [e36, if_neg (by omega)]
theorem zz_ordsq {s f : Nat} {S : zz_T} (h : f ≠ 37) (h' : f ≠ 38) : (mm_ords s S).2.2 f = S f := by
  unfold mm_ords
  refine zz_itI (fun (_ : Nat) (x : Int32 × Int32 × zz_T) => x.2.2 f = S f) (zz_sn h) (fun k x _ hx => ?_)
  rw [zz_ordo h']
  exact hx
theorem zz_Bsend {S : zz_T} {s r : Nat} (hs : s < 8) (hr : r < 8) (h : zz_B S) (k : zz_ok S r (S 42)) : zz_B (mm_send s (nI r) S) := by
  unfold mm_send
  have hq : ∀ f, zz_qf f → (mm_ords s S).2.2 f = S f := fun f hf => zz_ordsq (by unfold zz_qf at hf; omega) (by unfold zz_qf at hf; omega)
  refine (zz_itI (fun (_ : Nat) (T : zz_T) => zz_B T ∧ (∀ f, zz_qf f → T f = S f) ∧ T 42 = S 42) ⟨?_, hq, zz_ordsq (by decide) (by decide)⟩ ?_).1
  · exact zz_Bof hq (zz_ordsq (by decide) (by decide)) (zz_18of (zz_ordsq (by decide) (by decide))) (zz_24of (zz_ordsq (by decide) (by decide))) (zz_ordsq (by decide) (by decide)) (zz_ordsq (by decide) (by decide)) (zz_ordsq (by decide) (by decide)) (zz_ordsq (by decide) (by decide)) h
  · intro n T _ hT
    refine ⟨zz_Bfly hs hr hT.1 ?_, fun f hf => (zz_flyq (Or.inl hf)).trans (hT.2.1 f hf), (zz_flyq (by decide)).trans hT.2.2⟩
    rw [hT.2.2]
    exact zz_okc hT.2.1 k
theorem zz_tellq {s f : Nat} {S : zz_T} (h : zz_qf f ∨ f = 42 ∨ f = 18 ∨ f = 24) : mm_tell s S f = S f :=
  zz_tello (by unfold zz_qf at h; omega)
theorem zz_Btell {S : zz_T} {s : Nat} (hs : s < 8) (h : zz_B S) (k : zz_ok S s (S 42)) : zz_B (mm_tell s S) := by
  unfold mm_tell
  refine (zz_itI (fun (_ : Nat) (T : zz_T) => zz_B T ∧ (∀ f, zz_qf f → T f = S f) ∧ T 42 = S 42) ⟨h, fun _ _ => rfl, rfl⟩ ?_).1
  intro n T hn hT
  unfold mm_tl
  by_cases c : mm_up T s (nI n)
  · rw [if_pos c]
    refine ⟨zz_Bsend hs hn hT.1 ?_, fun f hf => (zz_sendq (Or.inl hf)).trans (hT.2.1 f hf), (zz_sendq (by decide)).trans hT.2.2⟩
    rw [hT.2.2]
    exact zz_okup hs hn c (zz_okc hT.2.1 k)
  · rw [if_neg c]
    exact hT
/-! ## begin, copy, giveUp, passOn -/
theorem zz_begw {k f g : Int32} {S : zz_T} : mm_beg k f g S 42 0 = k ∧ mm_beg k f g S 42 1 = f ∧ mm_beg k f g S 42 2 = g ∧ ∀ i, 3 ≤ i → i < 12 → mm_beg k f g S 42 i = 0 := by
  have hz : ∀ i, i < 12 → zz_it (fun k T => zz_s T 42 k 0) 12 S 42 i = 0 := by
    refine zz_itI (fun (n : Nat) (V : zz_T) => ∀ i, i < n → V 42 i = 0) (fun i hi => absurd hi (by omega)) ?_
    intro n V _ hV i hi
    show zz_s V 42 n 0 42 i = 0
    rw [zz_se]
    by_cases e : i = n
    · rw [e, pk_us]
    · rw [pk_un e]
      exact hV i (by omega)
  unfold mm_beg
  refine ⟨?_, ?_, ?_, fun i h3 h12 => ?_⟩
  · rw [zz_se, pk_un (by decide), zz_se, pk_un (by decide), zz_se, pk_us]
  · rw [zz_se, pk_un (by decide), zz_se, pk_us]
  · rw [zz_se, pk_us]
  · rw [zz_se, pk_un (by omega), zz_se, pk_un (by omega), zz_se, pk_un (by omega)]
    exact hz i h12
theorem zz_Bbeg {k f g : Int32} {S : zz_T} (h : zz_B S) : zz_B (mm_beg k f g S) :=
  zz_Bof (fun q hq => zz_bego (by unfold zz_qf at hq; omega)) (zz_bego (by decide)) (zz_18of (zz_bego (by decide))) (zz_24of (zz_bego (by decide))) (zz_bego (by decide)) (zz_bego (by decide)) (zz_bego (by decide)) (zz_bego (by decide)) h
theorem zz_Bcpy {S : zz_T} (h : zz_B S) : zz_B (mm_cpy S) :=
  zz_Bof (fun q hq => zz_cpyo (by unfold zz_qf at hq; omega)) (zz_cpyo (by decide)) (zz_18of (zz_cpyo (by decide))) (zz_24of (zz_cpyo (by decide))) (zz_cpyo (by decide)) (zz_cpyo (by decide)) (zz_cpyo (by decide)) (zz_cpyo (by decide)) h
theorem zz_18s {S : zz_T} {q : Nat} {v : Int32} (hv : v = -1 ∨ ∃ r, r < 8 ∧ v = nI r) (h : zz_18 S) : zz_18 (zz_s S 18 q v) := by
  intro p hp
  rw [zz_se]
  by_cases e : p = q
  · rw [e, pk_us]
    exact hv
  · rw [pk_un e]
    exact h p hp
theorem zz_B18 {S : zz_T} {q : Nat} {v : Int32} (hv : v = -1 ∨ ∃ r, r < 8 ∧ v = nI r) (h : zz_B S) : zz_B (zz_s S 18 q v) :=
  zz_Bof (fun f hf => zz_sn (by unfold zz_qf at hf; omega)) (zz_sn (by decide)) (zz_18s hv) (zz_24of (zz_sn (by decide))) (zz_sn (by decide)) (zz_sn (by decide)) (zz_sn (by decide)) (zz_sn (by decide)) h
theorem zz_giveq {s g f : Nat} {S : zz_T} (h : zz_qf f ∨ f = 24) : mm_give s g S f = S f :=
  zz_giveo (by unfold zz_qf at h; omega) (by unfold zz_qf at h; omega) (by unfold zz_qf at h; omega)
theorem zz_Bgive {S : zz_T} {s g : Nat} (hs : s < 8) (hg : g < 8) (h : zz_B S) : zz_B (mm_give s g S) := by
  unfold mm_give
  refine zz_Btell hs (zz_Bs (by decide) (zz_Bbeg (zz_B18 (Or.inl rfl) h))) (zz_ok012 hs hg (Or.inr (Or.inr ?_)) ?_ ?_)
  · unfold mm_lossW
    rw [zz_se, pk_un (by decide)]
    exact zz_begw.1
  · unfold mm_lossW
    rw [zz_se, pk_un (by decide)]
    exact zz_begw.2.1
  · unfold mm_lossW
    rw [zz_se, pk_un (by decide)]
    exact zz_begw.2.2.1
theorem zz_passq {s f : Nat} {S : zz_T} (h : zz_qf f ∨ f = 24) : mm_pass s S f = S f := by
  unfold mm_pass
  split
  · rfl
  · split
    · exact zz_sendq (h.elim Or.inl (fun e => Or.inr (Or.inr (Or.inr e))))
    · exact zz_giveq h
theorem zz_Bpass {S : zz_T} {s : Nat} (hs : s < 8) (h : zz_B S) (k : zz_ok S s (S 42)) : zz_B (mm_pass s S) := by
  obtain ⟨f, g, hf, hg, e1, e2, _⟩ := id k
  unfold mm_pass
  rw [zz_cl (show g < 2 ^ 31 by omega) e2]
  split
  · exact h
  · next c =>
    obtain ⟨r, hr, er⟩ := (h.2.2.1 (s * 8 + g) (by omega)).resolve_left c
    rw [er]
    split
    · next u => exact zz_Bsend hs hr h (zz_okup hs hr u k)
    · exact zz_Bgive hs hg h
theorem zz_hwq {s g f : Nat} {S : zz_T} (h : zz_qf f ∨ f = 24) : mm_hw s g S f = S f := by
  unfold mm_hw
  split
  · rfl
  · split
    · rfl
    · exact zz_giveq h
theorem zz_Bhw {S : zz_T} {s g : Nat} (hs : s < 8) (hg : g < 8) (h : zz_B S) : zz_B (mm_hw s g S) := by
  unfold mm_hw
  split
  · exact h
  · split
    · exact h
    · exact zz_Bgive hs hg h
/-! ## learn, see, ask -/
theorem zz_learnq {s g f : Nat} {a b c : Int32} {S : zz_T} (h : zz_qf f ∨ f = 24) : mm_learn s g a b c S f = S f :=
  zz_lno (by unfold zz_qf at h; omega) (by unfold zz_qf at h; omega) (by unfold zz_qf at h; omega)
theorem zz_Blearn {s g r : Nat} {b c : Int32} {S : zz_T} (hr : r < 8) (h : zz_B S) : zz_B (mm_learn s g (nI r) b c S) := by
  unfold mm_learn
  split
  · unfold mm_lnS
    rw [zz_8 r (by omega)]
    exact zz_Bs (by decide) (zz_Bs (by decide) (zz_B18 (Or.inr ⟨r, hr, rfl⟩) h))
  · exact h
theorem zz_seeq {s f : Nat} {a b : Int32} {S : zz_T} (h : zz_qf f) : mm_see s a b S f = S f :=
  zz_seeo (by unfold zz_qf at h; omega) (by unfold zz_qf at h; omega) (by unfold zz_qf at h; omega)
theorem zz_24see {s : Nat} {a b : Int32} {S : zz_T} (h : zz_24 S) : zz_24 (mm_see s a b S) := by
  intro q hq
  unfold mm_see
  rw [zz_se]
  by_cases e : q = s
  · rw [e, pk_us]
    exact ⟨_, Nat.mod_lt _ (by decide), rfl⟩
  · rw [pk_un e, zz_sn (by decide), zz_sn (by decide)]
    exact h q hq
theorem zz_Bsee {s : Nat} {a b : Int32} {S : zz_T} (h : zz_B S) : zz_B (mm_see s a b S) :=
  zz_Bof (fun f hf => zz_seeq hf) (zz_seeo (by decide) (by decide) (by decide)) (zz_18of (zz_seeo (by decide) (by decide) (by decide))) zz_24see (zz_seeo (by decide) (by decide) (by decide)) (zz_seeo (by decide) (by decide) (by decide)) (zz_seeo (by decide) (by decide) (by decide)) (zz_seeo (by decide) (by decide) (by decide)) h
theorem zz_ask0q {s g f : Nat} {S : zz_T} (h : zz_qf f ∨ f = 24) : mm_ask0 s g S f = S f := by
  unfold mm_ask0
  unfold zz_qf at h
  rw [zz_sn (by omega), zz_sn (by omega), zz_sn (by omega)]
theorem zz_ask3q {s g f : Nat} {S : zz_T} (h : zz_qf f) : mm_ask3 s g S f = S f := by
  have h' := h
  unfold zz_qf at h'
  unfold mm_ask3 mm_ask2
  rw [zz_sn (by omega), zz_sn (by omega), zz_sn (by omega), zz_bego (by omega), zz_seeq h, zz_ask0q (Or.inl h)]
theorem zz_askq {s g f : Nat} {S : zz_T} (h : zz_qf f) : mm_ask s g S f = S f := by
  unfold mm_ask
  split
  · rw [zz_tellq (Or.inl h), zz_ask3q h]
  · rfl
theorem zz_Bask3 {s g : Nat} {S : zz_T} (h : zz_B S) : zz_B (mm_ask3 s g S) :=
  zz_Bs (by decide) (zz_Bs (by decide) (zz_Bs (by decide) (zz_Bbeg (zz_Bsee (zz_Bs (by decide) (zz_Bs (by decide) (zz_Bs (by decide) h)))))))
theorem zz_Bask {s g : Nat} {S : zz_T} (hs : s < 8) (hg : g < 8) (h : zz_B S) : zz_B (mm_ask s g S) := by
  unfold mm_ask
  split
  · refine zz_Btell hs (zz_Bask3 h) (zz_ok012 hs hg (Or.inl ?_) ?_ ?_)
    · unfold mm_ask3
      rw [zz_se, pk_un (by decide), zz_se, pk_un (by decide), zz_se, pk_un (by decide)]
      exact zz_begw.1
    · unfold mm_ask3
      rw [zz_se, pk_un (by decide), zz_se, pk_un (by decide), zz_se, pk_un (by decide)]
      exact zz_begw.2.1
    · unfold mm_ask3
      rw [zz_se, pk_un (by decide), zz_se, pk_un (by decide), zz_se, pk_un (by decide)]
      exact zz_begw.2.2.1
  · exact h
/-! ## hearAsk, hearTell, hearLoss, carryOn -/
theorem zz_ha2q {s f : Nat} {b : Int32} {S : zz_T} (h : zz_qf f) : mm_ha2 s b S f = S f := by
  unfold mm_ha2 mm_ha1
  rw [zz_learnq (Or.inl h), zz_seeq h]
theorem zz_Bha2 {s r : Nat} {S : zz_T} (hr : r < 8) (h : zz_B S) : zz_B (mm_ha2 s (nI r) S) := zz_Blearn hr (zz_Bsee h)
theorem zz_haTq {s f : Nat} {b : Int32} {S : zz_T} (h : zz_qf f) : mm_haT s b S f = S f := by
  have h' := h
  unfold zz_qf at h'
  unfold mm_haT
  rw [zz_bego (by omega), zz_sn (by omega), zz_ha2q h]
theorem zz_hearAskq {s f : Nat} {b : Int32} {S : zz_T} (h : zz_qf f) : mm_hearAsk s b S f = S f := by
  have h' := h
  unfold zz_qf at h'
  unfold mm_hearAsk
  split
  · rfl
  · split
    · rw [zz_passq (Or.inl h), zz_sn (by omega), zz_haTq h]
    · rw [zz_tellq (Or.inl h), zz_sn (by omega), zz_cpyo (by omega), zz_ha2q h]
theorem zz_BhearAsk {s r : Nat} {S : zz_T} (hs : s < 8) (hr : r < 8) (h0 : S 43 0 = 0) (h43 : zz_43 S) (h : zz_B S) : zz_B (mm_hearAsk s (nI r) S) := by
  obtain ⟨⟨f, hf, ef⟩, ⟨g, hg, eg⟩⟩ := h43
  have e43 : mm_ha2 s (nI r) S 43 = S 43 := zz_ha43
  unfold mm_hearAsk
  split
  · exact h
  · split
    · refine zz_Bpass hs (zz_Bs (by decide) (zz_Bbeg (zz_Bs (by decide) (zz_Bha2 hr h)))) (zz_ok012 (f := s) (g := f) hs hf (Or.inr (Or.inl ?_)) ?_ ?_)
      · rw [zz_se, pk_un (by decide)]
        exact zz_begw.1
      · rw [zz_se, pk_un (by decide)]
        exact zz_begw.2.1
      · rw [zz_se, pk_un (by decide)]
        exact zz_begw.2.2.1.trans ef
    · refine zz_Btell hs (zz_Bs (by decide) (zz_Bcpy (zz_Bha2 hr h))) (zz_ok012 (f := f) (g := g) hf hg (Or.inl ?_) ?_ ?_)
      · rw [zz_se, pk_un (by decide), zz_cpyw (by decide), e43]
        exact h0
      · rw [zz_se, pk_un (by decide), zz_cpyw (by decide), e43]
        exact ef
      · rw [zz_se, pk_un (by decide), zz_cpyw (by decide), e43]
        exact eg
theorem zz_ht1q {s f : Nat} {b : Int32} {S : zz_T} (h : zz_qf f) : mm_ht1 s b S f = S f := zz_learnq (Or.inl h)
theorem zz_hearTellq {s f : Nat} {b : Int32} {S : zz_T} (h : zz_qf f) : mm_hearTell s b S f = S f := by
  have h' := h
  unfold zz_qf at h'
  unfold mm_hearTell
  split
  · exact zz_ht1q h
  · unfold mm_ht2
    rw [zz_passq (Or.inl h), zz_sn (by omega), zz_cpyo (by omega), zz_ht1q h]
theorem zz_BhearTell {s r : Nat} {S : zz_T} (hs : s < 8) (hr : r < 8) (h0 : S 43 0 = 1) (h43 : zz_43 S) (h : zz_B S) : zz_B (mm_hearTell s (nI r) S) := by
  obtain ⟨⟨f, hf, ef⟩, ⟨g, hg, eg⟩⟩ := h43
  have e43 : mm_ht1 s (nI r) S 43 = S 43 := zz_ht43
  unfold mm_hearTell
  split
  · exact zz_Blearn hr h
  · unfold mm_ht2
    refine zz_Bpass hs (zz_Bs (by decide) (zz_Bcpy (zz_Blearn hr h))) (zz_ok012 (f := f) (g := g) hf hg (Or.inr (Or.inl ?_)) ?_ ?_)
    · rw [zz_se, pk_un (by decide), zz_cpyw (by decide), e43]
      exact h0
    · rw [zz_se, pk_un (by decide), zz_cpyw (by decide), e43]
      exact ef
    · rw [zz_se, pk_un (by decide), zz_cpyw (by decide), e43]
      exact eg
theorem zz_hearLossq {s f : Nat} {b : Int32} {S : zz_T} (h : zz_qf f) : mm_hearLoss s b S f = S f := by
  unfold mm_hearLoss
  split
  · exact zz_giveq (Or.inl h)
  · rfl
theorem zz_BhearLoss {s : Nat} {b : Int32} {S : zz_T} (hs : s < 8) (h43 : zz_43 S) (h : zz_B S) : zz_B (mm_hearLoss s b S) := by
  obtain ⟨_, ⟨g, hg, eg⟩⟩ := h43
  unfold mm_hearLoss
  rw [zz_cl (show g < 2 ^ 31 by omega) eg]
  split
  · exact zz_Bgive hs hg h
  · exact h
theorem zz_lifeWq {f : Nat} {S : zz_T} (h : f ≠ 42) : mm_lifeW S f = S f := by
  unfold mm_lifeW
  rw [zz_sn h, zz_cpyo h]
theorem zz_carryq {s f : Nat} {S : zz_T} (h : zz_qf f) : mm_carry s S f = S f := by
  have h' := h
  unfold zz_qf at h'
  unfold mm_carry
  split
  · exact zz_lifeWq (by omega)
  · rw [zz_passq (Or.inl h), zz_lifeWq (by omega)]
theorem zz_lifew {S : zz_T} {k : Nat} (hk : k < 12) (h5 : k ≠ 5) : mm_lifeW S 42 k = S 43 k := by
  unfold mm_lifeW
  rw [zz_se, pk_un h5, zz_cpyw hk]
theorem zz_oklife {S : zz_T} {s : Nat} (k : zz_ok S s (S 43)) : zz_ok (mm_lifeW S) s (mm_lifeW S 42) := by
  refine zz_okc (S := S) (fun f hf => zz_lifeWq (by unfold zz_qf at hf; omega)) ?_
  obtain ⟨f, g, hf, hg, e1, e2, h3, h4⟩ := k
  unfold zz_ok
  rw [zz_lifew (k := 0) (by decide) (by decide), zz_lifew (k := 1) (by decide) (by decide), zz_lifew (k := 2) (by decide) (by decide), zz_lifew (k := 3) (by decide) (by decide), zz_lifew (k := 4) (by decide) (by decide), zz_lifew (k := 6) (by decide) (by decide), zz_lifew (k := 7) (by decide) (by decide)]
  refine ⟨f, g, hf, hg, e1, e2, fun z => ?_, h4⟩
  obtain ⟨c0, c, d, l, q1, q2, q3, q4, qd, q5, q6, q7⟩ := h3 z
  refine ⟨c0, c, d, l, q1, q2, q3, q4, qd, q5, q6, fun e => ?_⟩
  obtain ⟨y0, y1, m, y2, y3, y4⟩ := q7 e
  refine ⟨y0, y1, m, y2, y3, fun k hk => ?_⟩
  rw [zz_lifew (by omega) (by omega)]
  exact y4 k hk
theorem zz_Bcarry {s : Nat} {S : zz_T} (hs : s < 8) (k : zz_ok S s (S 43)) (h : zz_B S) : zz_B (mm_carry s S) := by
  have hb : zz_B (mm_lifeW S) := zz_Bs (by decide) (zz_Bcpy h)
  unfold mm_carry
  split
  · exact hb
  · exact zz_Bpass hs hb (zz_oklife k)
