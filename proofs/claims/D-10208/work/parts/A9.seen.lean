/-! ## no question is written twice -/
def aq_C (Q : aq_T) (n v f q : Nat) : Prop := ∃ al b L, ∃ vv : Nat → Nat, aq_ask Q al f b q ∧ al ≤ n ∧ vv L = v ∧ (∀ k, k ≤ L → vv k < 8 ∧ ∃ r, r ≤ n ∧ aq_q Q r (vv k) f q) ∧ (∀ k m, k < m → m ≤ L → vv k ≠ vv m) ∧
  aq_n Q n ≤ aq_n Q al + 4 * L + 2 * aq_sum (aq_om Q) n ∧ (aq_n Q n = aq_n Q al + L ∨ ∃ t vt, t < n ∧ 1 ≤ aq_om Q t ∧ aq_q Q t vt f q)
theorem aq_cT {P : Nat → Prop} : ∀ n, (∀ k, k < n → P k) → aq_cnt P n = n := by
  intro n
  induction n with
  | zero => exact fun _ => rfl
  | succ n ih =>
    intro h
    show aq_cnt P n + ab_if (P n) 1 0 = n + 1
    rw [ih (fun k hk => h k (by omega)), ab_ip (h n (by omega))]
theorem aq_L7 {L : Nat} {vv : Nat → Nat} (h8 : ∀ k, k ≤ L → vv k < 8) (hd : ∀ k m, k < m → m ≤ L → vv k ≠ vv m) : L ≤ 7 := by
  have h1 := aq_pig (n := L + 1) (c := vv) 8 (fun _ => True) (fun m hm _ => h8 m (by omega)) (fun m m' hm hm' _ _ e => by
    by_cases z : m < m'
    · exact absurd e (hd m m' z (by omega))
    · by_cases z' : m' < m
      · exact absurd e.symm (hd m' m z' (by omega))
      · omega)
  rw [aq_cT (L + 1) (fun _ _ => trivial)] at h1
  omega
/-- the code of a writing -/
def aq_code (Q : aq_T) (al v k c : Nat) : Prop := ∃ f q, aq_q Q k v f q ∧
  ((∃ al' b', aq_ask Q al' f b' q ∧ al' ≤ k ∧ aq_n Q al ≤ aq_n Q al' + 7 ∧ aq_n Q al' ≤ aq_n Q al + 64 ∧ c = 3 * aq_cd Q f b' + (aq_n Q al' + 7 - aq_n Q al) / 24) ∨
   (∃ t vt, t < k ∧ 1 ≤ aq_om Q t ∧ aq_q Q t vt f q ∧ c = 45 + aq_sum (aq_om Q) t))
/-- PERSISTENCE: what was written within the life of its question is still there -/
theorem aq_per {Q : aq_T} {N n r v f b q al : Nat} (h : aq_R Q N) (hn : n < N) (ih : ∀ m, m < n → ∀ v f q, aq_q Q m v f q → (v < 8 ∧ aq_C Q m v f q) ∧ ∀ r, r < m → ¬ aq_q Q r v f q)
    (hrn : r < n) (hr : aq_q Q r v f q) (hal : aq_ask Q al f b q) (har : al ≤ r) (h64 : aq_n Q n ≤ aq_n Q al + 64) : ab_sn v f q (aq_D Q n) := by
  have v8 := (ih r hrn v f q hr).1.1
  have ex : ∀ k, k < n → (r < k ∧ ∃ f q, aq_q Q k v f q) → ∃ c, c < 61 ∧ aq_code Q al v k c := by
    intro k hk ⟨rk, f', q', z⟩
    obtain ⟨al', b', L', vv, c1, c2, c3, c4, c5, c6, c7⟩ := (ih k hk v f' q' z).1.2
    have L7 := aq_L7 (fun k hk => (c4 k hk).1) c5
    have m1 := (aq_nm h k (show al ≤ k by omega) (by omega)).1
    have m2 := (aq_nm h k (show al' ≤ k by omega) (by omega)).1
    have m3 := (aq_nm h n (show k ≤ n by omega) (by omega)).1
    rcases c7 with e | ⟨t, vt, t1, t2, t3⟩
    · have cd := (h.2.2.1 f' b' c1.2.2.1).2
      refine ⟨3 * aq_cd Q f' b' + (aq_n Q al' + 7 - aq_n Q al) / 24, ?_, f', q', z, Or.inl ⟨al', b', c1, c2, by omega, by omega, rfl⟩⟩
      omega
    · have s1 := aq_summ (f := aq_om Q) (a := t + 1) N (by omega)
      have s2 : aq_sum (aq_om Q) (t + 1) = aq_sum (aq_om Q) t + aq_om Q t := rfl
      have s3 := h.2.2.2.2.1
      exact ⟨45 + aq_sum (aq_om Q) t, by omega, f', q', z, Or.inr ⟨t, vt, t1, t2, t3, rfl⟩⟩
  have inj : ∀ k k' c, k < n → k' < n → aq_code Q al v k c → aq_code Q al v k' c → k = k' := by
    intro k k' c hk hk' ⟨f1, q1, z1, y1⟩ ⟨f2, q2, z2, y2⟩
    have same : f1 = f2 ∧ q1 = q2 := by
      rcases y1 with ⟨a1, b1, a1a, a1k, a1l, a1u, a1c⟩ | ⟨t1, w1, t1k, t1o, t1q, t1c⟩
      · have cd1 := (h.2.2.1 f1 b1 a1a.2.2.1).2
        rcases y2 with ⟨a2, b2, a2a, a2k, a2l, a2u, a2c⟩ | ⟨t2, w2, t2k, t2o, t2q, t2c⟩
        · have ec : aq_cd Q f1 b1 = aq_cd Q f2 b2 := by omega
          obtain ⟨ef, eb⟩ := h.2.2.2.1 f1 b1 f2 b2 a1a.2.2.1 a2a.2.2.1 ec
          subst ef eb
          have ea : a1 = a2 := by
            by_cases z : a1 < a2
            · have := aq_sp h (show a2 < N by omega) z a1a a2a
              omega
            · by_cases z' : a2 < a1
              · have := aq_sp h (show a1 < N by omega) z' a2a a1a
                omega
              · omega
          subst ea
          exact ⟨rfl, a1a.2.2.2.2.symm.trans a2a.2.2.2.2⟩
        · omega
      · rcases y2 with ⟨a2, b2, a2a, a2k, a2l, a2u, a2c⟩ | ⟨t2, w2, t2k, t2o, t2q, t2c⟩
        · have cd2 := (h.2.2.1 f2 b2 a2a.2.2.1).2
          omega
        · have et : t1 = t2 := by
            by_cases z : t1 < t2
            · have := aq_summ (f := aq_om Q) (a := t1 + 1) t2 (by omega)
              have s2 : aq_sum (aq_om Q) (t1 + 1) = aq_sum (aq_om Q) t1 + aq_om Q t1 := rfl
              omega
            · by_cases z' : t2 < t1
              · have := aq_summ (f := aq_om Q) (a := t2 + 1) t1 (by omega)
                have s2 : aq_sum (aq_om Q) (t2 + 1) = aq_sum (aq_om Q) t2 + aq_om Q t2 := rfl
                omega
              · omega
          subst et
          obtain ⟨_, e1, e2⟩ := aq_uni t1q t2q
          exact ⟨e1, e2⟩
    obtain ⟨e1, e2⟩ := same
    subst e1 e2
    by_cases z : k < k'
    · exact absurd z1 ((ih k' hk' v f1 q1 z2).2 k z)
    · by_cases z' : k' < k
      · exact absurd z2 ((ih k hk v f1 q1 z1).2 k' z')
      · omega
  have cnt : aq_cnt (fun k => r < k ∧ ∃ f q, aq_q Q k v f q) n ≤ 61 := by
    have hch : ∀ k, ∃ c, (k < n ∧ (r < k ∧ ∃ f q, aq_q Q k v f q)) → c < 61 ∧ aq_code Q al v k c := by
      intro k
      by_cases z : k < n ∧ (r < k ∧ ∃ f q, aq_q Q k v f q)
      · obtain ⟨c, c1, c2⟩ := ex k z.1 z.2
        exact ⟨c, fun _ => ⟨c1, c2⟩⟩
      · exact ⟨0, fun y => absurd y z⟩
    obtain ⟨c, hc⟩ := Classical.axiomOfChoice hch
    refine aq_pig (c := c) 61 _ (fun m hm z => (hc m ⟨hm, z⟩).1) (fun m m' hm hm' z z' e => ?_)
    refine inj m m' (c m) hm hm' (hc m ⟨hm, z⟩).2 ?_
    rw [e]
    exact (hc m' ⟨hm', z'⟩).2
  have hE : aq_E (aq_D Q r) (aq_D Q (r + 1)) v f q := by
    rcases aq_st h (show r < N by omega) v with ⟨_, z⟩ | ⟨f', q', z1, z2⟩
    · exact absurd hr (z f q)
    · obtain ⟨_, e1, e2⟩ := aq_uni z1 hr
      rw [← e1, ← e2]
      exact z2
  obtain ⟨_, k2, k3⟩ := aq_keep h v8 hr hE n (by omega) (by omega) (by omega)
  exact ⟨aq_D Q r 15 v 0, aq_p64 h v8 r (by omega), k2, k3⟩
theorem aq_main {Q : aq_T} {N : Nat} (h : aq_R Q N) : ∀ n, n < N → ∀ v f q, aq_q Q n v f q → (v < 8 ∧ aq_C Q n v f q) ∧ ∀ r, r < n → ¬ aq_q Q r v f q := by
  intro n
  induction n using Nat.strongRecOn with
  | _ n IH =>
    intro hn v f q hq
    have ih : ∀ m, m < n → ∀ v f q, aq_q Q m v f q → (v < 8 ∧ aq_C Q m v f q) ∧ ∀ r, r < m → ¬ aq_q Q r v f q := fun m hm => IH m hm (by omega)
    rcases id hq with ⟨k1, x3, es, e4, e8, ns⟩ | ⟨ev, b, ha⟩
    · obtain ⟨s8, j, w, j1, j2, j3, j4, j5, j6, j7, j8⟩ := h.2.1 n hn k1 x3
      have hj := aq_sw h (show j < N by omega) j2 j3
      rw [← j4, ← j5, e4, e8] at hj
      obtain ⟨al, b, L, vv, c1, c2, c3, c4, c5, c6, c7⟩ := (ih j j1 _ f q hj).1.2
      have L7 := aq_L7 (fun k hk => (c4 k hk).1) c5
      have s1 : aq_sum (aq_om Q) (j + 1) = aq_sum (aq_om Q) j + aq_om Q j := rfl
      have s2 := aq_summ (f := aq_om Q) (a := j + 1) n (by omega)
      have s3 := aq_summ (f := aq_om Q) (a := n) N (by omega)
      have s4 := h.2.2.2.2.1
      have no : ∀ r, r < n → ¬ aq_q Q r v f q := by
        intro r hr z
        obtain ⟨al', b', L', vv', d1, d2, _⟩ := (ih r hr v f q z).1.2
        have ea := (aq_ua h (show al < N by omega) (show al' < N by omega) c1 d1).1
        exact ns (aq_per h hn ih hr z d1 d2 (by rw [← ea]; omega))
      have v8 : v < 8 := by rw [← es]; exact s8
      refine ⟨⟨v8, al, b, L + 1, fun k => if k = L + 1 then v else vv k, c1, by omega, if_pos rfl, fun k hk => ?_, fun k m hkm hm => ?_, by omega, ?_⟩, no⟩
      · by_cases e : k = L + 1
        · show (if k = L + 1 then v else vv k) < 8 ∧ ∃ r, r ≤ n ∧ aq_q Q r (if k = L + 1 then v else vv k) f q
          rw [if_pos e]
          exact ⟨v8, n, Nat.le_refl _, hq⟩
        · show (if k = L + 1 then v else vv k) < 8 ∧ ∃ r, r ≤ n ∧ aq_q Q r (if k = L + 1 then v else vv k) f q
          rw [if_neg e]
          obtain ⟨y1, r, y2, y3⟩ := c4 k (by omega)
          exact ⟨y1, r, by omega, y3⟩
      · show (if k = L + 1 then v else vv k) ≠ (if m = L + 1 then v else vv m)
        rw [if_neg (show k ≠ L + 1 by omega)]
        by_cases e : m = L + 1
        · rw [if_pos e]
          intro z
          obtain ⟨_, r, y2, y3⟩ := c4 k (by omega)
          rw [z] at y3
          exact no r (by omega) y3
        · rw [if_neg e]
          exact c5 k m hkm (by omega)
      · rcases j8 with e | e
        · rcases c7 with y | ⟨t, vt, t1, t2, t3⟩
          · exact Or.inl (by omega)
          · exact Or.inr ⟨t, vt, by omega, t2, t3⟩
        · exact Or.inr ⟨j, _, j1, e, hj⟩
    · have f8 := (h.2.2.1 f b ha.2.2.1).1
      refine ⟨⟨by omega, n, b, 0, fun _ => v, ha, Nat.le_refl _, rfl, fun k hk => ⟨(show v < 8 by omega), n, Nat.le_refl _, hq⟩, fun k m hkm hm => by omega, by omega, Or.inl rfl⟩, fun r hr z => ?_⟩
      obtain ⟨al', b', L', vv', d1, d2, _⟩ := (ih r hr v f q z).1.2
      have := (aq_ua h hn (show al' < N by omega) ha d1).1
      omega
/-- THE SEEN TABLE DOES ITS WORK -/
theorem aq_se {Q : aq_T} {N i j : Nat} (h : aq_R Q N) (hij : i < j) (hj : j < N) (kj : aq_K Q j = 1) (xj : aq_X Q j 3 = 0) (ki : aq_K Q i = 1) (es : aq_s Q i = aq_s Q j) (xi : aq_X Q i 3 = 0) (e4 : aq_X Q i 4 = aq_X Q j 4) (e8 : aq_X Q i 8 = aq_X Q j 8) : ab_sn (aq_s Q j) (aq_X Q j 4) (aq_X Q j 8) (aq_D Q j) := by
  by_cases c : ab_sn (aq_s Q j) (aq_X Q j 4) (aq_X Q j 8) (aq_D Q j)
  · exact c
  · exfalso
    have ev : aq_q Q j (aq_s Q j) (aq_X Q j 4) (aq_X Q j 8) := Or.inl ⟨kj, xj, rfl, rfl, rfl, c⟩
    obtain ⟨⟨_, al, b, L, vv, c1, c2, _⟩, no⟩ := aq_main h j hj _ _ _ ev
    by_cases d : ab_sn (aq_s Q j) (aq_X Q j 4) (aq_X Q j 8) (aq_D Q i)
    · have q0 : aq_D Q 0 5 (aq_X Q j 4) 0 < aq_X Q j 8 := by
        have m := (aq_nm h al (Nat.zero_le _) (by omega)).2 (aq_X Q j 4)
        have e1 := c1.2.2.2.2
        have e2 := c1.2.2.2.1.2.2.2.2.2.1
        omega
      obtain ⟨r, r1, r2⟩ := aq_wr h q0 i (by omega) d
      exact no r (by omega) r2
    · exact no i hij (Or.inl ⟨ki, xi, es, e4, e8, d⟩)
