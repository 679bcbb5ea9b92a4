/-! ## orders are only used up -/
def ro_O (S T : zz_T) : Prop := ∀ i, T 38 i = S 38 i ∨ (i < 16 ∧ ¬ S 38 i = 0 ∧ T 38 i = 0)
theorem ro_e {S T : zz_T} (h : T 38 = S 38) : ro_O S T := fun i => Or.inl (by rw [h])
theorem ro_t {S T U : zz_T} (h : ro_O S T) (g : ro_O T U) : ro_O S U := by
  intro i
  rcases g i with z | ⟨z0, z1, z2⟩
  · rcases h i with y | y
    · exact Or.inl (z.trans y)
    · exact Or.inr ⟨y.1, y.2.1, z.trans y.2.2⟩
  · rcases h i with y | y
    · exact Or.inr ⟨z0, by rw [← y]; exact z1, z2⟩
    · exact Or.inr ⟨z0, y.2.1, z2⟩
theorem ro_ord {s n : Int32} {i : Nat} {x : Int32 × Int32 × zz_T} (hi : i < 16) : ro_O x.2.2 (mm_ord s n i x).2.2 := by
  by_cases c : mm_oc s n i x.2.2
  · rw [mm_ordP c]
    intro j
    show zz_s x.2.2 38 i 0 38 j = x.2.2 38 j ∨ (j < 16 ∧ ¬ x.2.2 38 j = 0 ∧ zz_s x.2.2 38 i 0 38 j = 0)
    rw [zz_se]
    by_cases e : j = i
    · rw [e]
      exact Or.inr ⟨hi, c.1, by rw [pk_us]⟩
    · exact Or.inl (by rw [pk_un e])
  · rw [mm_ordN c]
    exact ro_e rfl
theorem ro_fly {s to due : Int32} {S : zz_T} : mm_fly s to due S 38 = S 38 := by
  unfold mm_fly
  rw [zz_itn (g := 38) (fun k T => zz_sn (by decide)), zz_sn (by decide), zz_sn (by decide), zz_sn (by decide), zz_sn (by decide), zz_sn (by decide)]
theorem ro_send {s : Nat} {to : Int32} {S : zz_T} : ro_O S (mm_send s to S) := by
  have h1 : ro_O S (mm_ords s S).2.2 := by
    unfold mm_ords
    exact zz_itI (fun (_ : Nat) (x : Int32 × Int32 × zz_T) => ro_O S x.2.2) (ro_e (show zz_s S 37 s (S 37 s + 1) 38 = S 38 from zz_sn (by decide))) (fun k x hk hx => ro_t hx (ro_ord hk))
  refine ro_t h1 (ro_e ?_)
  unfold mm_send
  exact zz_itn (g := 38) (fun k T => ro_fly) _ _
theorem ro_tell {s : Nat} {S : zz_T} : ro_O S (mm_tell s S) := by
  unfold mm_tell
  refine zz_itI (fun (_ : Nat) (T : zz_T) => ro_O S T) (ro_e rfl) (fun k T _ hT => ro_t hT ?_)
  unfold mm_tl
  split
  · exact ro_send
  · exact ro_e rfl
theorem ro_give {s g : Nat} {S : zz_T} : ro_O S (mm_give s g S) := by
  unfold mm_give
  exact ro_t (ro_e (zz_lossWo (by decide) (by decide))) ro_tell
theorem ro_pass {s : Nat} {S : zz_T} : ro_O S (mm_pass s S) := by
  unfold mm_pass
  split
  · exact ro_e rfl
  · split
    · exact ro_send
    · exact ro_give
theorem ro_hw {s g : Nat} {S : zz_T} : ro_O S (mm_hw s g S) := by
  unfold mm_hw
  split
  · exact ro_e rfl
  · split
    · exact ro_e rfl
    · exact ro_give
theorem ro_cpy {S : zz_T} {f : Nat} (h : f ≠ 42) : mm_cpy S f = S f := zz_itn (fun k T => zz_sn h) 12 S
theorem ro_carry {s : Nat} {S : zz_T} : ro_O S (mm_carry s S) := by
  have e : mm_lifeW S 38 = S 38 := by
    unfold mm_lifeW
    rw [zz_sn (by decide), ro_cpy (by decide)]
  unfold mm_carry
  split
  · exact ro_e e
  · exact ro_t (ro_e e) ro_pass
theorem ro_learn {s g : Nat} {a b c : Int32} {S : zz_T} : mm_learn s g a b c S 38 = S 38 := by
  unfold mm_learn
  split
  · unfold mm_lnS
    rw [zz_sn (by decide), zz_sn (by decide), zz_sn (by decide)]
  · rfl
theorem ro_see {s : Nat} {a b : Int32} {S : zz_T} : mm_see s a b S 38 = S 38 := by
  unfold mm_see
  rw [zz_sn (by decide), zz_sn (by decide), zz_sn (by decide)]
theorem ro_ask {s g : Nat} {S : zz_T} : ro_O S (mm_ask s g S) := by
  unfold mm_ask
  split
  · refine ro_t (ro_e ?_) ro_tell
    unfold mm_ask3 mm_ask2 mm_ask0
    rw [zz_sn (by decide), zz_sn (by decide), zz_sn (by decide), zz_bego (by decide), ro_see, zz_sn (by decide), zz_sn (by decide), zz_sn (by decide)]
  · exact ro_e rfl
theorem ro_ha2 {s : Nat} {b : Int32} {S : zz_T} : mm_ha2 s b S 38 = S 38 := by
  unfold mm_ha2 mm_ha1
  rw [ro_learn, ro_see]
theorem ro_hearAsk {s : Nat} {b : Int32} {S : zz_T} : ro_O S (mm_hearAsk s b S) := by
  unfold mm_hearAsk
  split
  · exact ro_e rfl
  · split
    · refine ro_t (ro_e ?_) ro_pass
      unfold mm_haT
      rw [zz_sn (by decide), zz_bego (by decide), zz_sn (by decide), ro_ha2]
    · refine ro_t (ro_e ?_) ro_tell
      rw [zz_sn (by decide), ro_cpy (by decide), ro_ha2]
theorem ro_hearTell {s : Nat} {b : Int32} {S : zz_T} : ro_O S (mm_hearTell s b S) := by
  have e : mm_ht1 s b S 38 = S 38 := ro_learn
  unfold mm_hearTell
  split
  · exact ro_e e
  · refine ro_t (ro_e ?_) ro_pass
    unfold mm_ht2
    rw [zz_sn (by decide), ro_cpy (by decide), e]
theorem ro_hearLoss {s : Nat} {b : Int32} {S : zz_T} : ro_O S (mm_hearLoss s b S) := by
  unfold mm_hearLoss
  split
  · exact ro_give
  · exact ro_e rfl
theorem ro_hpT {s f p : Nat} {S : zz_T} : mm_hpT s f p S 38 = S 38 := by
  have k : mm_hpK p S 38 = S 38 := by
    unfold mm_hpK
    rw [zz_sn (by decide), rf_keepo ⟨by decide, by decide⟩]
  unfold mm_hpT
  split
  · split
    · unfold mm_acc
      generalize mm_fw (mm_hpK p S) (nI f) (nI s) = o
      cases o with
      | none =>
        show mm_ac90 (f + 8 * s) (mm_hpK p S) 38 = S 38
        unfold mm_ac90
        rw [zz_sn (by decide), zz_sn (by decide), zz_sn (by decide), k]
      | some m =>
        show mm_acM (f + 8 * s) m (mm_hpK p S) 38 = S 38
        unfold mm_acM mm_ac90 mm_acL
        rw [zz_sn (by decide), zz_sn (by decide), zz_sn (by decide), zz_sn (by decide), zz_itn (g := 38) (fun k T => zz_sn (by decide)), zz_sn (by decide), k]
    · exact k
  · rfl
theorem ro_anW {s f p : Nat} {S : zz_T} {g : Nat} (h : g ≠ 42) : mm_anW s f p S g = S g := by
  unfold mm_anW
  rw [zz_sn h, zz_sn h, zz_sn h, zz_bego h]
theorem ro_hearPiece {s : Nat} {S : zz_T} : ro_O S (mm_hearPiece s S) := by
  unfold mm_hearPiece
  split
  · unfold mm_hp92
    refine ro_t (ro_e ?_) ro_pass
    rw [ro_anW (by decide), ro_hpT]
  · exact ro_carry
theorem ro_hearAnswer {s : Nat} {S : zz_T} : ro_O S (mm_hearAnswer s S) := by
  unfold mm_hearAnswer
  split
  · split
    · refine ro_e ?_
      unfold mm_anS
      rw [zz_sn (by decide), zz_sn (by decide), zz_sn (by decide), zz_sn (by decide)]
    · exact ro_e rfl
  · exact ro_carry
theorem ro_hear {s : Nat} {b : Int32} {S : zz_T} : ro_O S (mm_hear s b S) := by
  unfold mm_hear
  split
  · exact ro_hearAsk
  · split
    · exact ro_hearTell
    · split
      · exact ro_hearLoss
      · split
        · exact ro_hearPiece
        · exact ro_hearAnswer
theorem ro_lst {i : Nat} {T : zz_T} : ro_O T (mm_lst i T) := by
  unfold mm_lst
  split
  · exact ro_e rfl
  · split
    · exact ro_e rfl
    · split
      · unfold mm_lst1
        refine ro_t (ro_e ?_) ro_hear
        exact (zz_itn (f := mm_rd1 i) (g := 38) (fun k T => zz_sn (by decide)) 12 _).trans (zz_sn (by decide))
      · exact ro_e (zz_sn (by decide))
theorem ro_u142 {a b : Nat} {m : Option Nat} {T : zz_T} : ro_O T (mm_u142 a b m T) := by
  unfold mm_u142
  split
  · unfold mm_u187
    refine ro_t (ro_hw (s := a) (g := b)) (ro_t (ro_e ?_) ro_pass)
    rw [zz_sn (by decide), zz_sn (by decide), zz_uWo (by decide)]
  · exact ro_t (ro_hw (s := a) (g := b)) (ro_t (ro_e (zz_sn (by decide))) ro_ask)
theorem ro_u108 {a b : Nat} {m : Option Nat} {z0 : Int32} {S : zz_T} : ro_O S (mm_u108 a b m z0 S) := by
  have e : ro_O S (mm_uA (a + 8 * b) z0 S) := ro_e (zz_sn (by decide))
  unfold mm_u108
  split
  · exact ro_t e ro_u142
  · split
    · exact ro_t e (ro_t ro_hw (ro_t ro_give (ro_t (ro_e (zz_sn (by decide))) ro_u142)))
    · exact ro_t e (ro_t ro_hw ro_u142)
theorem ro_urge {a b : Nat} {S : zz_T} : ro_O S (mm_urge a b S) := by
  unfold mm_urge
  split
  · unfold mm_u46
    split
    · unfold mm_u82
      split
      · exact ro_u108
      · exact ro_u108
    · exact ro_e rfl
  · exact ro_e rfl
theorem ro_ub {a b : Nat} {S : zz_T} : ro_O S (mm_ub a b S) := by
  unfold mm_ub
  split
  · exact ro_e rfl
  · exact ro_urge
