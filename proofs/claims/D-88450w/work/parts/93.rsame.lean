/-! ===== the reference: same ===== -/
set_option maxRecDepth 100000
theorem TA_flat {K O T N : Int → Int} {b : Int} {f : Fo} {bb : Bool} {q : Int} (h : Fo.wf f bb q) : ∀ p : Int, TA K O T N b f p → ∀ i : Nat, i < Fo.sz f → (Fo.flat f)[i]? = some (K (b + (p + i)), O (b + (p + i)), T (b + (p + i))) := by
  induction f, bb, q, h using wf_ind with
  | atom k m n q h =>
    intro p hT i hi
    rw [sz_atom h] at hi
    rw [TA_atom h] at hT
    have : i = 0 := by omega
    subst this
    rw [flat_atom h, show p + ((0 : Nat) : Int) = p by omega, hT.1, hT.2.1, hT.2.2.1]
    rfl
  | not f q h ih =>
    intro p hT i hi
    rw [sz_not] at hi
    rw [TA_not] at hT
    rw [flat_not]
    cases i with
    | zero => rw [show p + ((0 : Nat) : Int) = p by omega, hT.1, hT.2.1, hT.2.2.1]; rfl
    | succ i =>
      have := ih (p + 1) hT.2.2.2.2 i (by omega)
      rw [show p + 1 + (i : Int) = p + ((i + 1 : Nat) : Int) by omega] at this
      exact this
  | each a f q hq h ih =>
    intro p hT i hi
    rw [sz_each] at hi
    rw [TA_each] at hT
    rw [flat_each]
    cases i with
    | zero => rw [show p + ((0 : Nat) : Int) = p by omega, hT.1, hT.2.1, hT.2.2.1]; rfl
    | succ i =>
      have := ih (p + 1) hT.2.2.2.2 i (by omega)
      rw [show p + 1 + (i : Int) = p + ((i + 1 : Nat) : Int) by omega] at this
      exact this
  | many a f q h2 h ih =>
    intro p hT i hi
    rw [sz_many] at hi
    rw [TA_many] at hT
    rw [flat_many]
    cases i with
    | zero => rw [show p + ((0 : Nat) : Int) = p by omega, hT.1, hT.2.1, hT.2.2.1]; rfl
    | succ i =>
      have := ih (p + 1) hT.2.2.2.2 i (by omega)
      rw [show p + 1 + (i : Int) = p + ((i + 1 : Nat) : Int) by omega] at this
      exact this
  | nil q => intro p hT i hi; rw [sz_nil] at hi; omega
  | cons g t q hg ht i1 i2 =>
    intro p hT i hi
    rw [sz_cons] at hi
    rw [TA_cons] at hT
    rw [flat_cons]
    have gl := flat_len hg
    by_cases h : i < Fo.sz g
    · rw [List.getElem?_append_left (by omega)]
      exact i1 p hT.1 i h
    · rw [List.getElem?_append_right (by omega), gl]
      have := i2 (p + Fo.sz g) hT.2 (i - Fo.sz g) (by omega)
      rw [show p + (Fo.sz g : Int) + ((i - Fo.sz g : Nat) : Int) = p + (i : Int) by omega] at this
      exact this
def ndE (σ : MS) (s t i : Int) : Bool := decide (σ.2 19 (600 * s + i) = σ.2 19 (600 * t + i)) && (decide (σ.2 20 (600 * s + i) = σ.2 20 (600 * t + i)) && decide (σ.2 21 (600 * s + i) = σ.2 21 (600 * t + i)))
theorem ndE_all {σ : MS} {s t : Int} {f g : Fo} (hf : Fo.wf f false 0) (hg : Fo.wf g false 0) (hF : TAs σ s f 0) (hG : TAs σ t g 0) (hl : Fo.sz f = Fo.sz g) : allU (Fo.sz f) (ndE σ s t) = true ↔ f = g := by
  constructor
  · intro h
    have h := allU_iff.mp h
    have e : Fo.flat f = Fo.flat g := by
      refine List.ext_getElem? fun i => ?_
      by_cases hi : i < Fo.sz f
      · have a1 := TA_flat hf 0 hF i hi
        have a2 := TA_flat hg 0 hG i (by omega)
        have := h i (by omega) (by omega)
        unfold ndE at this
        simp only [Bool.and_eq_true, decide_eq_true_eq] at this
        rw [Int.zero_add] at a1 a2
        rw [a1, a2, this.1, this.2.1, this.2.2]
      · rw [List.getElem?_eq_none (by rw [flat_len hf]; omega), List.getElem?_eq_none (by rw [flat_len hg]; omega)]
    exact (flat_inj hf 0 g [] [] hg (fun z => by cases z) (by rw [e])).1
  · intro h
    subst h
    refine allU_iff.mpr fun i h1 h2 => ?_
    have a1 := TA_flat hf 0 hF i.toNat (by omega)
    have a2 := TA_flat hf 0 hG i.toNat (by omega)
    rw [a1] at a2
    rw [show (0 : Int) + (i.toNat : Int) = i by omega] at a2
    simp only [Option.some.injEq, Prod.mk.injEq] at a2
    unfold ndE
    rw [a2.1, a2.2.1, a2.2.2]
    simp
theorem flat_nr {f : Fo} {b : Bool} {q : Int} (h : Fo.wf f b q) : (0 ≤ q ∧ q ≤ 8) → Fo.sz f ≤ 100000 → ∀ x, x ∈ Fo.flat f → (1 ≤ x.1 ∧ x.1 ≤ 11) ∧ (0 ≤ x.2.1 ∧ x.2.1 ≤ 100000) ∧ (0 ≤ x.2.2 ∧ x.2.2 ≤ 8) := by
  have ll : ∀ {t : Fo} {q : Int}, Fo.wf t true q → Fo.len t ≤ Fo.sz t := by
    intro t q h
    have key : ∀ (f : Fo) (b : Bool) (q : Int) (h : Fo.wf f b q), b = true → Fo.len f ≤ Fo.sz f := by
      intro f b q h
      induction f, b, q, h using wf_ind with
      | atom k m n q h => intro z; cases z
      | not f q h ih => intro z; cases z
      | each a f q hq h ih => intro z; cases z
      | many a f q h2 h ih => intro z; cases z
      | nil q => intro _; rw [len_nil]; omega
      | cons g t q h1 h2 i1 i2 => intro _; rw [len_cons, sz_cons]; have := i2 rfl; have := sz_pos h1; omega
    exact key t true q h rfl
  induction f, b, q, h using wf_ind with
  | atom k m n q h =>
    intro hq hs x hx
    rw [flat_atom h] at hx
    have hr := okA_r h
    unfold Fo.okA at h
    simp only [List.mem_singleton] at hx
    subst hx
    refine ⟨by dsimp only; omega, ?_, ?_⟩ <;> (dsimp only; unfold rvN; split <;> omega)
  | not f q h ih =>
    intro hq hs x hx
    rw [sz_not] at hs
    rw [flat_not] at hx
    rcases List.mem_cons.mp hx with rfl | hx
    · decide
    · exact ih hq (by omega) x hx
  | each a f q hq8 h ih =>
    intro hq hs x hx
    rw [sz_each] at hs
    rw [flat_each] at hx
    rcases List.mem_cons.mp hx with rfl | hx
    · have := kdQ_r a
      refine ⟨by dsimp only; omega, ?_, by dsimp only; omega⟩
      dsimp only
      unfold rvN
      split <;> omega
    · exact ih ⟨by omega, by omega⟩ (by omega) x hx
  | many a f q h2 h ih =>
    intro hq hs x hx
    rw [sz_many] at hs
    rw [flat_many] at hx
    rcases List.mem_cons.mp hx with rfl | hx
    · have := kdM_r a
      have := ll h
      refine ⟨by dsimp only; omega, ?_, by dsimp only; omega⟩
      dsimp only
      omega
    · exact ih hq (by omega) x hx
  | nil q => intro hq hs x hx; rw [flat_nil] at hx; cases hx
  | cons g t q h1 h2 i1 i2 =>
    intro hq hs x hx
    rw [sz_cons] at hs
    rw [flat_cons] at hx
    rcases List.mem_append.mp hx with hx | hx
    · exact i1 hq (by omega) x hx
    · exact i2 hq (by omega) x hx
theorem TA_r {σ : MS} {s : Int} {f : Fo} (hf : Fo.wf f false 0) (hF : TAs σ s f 0) (hs : Fo.sz f ≤ 600) {i : Int} (hi : 0 ≤ i ∧ i < Fo.sz f) : (1 ≤ σ.2 19 (600 * s + i) ∧ σ.2 19 (600 * s + i) ≤ 11) ∧ (0 ≤ σ.2 20 (600 * s + i) ∧ σ.2 20 (600 * s + i) ≤ 100000) ∧ (0 ≤ σ.2 21 (600 * s + i) ∧ σ.2 21 (600 * s + i) ≤ 8) := by
  have a1 := TA_flat hf 0 hF i.toNat (by omega)
  rw [show (0 : Int) + (i.toNat : Int) = i by omega] at a1
  exact flat_nr hf ⟨by omega, by omega⟩ (by omega) _ (List.mem_of_getElem? a1)
theorem e_same {l : Launch} {δ : Dl} {w0 : Hp} {o : Nat} {σ : MS} {z : Nat × Nat} {s t : Int} {f g : Fo} (h1 : σ.1 17 ≤ 20) (hs : 0 ≤ s ∧ s < σ.1 17) (ht : 0 ≤ t ∧ t < σ.1 17) (hf : Fo.wf f false 0) (hg : Fo.wf g false 0) (hF : TAs σ s f 0) (hG : TAs σ t g 0) (sf : Fo.sz f ≤ 600) (sg : Fo.sz g ≤ 600) (m1 : σ.2 18 s = Fo.sz f) (m2 : σ.2 18 t = Fo.sz g) : (M_X1_same l δ).1 [.inr (.inr (some o)), .inl s, .inl t] (mw w0 o σ, z) = some (.inl (some (.inl (b2i (eqF f g)))), mw w0 o σ, z) := by
  by_cases hl : Fo.sz f = Fo.sz g
  · have ev : eqF f g = allU (Fo.sz f) (ndE σ s t) := by rw [Bool.eq_iff_iff, eqF_iff, ndE_all hf hg hF hG hl]
    have hlp := lp_allS (h := 42) (e := 140) (D := (B_X1_same_L42 l δ).1) (X := fun i b => [some (.inr (.inr (some o))), some (.inl s), some (.inl t), some (.inl (b2i b)), some (.inl i), none, none]) (N := Fo.sz f) (f := ndE σ s t) (P := fun s => s = (mw w0 o σ, z)) (by decide) ?_ ?_ true (mw w0 o σ, z) rfl
    · obtain ⟨k, s', rfl, h⟩ := hlp
      rw [Bool.true_and, ← ev, b2i_t] at h
      have hl' : (Fo.sz f : Int) = Fo.sz g := by omega
      rw [N_X1_same]; unfold B_X1_same
      cases hb : eqF f g <;> (rw [hb] at h; simp (disch := first | rfl | (simp only [wt_c, wt_0, vc_i, vc_l, vc_r] <;> decide) | omega | exact i32_r _ | exact b2i_r _ | exact b2i_01 _ | exact zAnd_r _ _ | exact zOr_r _ _ | exact zXor_r _ _ | exact zShl_r _ _ | exact zShr_r _ _ | exact zByte_r _ | exact zcmp_r _ _ | decide) only [Bool.decide_eq_true, Bool.decide_eq_false, ↓if_pos, ↓if_neg, ↓reduceIte, Nat.reduceEqDiff, Int.reduceLE, Int.reduceLT, Int.reduceEq, Int.reduceNe, Nat.reduceBEq, Int.reduceAdd, Int.reduceMul, Int.reduceSub, Int.reduceNeg, Nat.reduceAdd, not_false_eq_true, not_true_eq_false, decide_true, decide_false, Bool.not_true, Bool.not_false, Bool.true_and, Bool.false_and, Bool.and_true, Bool.and_false, Bool.true_or, Bool.false_or, Bool.or_true, Bool.or_false, Bool.not_not, decide_not, Decidable.not_not, ite_not, b2i_t, b2i_f, ne_eq, Bool.not_eq_true, Bool.not_eq_false, decide_eq_true_eq, decide_eq_false_iff_not, Bool.false_eq_true, Bool.true_eq_false, reduceCtorEq, if_true, if_false, ite_self, ite_b0, ite_b1, ite_0b, ite_1b, ite_bb, x_done, x_blk, x_lp, x_er, erL_0, erL_t, erL_f, kl_n, kl_i, kl_r, kl_l, bd_i, bd_r, bk_i, bk_e, bk_n, bk_r, bd_ite, bk_ite, lk_i, lk_e, lk_n, lk_r, lk_ite, ite_nx, b2i_i, b2i_n, b2i_0, b2i_1, b2i_e, bres_r, bres_ite, mres_v, mres_n, sF_1, sF_2, sA_1, sA_2, x_aload_n0, x_iload_n1, m_call1, x_if_ne, x_iload_n2, x_if_eq, x_iconst, x_ireturn, m_get, fM_18, x_icmp_ne, x_goto, x_istore_n3, x_istore4, x_iload4, x_icmp_ge, x_iload_n3, x_sipush, x_imul, x_iadd, x_istore5, x_istore6, fM_19, x_iload5, x_iload6, fM_20, fM_21, x_iinc4, m_ld18, m_ld19, m_ld20, m_ld21, e_noSentence_1 hs h1, e_noSentence_1 ht h1, m1, m2, h])
    · rintro i s' i0 i1 rfl
      refine ⟨_, rfl, ?_⟩
      have r1 := TA_r hf hF sf (i := i) ⟨i0, i1⟩
      have r2 := TA_r hg hG sg (i := i) ⟨i0, by omega⟩
      rw [L_X1_same_42]; unfold C_X1_same_L42
      simp (disch := first | rfl | (simp only [wt_c, wt_0, vc_i, vc_l, vc_r] <;> decide) | omega | exact i32_r _ | exact b2i_r _ | exact b2i_01 _ | exact zAnd_r _ _ | exact zOr_r _ _ | exact zXor_r _ _ | exact zShl_r _ _ | exact zShr_r _ _ | exact zByte_r _ | exact zcmp_r _ _ | decide) only [Bool.decide_eq_true, Bool.decide_eq_false, ↓if_pos, ↓if_neg, ↓reduceIte, Nat.reduceEqDiff, Int.reduceLE, Int.reduceLT, Int.reduceEq, Int.reduceNe, Nat.reduceBEq, Int.reduceAdd, Int.reduceMul, Int.reduceSub, Int.reduceNeg, Nat.reduceAdd, not_false_eq_true, not_true_eq_false, decide_true, decide_false, Bool.not_true, Bool.not_false, Bool.true_and, Bool.false_and, Bool.and_true, Bool.and_false, Bool.true_or, Bool.false_or, Bool.or_true, Bool.or_false, Bool.not_not, decide_not, Decidable.not_not, ite_not, b2i_t, b2i_f, ne_eq, Bool.not_eq_true, Bool.not_eq_false, decide_eq_true_eq, decide_eq_false_iff_not, Bool.false_eq_true, Bool.true_eq_false, reduceCtorEq, if_true, if_false, ite_self, ite_b0, ite_b1, ite_0b, ite_1b, ite_bb, x_done, x_blk, x_lp, x_er, erL_0, erL_t, erL_f, kl_n, kl_i, kl_r, kl_l, bd_i, bd_r, bk_i, bk_e, bk_n, bk_r, bd_ite, bk_ite, lk_i, lk_e, lk_n, lk_r, lk_ite, ite_nx, b2i_i, b2i_n, b2i_0, b2i_1, b2i_e, bres_r, bres_ite, mres_v, mres_n, sF_1, sF_2, sA_1, sA_2, x_aload_n0, x_iload_n1, m_call1, x_if_ne, x_iload_n2, x_if_eq, x_iconst, x_ireturn, m_get, fM_18, x_icmp_ne, x_goto, x_istore_n3, x_istore4, x_iload4, x_icmp_ge, x_iload_n3, x_sipush, x_imul, x_iadd, x_istore5, x_istore6, fM_19, x_iload5, x_iload6, fM_20, fM_21, x_iinc4, m_ld18, m_ld19, m_ld20, m_ld21, m1]
      rfl
    · rintro i b s' i0 i1 rfl hb
      rw [L_X1_same_42]; unfold C_X1_same_L42
      by_cases hi : i = (Fo.sz f : Int)
      · simp (disch := first | rfl | (simp only [wt_c, wt_0, vc_i, vc_l, vc_r] <;> decide) | omega | exact i32_r _ | exact b2i_r _ | exact b2i_01 _ | exact zAnd_r _ _ | exact zOr_r _ _ | exact zXor_r _ _ | exact zShl_r _ _ | exact zShr_r _ _ | exact zByte_r _ | exact zcmp_r _ _ | decide) only [Bool.decide_eq_true, Bool.decide_eq_false, ↓if_pos, ↓if_neg, ↓reduceIte, Nat.reduceEqDiff, Int.reduceLE, Int.reduceLT, Int.reduceEq, Int.reduceNe, Nat.reduceBEq, Int.reduceAdd, Int.reduceMul, Int.reduceSub, Int.reduceNeg, Nat.reduceAdd, not_false_eq_true, not_true_eq_false, decide_true, decide_false, Bool.not_true, Bool.not_false, Bool.true_and, Bool.false_and, Bool.and_true, Bool.and_false, Bool.true_or, Bool.false_or, Bool.or_true, Bool.or_false, Bool.not_not, decide_not, Decidable.not_not, ite_not, b2i_t, b2i_f, ne_eq, Bool.not_eq_true, Bool.not_eq_false, decide_eq_true_eq, decide_eq_false_iff_not, Bool.false_eq_true, Bool.true_eq_false, reduceCtorEq, if_true, if_false, ite_self, ite_b0, ite_b1, ite_0b, ite_1b, ite_bb, x_done, x_blk, x_lp, x_er, erL_0, erL_t, erL_f, kl_n, kl_i, kl_r, kl_l, bd_i, bd_r, bk_i, bk_e, bk_n, bk_r, bd_ite, bk_ite, lk_i, lk_e, lk_n, lk_r, lk_ite, ite_nx, b2i_i, b2i_n, b2i_0, b2i_1, b2i_e, bres_r, bres_ite, mres_v, mres_n, sF_1, sF_2, sA_1, sA_2, x_aload_n0, x_iload_n1, m_call1, x_if_ne, x_iload_n2, x_if_eq, x_iconst, x_ireturn, m_get, fM_18, x_icmp_ne, x_goto, x_istore_n3, x_istore4, x_iload4, x_icmp_ge, x_iload_n3, x_sipush, x_imul, x_iadd, x_istore5, x_istore6, fM_19, x_iload5, x_iload6, fM_20, fM_21, x_iinc4, m_ld18, m_ld19, m_ld20, m_ld21, m1]
      · have : b = false := by
          rcases hb with hb | hb
          · exact hb
          · omega
        subst this
        simp (disch := first | rfl | (simp only [wt_c, wt_0, vc_i, vc_l, vc_r] <;> decide) | omega | exact i32_r _ | exact b2i_r _ | exact b2i_01 _ | exact zAnd_r _ _ | exact zOr_r _ _ | exact zXor_r _ _ | exact zShl_r _ _ | exact zShr_r _ _ | exact zByte_r _ | exact zcmp_r _ _ | decide) only [Bool.decide_eq_true, Bool.decide_eq_false, ↓if_pos, ↓if_neg, ↓reduceIte, Nat.reduceEqDiff, Int.reduceLE, Int.reduceLT, Int.reduceEq, Int.reduceNe, Nat.reduceBEq, Int.reduceAdd, Int.reduceMul, Int.reduceSub, Int.reduceNeg, Nat.reduceAdd, not_false_eq_true, not_true_eq_false, decide_true, decide_false, Bool.not_true, Bool.not_false, Bool.true_and, Bool.false_and, Bool.and_true, Bool.and_false, Bool.true_or, Bool.false_or, Bool.or_true, Bool.or_false, Bool.not_not, decide_not, Decidable.not_not, ite_not, b2i_t, b2i_f, ne_eq, Bool.not_eq_true, Bool.not_eq_false, decide_eq_true_eq, decide_eq_false_iff_not, Bool.false_eq_true, Bool.true_eq_false, reduceCtorEq, if_true, if_false, ite_self, ite_b0, ite_b1, ite_0b, ite_1b, ite_bb, x_done, x_blk, x_lp, x_er, erL_0, erL_t, erL_f, kl_n, kl_i, kl_r, kl_l, bd_i, bd_r, bk_i, bk_e, bk_n, bk_r, bd_ite, bk_ite, lk_i, lk_e, lk_n, lk_r, lk_ite, ite_nx, b2i_i, b2i_n, b2i_0, b2i_1, b2i_e, bres_r, bres_ite, mres_v, mres_n, sF_1, sF_2, sA_1, sA_2, x_aload_n0, x_iload_n1, m_call1, x_if_ne, x_iload_n2, x_if_eq, x_iconst, x_ireturn, m_get, fM_18, x_icmp_ne, x_goto, x_istore_n3, x_istore4, x_iload4, x_icmp_ge, x_iload_n3, x_sipush, x_imul, x_iadd, x_istore5, x_istore6, fM_19, x_iload5, x_iload6, fM_20, fM_21, x_iinc4, m_ld18, m_ld19, m_ld20, m_ld21, m1]
  · rw [eqF_f (fun h => hl (by rw [h]))]
    have hl' : ¬ (Fo.sz f : Int) = Fo.sz g := by omega
    have fp := sz_pos hf
    have lz : lpD 42 (B_X1_same_L42 l δ).1 [] [some (.inr (.inr (some o))), some (.inl s), some (.inl t), some (.inl 0), some (.inl 0), none, none] (mw w0 o σ, z) = some (.inr (.inl (140, [], [some (.inr (.inr (some o))), some (.inl s), some (.inl t), some (.inl 0), some (.inl 0), none, none], mw w0 o σ, z))) := by
      rw [lpD_eq, L_X1_same_42]; unfold C_X1_same_L42
      simp (disch := first | rfl | (simp only [wt_c, wt_0, vc_i, vc_l, vc_r] <;> decide) | omega | exact i32_r _ | exact b2i_r _ | exact b2i_01 _ | exact zAnd_r _ _ | exact zOr_r _ _ | exact zXor_r _ _ | exact zShl_r _ _ | exact zShr_r _ _ | exact zByte_r _ | exact zcmp_r _ _ | decide) only [Bool.decide_eq_true, Bool.decide_eq_false, ↓if_pos, ↓if_neg, ↓reduceIte, Nat.reduceEqDiff, Int.reduceLE, Int.reduceLT, Int.reduceEq, Int.reduceNe, Nat.reduceBEq, Int.reduceAdd, Int.reduceMul, Int.reduceSub, Int.reduceNeg, Nat.reduceAdd, not_false_eq_true, not_true_eq_false, decide_true, decide_false, Bool.not_true, Bool.not_false, Bool.true_and, Bool.false_and, Bool.and_true, Bool.and_false, Bool.true_or, Bool.false_or, Bool.or_true, Bool.or_false, Bool.not_not, decide_not, Decidable.not_not, ite_not, b2i_t, b2i_f, ne_eq, Bool.not_eq_true, Bool.not_eq_false, decide_eq_true_eq, decide_eq_false_iff_not, Bool.false_eq_true, Bool.true_eq_false, reduceCtorEq, if_true, if_false, ite_self, ite_b0, ite_b1, ite_0b, ite_1b, ite_bb, x_done, x_blk, x_lp, x_er, erL_0, erL_t, erL_f, kl_n, kl_i, kl_r, kl_l, bd_i, bd_r, bk_i, bk_e, bk_n, bk_r, bd_ite, bk_ite, lk_i, lk_e, lk_n, lk_r, lk_ite, ite_nx, b2i_i, b2i_n, b2i_0, b2i_1, b2i_e, bres_r, bres_ite, mres_v, mres_n, sF_1, sF_2, sA_1, sA_2, x_aload_n0, x_iload_n1, m_call1, x_if_ne, x_iload_n2, x_if_eq, x_iconst, x_ireturn, m_get, fM_18, x_icmp_ne, x_goto, x_istore_n3, x_istore4, x_iload4, x_icmp_ge, x_iload_n3, x_sipush, x_imul, x_iadd, x_istore5, x_istore6, fM_19, x_iload5, x_iload6, fM_20, fM_21, x_iinc4, m_ld18, m_ld19, m_ld20, m_ld21, m1]
    rw [N_X1_same]; unfold B_X1_same
    simp (disch := first | rfl | (simp only [wt_c, wt_0, vc_i, vc_l, vc_r] <;> decide) | omega | exact i32_r _ | exact b2i_r _ | exact b2i_01 _ | exact zAnd_r _ _ | exact zOr_r _ _ | exact zXor_r _ _ | exact zShl_r _ _ | exact zShr_r _ _ | exact zByte_r _ | exact zcmp_r _ _ | decide) only [Bool.decide_eq_true, Bool.decide_eq_false, ↓if_pos, ↓if_neg, ↓reduceIte, Nat.reduceEqDiff, Int.reduceLE, Int.reduceLT, Int.reduceEq, Int.reduceNe, Nat.reduceBEq, Int.reduceAdd, Int.reduceMul, Int.reduceSub, Int.reduceNeg, Nat.reduceAdd, not_false_eq_true, not_true_eq_false, decide_true, decide_false, Bool.not_true, Bool.not_false, Bool.true_and, Bool.false_and, Bool.and_true, Bool.and_false, Bool.true_or, Bool.false_or, Bool.or_true, Bool.or_false, Bool.not_not, decide_not, Decidable.not_not, ite_not, b2i_t, b2i_f, ne_eq, Bool.not_eq_true, Bool.not_eq_false, decide_eq_true_eq, decide_eq_false_iff_not, Bool.false_eq_true, Bool.true_eq_false, reduceCtorEq, if_true, if_false, ite_self, ite_b0, ite_b1, ite_0b, ite_1b, ite_bb, x_done, x_blk, x_lp, x_er, erL_0, erL_t, erL_f, kl_n, kl_i, kl_r, kl_l, bd_i, bd_r, bk_i, bk_e, bk_n, bk_r, bd_ite, bk_ite, lk_i, lk_e, lk_n, lk_r, lk_ite, ite_nx, b2i_i, b2i_n, b2i_0, b2i_1, b2i_e, bres_r, bres_ite, mres_v, mres_n, sF_1, sF_2, sA_1, sA_2, x_aload_n0, x_iload_n1, m_call1, x_if_ne, x_iload_n2, x_if_eq, x_iconst, x_ireturn, m_get, fM_18, x_icmp_ne, x_goto, x_istore_n3, x_istore4, x_iload4, x_icmp_ge, x_iload_n3, x_sipush, x_imul, x_iadd, x_istore5, x_istore6, fM_19, x_iload5, x_iload6, fM_20, fM_21, x_iinc4, m_ld18, m_ld19, m_ld20, m_ld21, e_noSentence_1 hs h1, e_noSentence_1 ht h1, m1, m2, lz]
theorem e_same_0 {l : Launch} {δ : Dl} {w0 : Hp} {o : Nat} {σ : MS} {z : Nat × Nat} {s t : Int} (hr : -2147483648 ≤ s ∧ s ≤ 2147483647) (hq : -2147483648 ≤ t ∧ t ≤ 2147483647) (h1 : 0 ≤ σ.1 17 ∧ σ.1 17 ≤ 20) (h0 : ¬ ((0 ≤ s ∧ s < σ.1 17) ∧ 0 ≤ t ∧ t < σ.1 17)) : (M_X1_same l δ).1 [.inr (.inr (some o)), .inl (s), .inl (t)] (mw w0 o σ, z) = some (.inl (some (.inl (-1))), mw w0 o (σ), z) := by
  rw [N_X1_same]; unfold B_X1_same
  by_cases h : 0 ≤ s ∧ s < σ.1 17
  · simp (disch := first | rfl | (simp only [wt_c, wt_0, vc_i, vc_l, vc_r] <;> decide) | omega | exact i32_r _ | exact b2i_r _ | exact b2i_01 _ | exact zAnd_r _ _ | exact zOr_r _ _ | exact zXor_r _ _ | exact zShl_r _ _ | exact zShr_r _ _ | exact zByte_r _ | exact zcmp_r _ _ | decide) only [Bool.decide_eq_true, Bool.decide_eq_false, ↓if_pos, ↓if_neg, ↓reduceIte, Nat.reduceEqDiff, Int.reduceLE, Int.reduceLT, Int.reduceEq, Int.reduceNe, Nat.reduceBEq, Int.reduceAdd, Int.reduceMul, Int.reduceSub, Int.reduceNeg, Nat.reduceAdd, not_false_eq_true, not_true_eq_false, decide_true, decide_false, Bool.not_true, Bool.not_false, Bool.true_and, Bool.false_and, Bool.and_true, Bool.and_false, Bool.true_or, Bool.false_or, Bool.or_true, Bool.or_false, Bool.not_not, decide_not, Decidable.not_not, ite_not, b2i_t, b2i_f, ne_eq, Bool.not_eq_true, Bool.not_eq_false, decide_eq_true_eq, decide_eq_false_iff_not, Bool.false_eq_true, Bool.true_eq_false, reduceCtorEq, if_true, if_false, ite_self, ite_b0, ite_b1, ite_0b, ite_1b, ite_bb, x_done, x_blk, x_lp, x_er, erL_0, erL_t, erL_f, kl_n, kl_i, kl_r, kl_l, bd_i, bd_r, bk_i, bk_e, bk_n, bk_r, bd_ite, bk_ite, lk_i, lk_e, lk_n, lk_r, lk_ite, ite_nx, b2i_i, b2i_n, b2i_0, b2i_1, b2i_e, bres_r, bres_ite, mres_v, mres_n, sF_1, sF_2, sA_1, sA_2, x_aload_n0, x_iload_n1, m_call1, x_if_ne, x_iload_n2, x_if_eq, x_iconst, x_ireturn, m_get, fM_18, x_icmp_ne, x_goto, x_istore_n3, x_istore4, x_iload4, x_icmp_ge, x_iload_n3, x_sipush, x_imul, x_iadd, x_istore5, x_istore6, fM_19, x_iload5, x_iload6, fM_20, fM_21, x_iinc4, m_ld18, m_ld19, m_ld20, m_ld21, e_noSentence_1 h h1.2, e_noSentence_0 hq (show ¬ (0 ≤ t ∧ t < σ.1 17) from fun q => h0 ⟨h, q⟩) h1]
  · simp (disch := first | rfl | (simp only [wt_c, wt_0, vc_i, vc_l, vc_r] <;> decide) | omega | exact i32_r _ | exact b2i_r _ | exact b2i_01 _ | exact zAnd_r _ _ | exact zOr_r _ _ | exact zXor_r _ _ | exact zShl_r _ _ | exact zShr_r _ _ | exact zByte_r _ | exact zcmp_r _ _ | decide) only [Bool.decide_eq_true, Bool.decide_eq_false, ↓if_pos, ↓if_neg, ↓reduceIte, Nat.reduceEqDiff, Int.reduceLE, Int.reduceLT, Int.reduceEq, Int.reduceNe, Nat.reduceBEq, Int.reduceAdd, Int.reduceMul, Int.reduceSub, Int.reduceNeg, Nat.reduceAdd, not_false_eq_true, not_true_eq_false, decide_true, decide_false, Bool.not_true, Bool.not_false, Bool.true_and, Bool.false_and, Bool.and_true, Bool.and_false, Bool.true_or, Bool.false_or, Bool.or_true, Bool.or_false, Bool.not_not, decide_not, Decidable.not_not, ite_not, b2i_t, b2i_f, ne_eq, Bool.not_eq_true, Bool.not_eq_false, decide_eq_true_eq, decide_eq_false_iff_not, Bool.false_eq_true, Bool.true_eq_false, reduceCtorEq, if_true, if_false, ite_self, ite_b0, ite_b1, ite_0b, ite_1b, ite_bb, x_done, x_blk, x_lp, x_er, erL_0, erL_t, erL_f, kl_n, kl_i, kl_r, kl_l, bd_i, bd_r, bk_i, bk_e, bk_n, bk_r, bd_ite, bk_ite, lk_i, lk_e, lk_n, lk_r, lk_ite, ite_nx, b2i_i, b2i_n, b2i_0, b2i_1, b2i_e, bres_r, bres_ite, mres_v, mres_n, sF_1, sF_2, sA_1, sA_2, x_aload_n0, x_iload_n1, m_call1, x_if_ne, x_iload_n2, x_if_eq, x_iconst, x_ireturn, m_get, fM_18, x_icmp_ne, x_goto, x_istore_n3, x_istore4, x_iload4, x_icmp_ge, x_iload_n3, x_sipush, x_imul, x_iadd, x_istore5, x_istore6, fM_19, x_iload5, x_iload6, fM_20, fM_21, x_iinc4, m_ld18, m_ld19, m_ld20, m_ld21, e_noSentence_0 hr h h1]
