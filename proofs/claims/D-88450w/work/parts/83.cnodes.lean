/-! ===== formulas as objects: nodes, depth ===== -/
set_option maxRecDepth 100000
/-- a call on an object of one of the formulas' classes -/
def Dsp (w : Hp) (r : Nat) (Q : Nat → Prop) : Prop := ∃ ci F, w r = some (.inr (ci, F)) ∧ (ci = 5 ∨ ci = 7 ∨ ci = 8 ∨ ci = 9) ∧ Q ci
theorem szv_atom {q k m n : Int} (h : Fo.okA q k m n) : (Fo.sz (Fo.atom k m n) : Int) = 1 := by rw [sz_atom h]; rfl
theorem szv_not {f : Fo} : (Fo.sz (Fo.not f) : Int) = 1 + Fo.sz f := by rw [sz_not]; omega
theorem szv_each {f : Fo} {a : Bool} {m : Int} : (Fo.sz (Fo.each a m f) : Int) = 1 + Fo.sz f := by rw [sz_each]; omega
theorem szv_many {f : Fo} {a : Bool} : (Fo.sz (Fo.many a f) : Int) = 1 + Fo.sz f := by rw [sz_many]; omega
theorem szv_nil : (Fo.sz Fo.nil : Int) = 0 := rfl
theorem szv_cons {g t : Fo} : (Fo.sz (Fo.cons g t) : Int) = Fo.sz g + Fo.sz t := by rw [sz_cons]; omega
theorem szv_le {f : Fo} {b : Bool} {q : Int} (_ : Fo.wf f b q) : Fo.sz f ≤ Fo.sz f := Nat.le_refl _
/-- how deep quantifiers are nested -/
def Fo.dp : Fo → Nat
  | .leaf _ => 0
  | .branch p a g => if p = 0 then max (Fo.dp a) (Fo.dp g) else if 2 ≤ (Fo.lab a).1 ∧ (Fo.lab a).1 ≤ 3 then Fo.dp g + 1 else Fo.dp g
theorem dpv_atom {k m n : Int} : (Fo.dp (Fo.atom k m n) : Int) = 0 := rfl
theorem dp_not {f : Fo} : Fo.dp (Fo.not f) = Fo.dp f := rfl
theorem dp_each {f : Fo} {a : Bool} {m : Int} : Fo.dp (Fo.each a m f) = Fo.dp f + 1 := by cases a <;> rfl
theorem dp_many {f : Fo} {a : Bool} : Fo.dp (Fo.many a f) = Fo.dp f := by cases a <;> rfl
theorem dp_nil : Fo.dp Fo.nil = 0 := rfl
theorem dp_cons {g t : Fo} : Fo.dp (Fo.cons g t) = max (Fo.dp g) (Fo.dp t) := rfl
theorem dpv_not {f : Fo} : (Fo.dp (Fo.not f) : Int) = Fo.dp f := by rw [dp_not]
theorem dpv_each {f : Fo} {a : Bool} {m : Int} : (Fo.dp (Fo.each a m f) : Int) = 1 + Fo.dp f := by rw [dp_each]; omega
theorem dpv_many {f : Fo} {a : Bool} : (Fo.dp (Fo.many a f) : Int) = Fo.dp f := by rw [dp_many]
theorem dpv_nil : (Fo.dp Fo.nil : Int) = 0 := rfl
theorem dpv_cons {g t : Fo} : (Fo.dp (Fo.cons g t) : Int) = ((max (Fo.dp g) (Fo.dp t) : Nat) : Int) := rfl
theorem dpv_le {f : Fo} {b : Bool} {q : Int} (h : Fo.wf f b q) : Fo.dp f ≤ Fo.sz f := by
  induction f, b, q, h using wf_ind with
  | atom k m n q h => rw [sz_atom h]; show 0 ≤ 1; omega
  | not f q h ih => rw [dp_not, sz_not]; omega
  | each a f q hq h ih => rw [dp_each, sz_each]; omega
  | many a l q h2 h ih => rw [dp_many, sz_many]; omega
  | nil q => exact Nat.le_refl _
  | cons g t q h1 h2 i1 i2 => rw [dp_cons, sz_cons]; omega
noncomputable def nodM (l : Launch) (δ : Dl) (N : Nat) (ci : Nat) : MDen := match ci with
  | 5 => (R_nod l δ N).1.1
  | 7 => (R_nod l δ N).2.1.1
  | 8 => (R_nod l δ N).2.1.1
  | _ => (R_nod l δ N).2.2.1
theorem c_nodes {l : Launch} {δ : Dl} {w : Hp} {Z : Nat → Prop} {f : Fo} {b : Bool} {q : Int} (hf : Fo.wf f b q) : (b = false → ∀ (N : Nat) (E : Int → V) (i : Int) (r : Nat) (zz : Nat × Nat), FR w Z f E i r → 2 * Fo.ht f < N → Fo.sz f ≤ 100000 → Dsp w r (fun ci => nodM l δ N ci [.inr (.inr (some r))] (w, zz) = some (.inl (some (.inl (Fo.sz f : Int))), w, zz))) ∧ (b = true → ∀ (N : Nat) (E : Int → V) (k : Int) (r0 r la e c n : Nat) (F : Nat → V) (acc : Int) (zz : Nat × Nat), FR w Z f E k r0 → 2 * Fo.ht f < N → 0 ≤ acc → acc + Fo.sz f ≤ 100000 → w r = some (.inr (9, F)) → F 0 = .inr (.inr (some la)) → CL_ w la e c E n → 0 ≤ k → k + Fo.len f = n → lpD 7 (B_X10_nodes_L7 l δ N (R_nod l δ N)).1 [] [some (.inr (.inr (some r))), some (.inl acc), some (.inl k)] (w, zz) = some (.inr (.inl (45, [], [some (.inr (.inr (some r))), some (.inl (acc + Fo.sz f)), some (.inl (n : Int))], w, zz)))) := by
  induction f, b, q, hf using wf_ind with
  | atom k m n q h =>
    refine ⟨fun _ N E i r zz hF hN hs => ?_, fun z => by cases z⟩
    obtain ⟨M, rfl⟩ : ∃ M, N = M + 1 := ⟨N - 1, by omega⟩
    rw [FR_atom h] at hF
    obtain ⟨-, F, h1, -⟩ := hF
    refine ⟨5, F, h1, Or.inl rfl, ?_⟩
    show (R_nod l δ (M + 1)).1.1 _ _ = _
    rw [szv_atom h]
    rw [N_X5_nodes]; unfold B_X5_nodes
    simp (disch := first | rfl | exact okv_i | exact okv_o | exact okv_a | exact b_ft _ | (simp only [wt_c, wt_0, vc_i, vc_l, vc_r] <;> decide) | omega | exact i32_r _ | exact b2i_r _ | exact b2i_01 _ | exact zAnd_r _ _ | exact zOr_r _ _ | exact zXor_r _ _ | exact zShl_r _ _ | exact zShr_r _ _ | exact zByte_r _ | exact zcmp_r _ _ | decide) only [Bool.decide_eq_true, Bool.decide_eq_false, ↓if_pos, ↓if_neg, ↓reduceIte, Nat.reduceEqDiff, Int.reduceLE, Int.reduceLT, Int.reduceEq, Int.reduceNe, Nat.reduceBEq, Int.reduceAdd, Int.reduceMul, Int.reduceSub, Int.reduceNeg, Nat.reduceAdd, not_false_eq_true, not_true_eq_false, decide_true, decide_false, Bool.not_true, Bool.not_false, Bool.true_and, Bool.false_and, Bool.and_true, Bool.and_false, Bool.true_or, Bool.false_or, Bool.or_true, Bool.or_false, Bool.not_not, decide_not, Decidable.not_not, ite_not, b2i_t, b2i_f, ne_eq, Bool.not_eq_true, Bool.not_eq_false, decide_eq_true_eq, decide_eq_false_iff_not, Bool.false_eq_true, Bool.true_eq_false, reduceCtorEq, if_true, if_false, ite_self, ite_b0, ite_b1, ite_0b, ite_1b, ite_bb, x_done, x_blk, x_lp, x_er, erL_0, erL_t, erL_f, kl_n, kl_i, kl_r, kl_l, bd_i, bd_r, bk_i, bk_e, bk_n, bk_r, bd_ite, bk_ite, lk_i, lk_e, lk_n, lk_r, lk_ite, ite_nx, b2i_i, b2i_n, b2i_0, b2i_1, b2i_e, bres_r, bres_ite, mres_v, mres_n, sF_1, sF_2, sA_1, sA_2, zcmp_lt, zcmp_gt, zcmp_le, zcmp_ge, zcmp_eq, List.lookup_cons, List.lookup_nil, mresX_v, mresX_n, mresX_t, bd_t, bres_t, y_rO, y_dO, y_dA, yO_o, yO_n, dR_e, rOx_s, rOx_n, dAx_s, dAx_n, wup_s, wup_n, fup_s, fup_n, beq_self_eq_true, Nat.reduceBEq, Nat.reduceLT, Nat.reduceSub, x_iconst, x_ireturn]
  | not f q h ih =>
    refine ⟨fun _ N E i r zz hF hN hs => ?_, fun z => by cases z⟩
    rw [ht_not] at hN
    rw [sz_not] at hs
    obtain ⟨M, rfl⟩ : ∃ M, N = M + 1 := ⟨N - 1, by omega⟩
    rw [FR_not] at hF
    obtain ⟨-, F, p, h1, h2, h3⟩ := hF
    obtain ⟨ci, G, e1, hc, e2⟩ := ih.1 rfl M _ _ p zz h3 (by omega) (by omega)
    refine ⟨7, F, h1, Or.inr (Or.inl rfl), ?_⟩
    show (R_nod l δ (M + 1)).2.1.1 _ _ = _
    rw [szv_not]
    have vr := szv_le h
    obtain ⟨K, rfl⟩ : ∃ K, M = K + 1 := ⟨M - 1, by omega⟩
    have e5 : ∀ zz, (R_nod l δ (K + 1)).1.1 [.inr (.inr (some r))] (w, zz) = some (.inl (some (.inl 1)), w, zz) := fun zz => by
      rw [N_X5_nodes]; unfold B_X5_nodes
      simp (disch := first | rfl | exact okv_i | exact okv_o | exact okv_a | exact b_ft _ | (simp only [wt_c, wt_0, vc_i, vc_l, vc_r] <;> decide) | omega | exact i32_r _ | exact b2i_r _ | exact b2i_01 _ | exact zAnd_r _ _ | exact zOr_r _ _ | exact zXor_r _ _ | exact zShl_r _ _ | exact zShr_r _ _ | exact zByte_r _ | exact zcmp_r _ _ | decide) only [Bool.decide_eq_true, Bool.decide_eq_false, ↓if_pos, ↓if_neg, ↓reduceIte, Nat.reduceEqDiff, Int.reduceLE, Int.reduceLT, Int.reduceEq, Int.reduceNe, Nat.reduceBEq, Int.reduceAdd, Int.reduceMul, Int.reduceSub, Int.reduceNeg, Nat.reduceAdd, not_false_eq_true, not_true_eq_false, decide_true, decide_false, Bool.not_true, Bool.not_false, Bool.true_and, Bool.false_and, Bool.and_true, Bool.and_false, Bool.true_or, Bool.false_or, Bool.or_true, Bool.or_false, Bool.not_not, decide_not, Decidable.not_not, ite_not, b2i_t, b2i_f, ne_eq, Bool.not_eq_true, Bool.not_eq_false, decide_eq_true_eq, decide_eq_false_iff_not, Bool.false_eq_true, Bool.true_eq_false, reduceCtorEq, if_true, if_false, ite_self, ite_b0, ite_b1, ite_0b, ite_1b, ite_bb, x_done, x_blk, x_lp, x_er, erL_0, erL_t, erL_f, kl_n, kl_i, kl_r, kl_l, bd_i, bd_r, bk_i, bk_e, bk_n, bk_r, bd_ite, bk_ite, lk_i, lk_e, lk_n, lk_r, lk_ite, ite_nx, b2i_i, b2i_n, b2i_0, b2i_1, b2i_e, bres_r, bres_ite, mres_v, mres_n, sF_1, sF_2, sA_1, sA_2, zcmp_lt, zcmp_gt, zcmp_le, zcmp_ge, zcmp_eq, List.lookup_cons, List.lookup_nil, mresX_v, mresX_n, mresX_t, bd_t, bres_t, y_rO, y_dO, y_dA, yO_o, yO_n, dR_e, rOx_s, rOx_n, dAx_s, dAx_n, wup_s, wup_n, fup_s, fup_n, beq_self_eq_true, Nat.reduceBEq, Nat.reduceLT, Nat.reduceSub, x_iconst, x_ireturn]
    rw [N_X8_nodes]; unfold B_X8_nodes
    rcases hc with rfl | rfl | rfl | rfl <;> (simp only [nodM] at e2; simp (disch := first | rfl | exact okv_i | exact okv_o | exact okv_a | exact b_ft _ | (simp only [wt_c, wt_0, vc_i, vc_l, vc_r] <;> decide) | omega | exact i32_r _ | exact b2i_r _ | exact b2i_01 _ | exact zAnd_r _ _ | exact zOr_r _ _ | exact zXor_r _ _ | exact zShl_r _ _ | exact zShr_r _ _ | exact zByte_r _ | exact zcmp_r _ _ | decide) only [Bool.decide_eq_true, Bool.decide_eq_false, ↓if_pos, ↓if_neg, ↓reduceIte, Nat.reduceEqDiff, Int.reduceLE, Int.reduceLT, Int.reduceEq, Int.reduceNe, Nat.reduceBEq, Int.reduceAdd, Int.reduceMul, Int.reduceSub, Int.reduceNeg, Nat.reduceAdd, not_false_eq_true, not_true_eq_false, decide_true, decide_false, Bool.not_true, Bool.not_false, Bool.true_and, Bool.false_and, Bool.and_true, Bool.and_false, Bool.true_or, Bool.false_or, Bool.or_true, Bool.or_false, Bool.not_not, decide_not, Decidable.not_not, ite_not, b2i_t, b2i_f, ne_eq, Bool.not_eq_true, Bool.not_eq_false, decide_eq_true_eq, decide_eq_false_iff_not, Bool.false_eq_true, Bool.true_eq_false, reduceCtorEq, if_true, if_false, ite_self, ite_b0, ite_b1, ite_0b, ite_1b, ite_bb, x_done, x_blk, x_lp, x_er, erL_0, erL_t, erL_f, kl_n, kl_i, kl_r, kl_l, bd_i, bd_r, bk_i, bk_e, bk_n, bk_r, bd_ite, bk_ite, lk_i, lk_e, lk_n, lk_r, lk_ite, ite_nx, b2i_i, b2i_n, b2i_0, b2i_1, b2i_e, bres_r, bres_ite, mres_v, mres_n, sF_1, sF_2, sA_1, sA_2, zcmp_lt, zcmp_gt, zcmp_le, zcmp_ge, zcmp_eq, List.lookup_cons, List.lookup_nil, mresX_v, mresX_n, mresX_t, bd_t, bres_t, y_rO, y_dO, y_dA, yO_o, yO_n, dR_e, rOx_s, rOx_n, dAx_s, dAx_n, wup_s, wup_n, fup_s, fup_n, beq_self_eq_true, Nat.reduceBEq, Nat.reduceLT, Nat.reduceSub, x_aload_n0, x_callG1, y_get, yGet_o, yLk_s, x_iadd, x_ireturn, h1, h2, e1, e2, e5])
    all_goals (refine fin_i ?_; omega)
  | each a f q hq h ih =>
    refine ⟨fun _ N E i r zz hF hN hs => ?_, fun z => by cases z⟩
    rw [ht_each] at hN
    rw [sz_each] at hs
    obtain ⟨M, rfl⟩ : ∃ M, N = M + 1 := ⟨N - 1, by omega⟩
    rw [FR_each] at hF
    obtain ⟨-, F, p, h1, h2, -, -, h3⟩ := hF
    obtain ⟨ci, G, e1, hc, e2⟩ := ih.1 rfl M _ _ p zz h3 (by omega) (by omega)
    refine ⟨8, F, h1, Or.inr (Or.inr (Or.inl rfl)), ?_⟩
    show (R_nod l δ (M + 1)).2.1.1 _ _ = _
    rw [szv_each]
    have vr := szv_le h
    obtain ⟨K, rfl⟩ : ∃ K, M = K + 1 := ⟨M - 1, by omega⟩
    have e5 : ∀ zz, (R_nod l δ (K + 1)).1.1 [.inr (.inr (some r))] (w, zz) = some (.inl (some (.inl 1)), w, zz) := fun zz => by
      rw [N_X5_nodes]; unfold B_X5_nodes
      simp (disch := first | rfl | exact okv_i | exact okv_o | exact okv_a | exact b_ft _ | (simp only [wt_c, wt_0, vc_i, vc_l, vc_r] <;> decide) | omega | exact i32_r _ | exact b2i_r _ | exact b2i_01 _ | exact zAnd_r _ _ | exact zOr_r _ _ | exact zXor_r _ _ | exact zShl_r _ _ | exact zShr_r _ _ | exact zByte_r _ | exact zcmp_r _ _ | decide) only [Bool.decide_eq_true, Bool.decide_eq_false, ↓if_pos, ↓if_neg, ↓reduceIte, Nat.reduceEqDiff, Int.reduceLE, Int.reduceLT, Int.reduceEq, Int.reduceNe, Nat.reduceBEq, Int.reduceAdd, Int.reduceMul, Int.reduceSub, Int.reduceNeg, Nat.reduceAdd, not_false_eq_true, not_true_eq_false, decide_true, decide_false, Bool.not_true, Bool.not_false, Bool.true_and, Bool.false_and, Bool.and_true, Bool.and_false, Bool.true_or, Bool.false_or, Bool.or_true, Bool.or_false, Bool.not_not, decide_not, Decidable.not_not, ite_not, b2i_t, b2i_f, ne_eq, Bool.not_eq_true, Bool.not_eq_false, decide_eq_true_eq, decide_eq_false_iff_not, Bool.false_eq_true, Bool.true_eq_false, reduceCtorEq, if_true, if_false, ite_self, ite_b0, ite_b1, ite_0b, ite_1b, ite_bb, x_done, x_blk, x_lp, x_er, erL_0, erL_t, erL_f, kl_n, kl_i, kl_r, kl_l, bd_i, bd_r, bk_i, bk_e, bk_n, bk_r, bd_ite, bk_ite, lk_i, lk_e, lk_n, lk_r, lk_ite, ite_nx, b2i_i, b2i_n, b2i_0, b2i_1, b2i_e, bres_r, bres_ite, mres_v, mres_n, sF_1, sF_2, sA_1, sA_2, zcmp_lt, zcmp_gt, zcmp_le, zcmp_ge, zcmp_eq, List.lookup_cons, List.lookup_nil, mresX_v, mresX_n, mresX_t, bd_t, bres_t, y_rO, y_dO, y_dA, yO_o, yO_n, dR_e, rOx_s, rOx_n, dAx_s, dAx_n, wup_s, wup_n, fup_s, fup_n, beq_self_eq_true, Nat.reduceBEq, Nat.reduceLT, Nat.reduceSub, x_iconst, x_ireturn]
    rw [N_X8_nodes]; unfold B_X8_nodes
    rcases hc with rfl | rfl | rfl | rfl <;> (simp only [nodM] at e2; simp (disch := first | rfl | exact okv_i | exact okv_o | exact okv_a | exact b_ft _ | (simp only [wt_c, wt_0, vc_i, vc_l, vc_r] <;> decide) | omega | exact i32_r _ | exact b2i_r _ | exact b2i_01 _ | exact zAnd_r _ _ | exact zOr_r _ _ | exact zXor_r _ _ | exact zShl_r _ _ | exact zShr_r _ _ | exact zByte_r _ | exact zcmp_r _ _ | decide) only [Bool.decide_eq_true, Bool.decide_eq_false, ↓if_pos, ↓if_neg, ↓reduceIte, Nat.reduceEqDiff, Int.reduceLE, Int.reduceLT, Int.reduceEq, Int.reduceNe, Nat.reduceBEq, Int.reduceAdd, Int.reduceMul, Int.reduceSub, Int.reduceNeg, Nat.reduceAdd, not_false_eq_true, not_true_eq_false, decide_true, decide_false, Bool.not_true, Bool.not_false, Bool.true_and, Bool.false_and, Bool.and_true, Bool.and_false, Bool.true_or, Bool.false_or, Bool.or_true, Bool.or_false, Bool.not_not, decide_not, Decidable.not_not, ite_not, b2i_t, b2i_f, ne_eq, Bool.not_eq_true, Bool.not_eq_false, decide_eq_true_eq, decide_eq_false_iff_not, Bool.false_eq_true, Bool.true_eq_false, reduceCtorEq, if_true, if_false, ite_self, ite_b0, ite_b1, ite_0b, ite_1b, ite_bb, x_done, x_blk, x_lp, x_er, erL_0, erL_t, erL_f, kl_n, kl_i, kl_r, kl_l, bd_i, bd_r, bk_i, bk_e, bk_n, bk_r, bd_ite, bk_ite, lk_i, lk_e, lk_n, lk_r, lk_ite, ite_nx, b2i_i, b2i_n, b2i_0, b2i_1, b2i_e, bres_r, bres_ite, mres_v, mres_n, sF_1, sF_2, sA_1, sA_2, zcmp_lt, zcmp_gt, zcmp_le, zcmp_ge, zcmp_eq, List.lookup_cons, List.lookup_nil, mresX_v, mresX_n, mresX_t, bd_t, bres_t, y_rO, y_dO, y_dA, yO_o, yO_n, dR_e, rOx_s, rOx_n, dAx_s, dAx_n, wup_s, wup_n, fup_s, fup_n, beq_self_eq_true, Nat.reduceBEq, Nat.reduceLT, Nat.reduceSub, x_aload_n0, x_callG1, y_get, yGet_o, yLk_s, x_iadd, x_ireturn, h1, h2, e1, e2, e5])
    all_goals (refine fin_i ?_; omega)
  | many a t q h2 h ih =>
    refine ⟨fun _ N E i r zz hF hN hs => ?_, fun z => by cases z⟩
    rw [ht_many] at hN
    rw [sz_many] at hs
    obtain ⟨M, rfl⟩ : ∃ M, N = M + 1 := ⟨N - 1, by omega⟩
    rw [FR_many] at hF
    obtain ⟨-, F, la, e, c, E', h3, h4, h5, -, h6, h7⟩ := hF
    have hl := ih.2 rfl M E' 0 0 r la e c _ F 1 zz h7 (by omega) (by omega) (by omega) h3 h4 h6 (by omega) (by omega)
    refine ⟨9, F, h3, Or.inr (Or.inr (Or.inr rfl)), ?_⟩
    show (R_nod l δ (M + 1)).2.2.1 _ _ = _
    rw [szv_many]
    have vr := szv_le h
    obtain ⟨K, rfl⟩ : ∃ K, M = K + 1 := ⟨M - 1, by omega⟩
    have e5 : ∀ zz, (R_nod l δ (K + 1)).1.1 [.inr (.inr (some r))] (w, zz) = some (.inl (some (.inl 1)), w, zz) := fun zz => by
      rw [N_X5_nodes]; unfold B_X5_nodes
      simp (disch := first | rfl | exact okv_i | exact okv_o | exact okv_a | exact b_ft _ | (simp only [wt_c, wt_0, vc_i, vc_l, vc_r] <;> decide) | omega | exact i32_r _ | exact b2i_r _ | exact b2i_01 _ | exact zAnd_r _ _ | exact zOr_r _ _ | exact zXor_r _ _ | exact zShl_r _ _ | exact zShr_r _ _ | exact zByte_r _ | exact zcmp_r _ _ | decide) only [Bool.decide_eq_true, Bool.decide_eq_false, ↓if_pos, ↓if_neg, ↓reduceIte, Nat.reduceEqDiff, Int.reduceLE, Int.reduceLT, Int.reduceEq, Int.reduceNe, Nat.reduceBEq, Int.reduceAdd, Int.reduceMul, Int.reduceSub, Int.reduceNeg, Nat.reduceAdd, not_false_eq_true, not_true_eq_false, decide_true, decide_false, Bool.not_true, Bool.not_false, Bool.true_and, Bool.false_and, Bool.and_true, Bool.and_false, Bool.true_or, Bool.false_or, Bool.or_true, Bool.or_false, Bool.not_not, decide_not, Decidable.not_not, ite_not, b2i_t, b2i_f, ne_eq, Bool.not_eq_true, Bool.not_eq_false, decide_eq_true_eq, decide_eq_false_iff_not, Bool.false_eq_true, Bool.true_eq_false, reduceCtorEq, if_true, if_false, ite_self, ite_b0, ite_b1, ite_0b, ite_1b, ite_bb, x_done, x_blk, x_lp, x_er, erL_0, erL_t, erL_f, kl_n, kl_i, kl_r, kl_l, bd_i, bd_r, bk_i, bk_e, bk_n, bk_r, bd_ite, bk_ite, lk_i, lk_e, lk_n, lk_r, lk_ite, ite_nx, b2i_i, b2i_n, b2i_0, b2i_1, b2i_e, bres_r, bres_ite, mres_v, mres_n, sF_1, sF_2, sA_1, sA_2, zcmp_lt, zcmp_gt, zcmp_le, zcmp_ge, zcmp_eq, List.lookup_cons, List.lookup_nil, mresX_v, mresX_n, mresX_t, bd_t, bres_t, y_rO, y_dO, y_dA, yO_o, yO_n, dR_e, rOx_s, rOx_n, dAx_s, dAx_n, wup_s, wup_n, fup_s, fup_n, beq_self_eq_true, Nat.reduceBEq, Nat.reduceLT, Nat.reduceSub, x_iconst, x_ireturn]
    rw [N_X10_nodes]; unfold B_X10_nodes
    simp (disch := first | rfl | exact okv_i | exact okv_o | exact okv_a | exact b_ft _ | (simp only [wt_c, wt_0, vc_i, vc_l, vc_r] <;> decide) | omega | exact i32_r _ | exact b2i_r _ | exact b2i_01 _ | exact zAnd_r _ _ | exact zOr_r _ _ | exact zXor_r _ _ | exact zShl_r _ _ | exact zShr_r _ _ | exact zByte_r _ | exact zcmp_r _ _ | decide) only [Bool.decide_eq_true, Bool.decide_eq_false, ↓if_pos, ↓if_neg, ↓reduceIte, Nat.reduceEqDiff, Int.reduceLE, Int.reduceLT, Int.reduceEq, Int.reduceNe, Nat.reduceBEq, Int.reduceAdd, Int.reduceMul, Int.reduceSub, Int.reduceNeg, Nat.reduceAdd, not_false_eq_true, not_true_eq_false, decide_true, decide_false, Bool.not_true, Bool.not_false, Bool.true_and, Bool.false_and, Bool.and_true, Bool.and_false, Bool.true_or, Bool.false_or, Bool.or_true, Bool.or_false, Bool.not_not, decide_not, Decidable.not_not, ite_not, b2i_t, b2i_f, ne_eq, Bool.not_eq_true, Bool.not_eq_false, decide_eq_true_eq, decide_eq_false_iff_not, Bool.false_eq_true, Bool.true_eq_false, reduceCtorEq, if_true, if_false, ite_self, ite_b0, ite_b1, ite_0b, ite_1b, ite_bb, x_done, x_blk, x_lp, x_er, erL_0, erL_t, erL_f, kl_n, kl_i, kl_r, kl_l, bd_i, bd_r, bk_i, bk_e, bk_n, bk_r, bd_ite, bk_ite, lk_i, lk_e, lk_n, lk_r, lk_ite, ite_nx, b2i_i, b2i_n, b2i_0, b2i_1, b2i_e, bres_r, bres_ite, mres_v, mres_n, sF_1, sF_2, sA_1, sA_2, zcmp_lt, zcmp_gt, zcmp_le, zcmp_ge, zcmp_eq, List.lookup_cons, List.lookup_nil, mresX_v, mresX_n, mresX_t, bd_t, bres_t, y_rO, y_dO, y_dA, yO_o, yO_n, dR_e, rOx_s, rOx_n, dAx_s, dAx_n, wup_s, wup_n, fup_s, fup_n, beq_self_eq_true, Nat.reduceBEq, Nat.reduceLT, Nat.reduceSub, x_aload_n0, x_callG1, x_istore_n1, x_iconst, x_istore_n2, x_iload_n2, y_get, yGet_o, yLk_s, x_icmp_ge, x_iload_n1, x_callG2, y_cast, yCast_o, x_iadd, x_iinc2, x_goto, x_ireturn, h3, hl, e5]
    all_goals (refine fin_i ?_; omega)
  | nil q =>
    refine ⟨fun z => (by cases z), fun _ N E k r0 r la e c n F acc zz hF hN ha hs h1 h2 hL hk hkn => ?_⟩
    rw [len_nil] at hkn
    have hk' : k = n := by omega
    subst hk'
    have hL0 := hL
    obtain ⟨G, g1, -, -, -, -, g6, g7⟩ := hL
    rw [szv_nil, lpD_eq, L_X10_nodes_7]; unfold C_X10_nodes_L7
    simp (disch := first | rfl | exact okv_i | exact okv_o | exact okv_a | exact b_ft _ | (simp only [wt_c, wt_0, vc_i, vc_l, vc_r] <;> decide) | omega | exact i32_r _ | exact b2i_r _ | exact b2i_01 _ | exact zAnd_r _ _ | exact zOr_r _ _ | exact zXor_r _ _ | exact zShl_r _ _ | exact zShr_r _ _ | exact zByte_r _ | exact zcmp_r _ _ | decide) only [Bool.decide_eq_true, Bool.decide_eq_false, ↓if_pos, ↓if_neg, ↓reduceIte, Nat.reduceEqDiff, Int.reduceLE, Int.reduceLT, Int.reduceEq, Int.reduceNe, Nat.reduceBEq, Int.reduceAdd, Int.reduceMul, Int.reduceSub, Int.reduceNeg, Nat.reduceAdd, not_false_eq_true, not_true_eq_false, decide_true, decide_false, Bool.not_true, Bool.not_false, Bool.true_and, Bool.false_and, Bool.and_true, Bool.and_false, Bool.true_or, Bool.false_or, Bool.or_true, Bool.or_false, Bool.not_not, decide_not, Decidable.not_not, ite_not, b2i_t, b2i_f, ne_eq, Bool.not_eq_true, Bool.not_eq_false, decide_eq_true_eq, decide_eq_false_iff_not, Bool.false_eq_true, Bool.true_eq_false, reduceCtorEq, if_true, if_false, ite_self, ite_b0, ite_b1, ite_0b, ite_1b, ite_bb, x_done, x_blk, x_lp, x_er, erL_0, erL_t, erL_f, kl_n, kl_i, kl_r, kl_l, bd_i, bd_r, bk_i, bk_e, bk_n, bk_r, bd_ite, bk_ite, lk_i, lk_e, lk_n, lk_r, lk_ite, ite_nx, b2i_i, b2i_n, b2i_0, b2i_1, b2i_e, bres_r, bres_ite, mres_v, mres_n, sF_1, sF_2, sA_1, sA_2, zcmp_lt, zcmp_gt, zcmp_le, zcmp_ge, zcmp_eq, List.lookup_cons, List.lookup_nil, mresX_v, mresX_n, mresX_t, bd_t, bres_t, y_rO, y_dO, y_dA, yO_o, yO_n, dR_e, rOx_s, rOx_n, dAx_s, dAx_n, wup_s, wup_n, fup_s, fup_n, beq_self_eq_true, Nat.reduceBEq, Nat.reduceLT, Nat.reduceSub, x_aload_n0, x_callG1, x_istore_n1, x_iconst, x_istore_n2, x_iload_n2, y_get, yGet_o, yLk_s, x_icmp_ge, x_iload_n1, x_callG2, y_cast, yCast_o, x_iadd, x_iinc2, x_goto, x_ireturn, h1, h2, g1, c_size hL0, Int.natCast_zero, Int.add_zero, Int.cast_ofNat_Int]
  | cons g t q hg ht ig it =>
    refine ⟨fun z => (by cases z), fun _ N E k r0 r la e c n F acc zz hF hN ha hs h1 h2 hL hk hkn => ?_⟩
    rw [len_cons] at hkn
    rw [ht_cons] at hN
    rw [sz_cons] at hs
    rw [FR_cons] at hF
    obtain ⟨p, h3, h4, h5⟩ := hF
    have hL0 := hL
    obtain ⟨G, g1, -, -, -, -, g6, g7⟩ := hL
    obtain ⟨ci, G2, e1, hc, e2⟩ := ig.1 rfl N _ _ p zz h4 (by omega) (by omega)
    have vg := szv_le hg
    have vt := szv_le ht
    have hl := it.2 rfl N E (k + 1) 0 r la e c n F (acc + Fo.sz g) zz h5 (by omega) (by omega) (by omega) h1 h2 hL0 (by omega) (by omega)
    rw [szv_cons, show (acc + ((Fo.sz g : Int) + Fo.sz t) : Int) = acc + Fo.sz g + Fo.sz t by omega, ← hl, lpD_eq, L_X10_nodes_7]
    unfold C_X10_nodes_L7
    have ecall : (M_J2_get l δ).1 [.inr (.inr (some la)), .inl k] (w, zz) = some (.inl (some (.inr (.inr (some p)))), w, zz) := c_get hL0 ⟨hk, by omega⟩ h3
    rcases hc with rfl | rfl | rfl | rfl <;> (simp only [nodM] at e2; simp (disch := first | rfl | exact okv_i | exact okv_o | exact okv_a | exact b_ft _ | (simp only [wt_c, wt_0, vc_i, vc_l, vc_r] <;> decide) | omega | exact i32_r _ | exact b2i_r _ | exact b2i_01 _ | exact zAnd_r _ _ | exact zOr_r _ _ | exact zXor_r _ _ | exact zShl_r _ _ | exact zShr_r _ _ | exact zByte_r _ | exact zcmp_r _ _ | decide) only [Bool.decide_eq_true, Bool.decide_eq_false, ↓if_pos, ↓if_neg, ↓reduceIte, Nat.reduceEqDiff, Int.reduceLE, Int.reduceLT, Int.reduceEq, Int.reduceNe, Nat.reduceBEq, Int.reduceAdd, Int.reduceMul, Int.reduceSub, Int.reduceNeg, Nat.reduceAdd, not_false_eq_true, not_true_eq_false, decide_true, decide_false, Bool.not_true, Bool.not_false, Bool.true_and, Bool.false_and, Bool.and_true, Bool.and_false, Bool.true_or, Bool.false_or, Bool.or_true, Bool.or_false, Bool.not_not, decide_not, Decidable.not_not, ite_not, b2i_t, b2i_f, ne_eq, Bool.not_eq_true, Bool.not_eq_false, decide_eq_true_eq, decide_eq_false_iff_not, Bool.false_eq_true, Bool.true_eq_false, reduceCtorEq, if_true, if_false, ite_self, ite_b0, ite_b1, ite_0b, ite_1b, ite_bb, x_done, x_blk, x_lp, x_er, erL_0, erL_t, erL_f, kl_n, kl_i, kl_r, kl_l, bd_i, bd_r, bk_i, bk_e, bk_n, bk_r, bd_ite, bk_ite, lk_i, lk_e, lk_n, lk_r, lk_ite, ite_nx, b2i_i, b2i_n, b2i_0, b2i_1, b2i_e, bres_r, bres_ite, mres_v, mres_n, sF_1, sF_2, sA_1, sA_2, zcmp_lt, zcmp_gt, zcmp_le, zcmp_ge, zcmp_eq, List.lookup_cons, List.lookup_nil, mresX_v, mresX_n, mresX_t, bd_t, bres_t, y_rO, y_dO, y_dA, yO_o, yO_n, dR_e, rOx_s, rOx_n, dAx_s, dAx_n, wup_s, wup_n, fup_s, fup_n, beq_self_eq_true, Nat.reduceBEq, Nat.reduceLT, Nat.reduceSub, x_aload_n0, x_callG1, x_istore_n1, x_iconst, x_istore_n2, x_iload_n2, y_get, yGet_o, yLk_s, x_icmp_ge, x_iload_n1, x_callG2, y_cast, yCast_o, x_iadd, x_iinc2, x_goto, x_ireturn, h1, h2, g1, c_size hL0, ecall, e1, e2])
noncomputable def depM (l : Launch) (δ : Dl) (N : Nat) (ci : Nat) : MDen := match ci with
  | 5 => (R_dep l δ N).1.1
  | 7 => (R_dep l δ N).2.1.1
  | 8 => (R_dep l δ N).2.2.1.1
  | _ => (R_dep l δ N).2.2.2.1
theorem c_depth {l : Launch} {δ : Dl} {w : Hp} {Z : Nat → Prop} {f : Fo} {b : Bool} {q : Int} (hf : Fo.wf f b q) : (b = false → ∀ (N : Nat) (E : Int → V) (i : Int) (r : Nat) (zz : Nat × Nat), FR w Z f E i r → 2 * Fo.ht f < N → Fo.sz f ≤ 100000 → Dsp w r (fun ci => depM l δ N ci [.inr (.inr (some r))] (w, zz) = some (.inl (some (.inl (Fo.dp f : Int))), w, zz))) ∧ (b = true → ∀ (N : Nat) (E : Int → V) (k : Int) (r0 r la e c n : Nat) (F : Nat → V) (acc : Int) (zz : Nat × Nat), FR w Z f E k r0 → 2 * Fo.ht f < N → 0 ≤ acc → acc + Fo.sz f ≤ 100000 → w r = some (.inr (9, F)) → F 0 = .inr (.inr (some la)) → CL_ w la e c E n → 0 ≤ k → k + Fo.len f = n → lpD 4 (B_X10_depth_L4 l δ N (R_dep l δ N)).1 [] [some (.inr (.inr (some r))), some (.inl acc), some (.inl k)] (w, zz) = some (.inr (.inl (44, [], [some (.inr (.inr (some r))), some (.inl (((max acc.toNat (Fo.dp f) : Nat) : Int))), some (.inl (n : Int))], w, zz)))) := by
  induction f, b, q, hf using wf_ind with
  | atom k m n q h =>
    refine ⟨fun _ N E i r zz hF hN hs => ?_, fun z => by cases z⟩
    obtain ⟨M, rfl⟩ : ∃ M, N = M + 1 := ⟨N - 1, by omega⟩
    rw [FR_atom h] at hF
    obtain ⟨-, F, h1, -⟩ := hF
    refine ⟨5, F, h1, Or.inl rfl, ?_⟩
    show (R_dep l δ (M + 1)).1.1 _ _ = _
    rw [dpv_atom]
    rw [N_X6_depth]; unfold B_X6_depth
    simp (disch := first | rfl | exact okv_i | exact okv_o | exact okv_a | exact b_ft _ | (simp only [wt_c, wt_0, vc_i, vc_l, vc_r] <;> decide) | omega | exact i32_r _ | exact b2i_r _ | exact b2i_01 _ | exact zAnd_r _ _ | exact zOr_r _ _ | exact zXor_r _ _ | exact zShl_r _ _ | exact zShr_r _ _ | exact zByte_r _ | exact zcmp_r _ _ | decide) only [Bool.decide_eq_true, Bool.decide_eq_false, ↓if_pos, ↓if_neg, ↓reduceIte, Nat.reduceEqDiff, Int.reduceLE, Int.reduceLT, Int.reduceEq, Int.reduceNe, Nat.reduceBEq, Int.reduceAdd, Int.reduceMul, Int.reduceSub, Int.reduceNeg, Nat.reduceAdd, not_false_eq_true, not_true_eq_false, decide_true, decide_false, Bool.not_true, Bool.not_false, Bool.true_and, Bool.false_and, Bool.and_true, Bool.and_false, Bool.true_or, Bool.false_or, Bool.or_true, Bool.or_false, Bool.not_not, decide_not, Decidable.not_not, ite_not, b2i_t, b2i_f, ne_eq, Bool.not_eq_true, Bool.not_eq_false, decide_eq_true_eq, decide_eq_false_iff_not, Bool.false_eq_true, Bool.true_eq_false, reduceCtorEq, if_true, if_false, ite_self, ite_b0, ite_b1, ite_0b, ite_1b, ite_bb, x_done, x_blk, x_lp, x_er, erL_0, erL_t, erL_f, kl_n, kl_i, kl_r, kl_l, bd_i, bd_r, bk_i, bk_e, bk_n, bk_r, bd_ite, bk_ite, lk_i, lk_e, lk_n, lk_r, lk_ite, ite_nx, b2i_i, b2i_n, b2i_0, b2i_1, b2i_e, bres_r, bres_ite, mres_v, mres_n, sF_1, sF_2, sA_1, sA_2, zcmp_lt, zcmp_gt, zcmp_le, zcmp_ge, zcmp_eq, List.lookup_cons, List.lookup_nil, mresX_v, mresX_n, mresX_t, bd_t, bres_t, y_rO, y_dO, y_dA, yO_o, yO_n, dR_e, rOx_s, rOx_n, dAx_s, dAx_n, wup_s, wup_n, fup_s, fup_n, beq_self_eq_true, Nat.reduceBEq, Nat.reduceLT, Nat.reduceSub, x_iconst, x_ireturn]
  | not f q h ih =>
    refine ⟨fun _ N E i r zz hF hN hs => ?_, fun z => by cases z⟩
    rw [ht_not] at hN
    rw [sz_not] at hs
    obtain ⟨M, rfl⟩ : ∃ M, N = M + 1 := ⟨N - 1, by omega⟩
    rw [FR_not] at hF
    obtain ⟨-, F, p, h1, h2, h3⟩ := hF
    obtain ⟨ci, G, e1, hc, e2⟩ := ih.1 rfl M _ _ p zz h3 (by omega) (by omega)
    refine ⟨7, F, h1, Or.inr (Or.inl rfl), ?_⟩
    show (R_dep l δ (M + 1)).2.1.1 _ _ = _
    rw [dpv_not]
    have vr := dpv_le h
    rw [N_X8_depth]; unfold B_X8_depth
    rcases hc with rfl | rfl | rfl | rfl <;> (simp only [depM] at e2; simp (disch := first | rfl | exact okv_i | exact okv_o | exact okv_a | exact b_ft _ | (simp only [wt_c, wt_0, vc_i, vc_l, vc_r] <;> decide) | omega | exact i32_r _ | exact b2i_r _ | exact b2i_01 _ | exact zAnd_r _ _ | exact zOr_r _ _ | exact zXor_r _ _ | exact zShl_r _ _ | exact zShr_r _ _ | exact zByte_r _ | exact zcmp_r _ _ | decide) only [Bool.decide_eq_true, Bool.decide_eq_false, ↓if_pos, ↓if_neg, ↓reduceIte, Nat.reduceEqDiff, Int.reduceLE, Int.reduceLT, Int.reduceEq, Int.reduceNe, Nat.reduceBEq, Int.reduceAdd, Int.reduceMul, Int.reduceSub, Int.reduceNeg, Nat.reduceAdd, not_false_eq_true, not_true_eq_false, decide_true, decide_false, Bool.not_true, Bool.not_false, Bool.true_and, Bool.false_and, Bool.and_true, Bool.and_false, Bool.true_or, Bool.false_or, Bool.or_true, Bool.or_false, Bool.not_not, decide_not, Decidable.not_not, ite_not, b2i_t, b2i_f, ne_eq, Bool.not_eq_true, Bool.not_eq_false, decide_eq_true_eq, decide_eq_false_iff_not, Bool.false_eq_true, Bool.true_eq_false, reduceCtorEq, if_true, if_false, ite_self, ite_b0, ite_b1, ite_0b, ite_1b, ite_bb, x_done, x_blk, x_lp, x_er, erL_0, erL_t, erL_f, kl_n, kl_i, kl_r, kl_l, bd_i, bd_r, bk_i, bk_e, bk_n, bk_r, bd_ite, bk_ite, lk_i, lk_e, lk_n, lk_r, lk_ite, ite_nx, b2i_i, b2i_n, b2i_0, b2i_1, b2i_e, bres_r, bres_ite, mres_v, mres_n, sF_1, sF_2, sA_1, sA_2, zcmp_lt, zcmp_gt, zcmp_le, zcmp_ge, zcmp_eq, List.lookup_cons, List.lookup_nil, mresX_v, mresX_n, mresX_t, bd_t, bres_t, y_rO, y_dO, y_dA, yO_o, yO_n, dR_e, rOx_s, rOx_n, dAx_s, dAx_n, wup_s, wup_n, fup_s, fup_n, beq_self_eq_true, Nat.reduceBEq, Nat.reduceLT, Nat.reduceSub, x_aload_n0, y_get, yGet_o, yLk_s, x_callG1, x_ireturn, h1, h2, e1, e2])
    all_goals (refine fin_i ?_; omega)
  | each a f q hq h ih =>
    refine ⟨fun _ N E i r zz hF hN hs => ?_, fun z => by cases z⟩
    rw [ht_each] at hN
    rw [sz_each] at hs
    obtain ⟨M, rfl⟩ : ∃ M, N = M + 2 := ⟨N - 2, by omega⟩
    rw [FR_each] at hF
    obtain ⟨-, F, p, h1, h2, -, -, h3⟩ := hF
    obtain ⟨ci, G, e1, hc, e2⟩ := ih.1 rfl M _ _ p zz h3 (by omega) (by omega)
    refine ⟨8, F, h1, Or.inr (Or.inr (Or.inl rfl)), ?_⟩
    show (R_dep l δ (M + 2)).2.2.1.1 _ _ = _
    rw [dpv_each]
    have vr := dpv_le h
    have e8 : (R_dep l δ (M + 1)).2.1.1 [.inr (.inr (some r))] (w, zz) = some (.inl (some (.inl (Fo.dp f : Int))), w, zz) := by
      rw [N_X8_depth]; unfold B_X8_depth
      rcases hc with rfl | rfl | rfl | rfl <;> (simp only [depM] at e2; simp (disch := first | rfl | exact okv_i | exact okv_o | exact okv_a | exact b_ft _ | (simp only [wt_c, wt_0, vc_i, vc_l, vc_r] <;> decide) | omega | exact i32_r _ | exact b2i_r _ | exact b2i_01 _ | exact zAnd_r _ _ | exact zOr_r _ _ | exact zXor_r _ _ | exact zShl_r _ _ | exact zShr_r _ _ | exact zByte_r _ | exact zcmp_r _ _ | decide) only [Bool.decide_eq_true, Bool.decide_eq_false, ↓if_pos, ↓if_neg, ↓reduceIte, Nat.reduceEqDiff, Int.reduceLE, Int.reduceLT, Int.reduceEq, Int.reduceNe, Nat.reduceBEq, Int.reduceAdd, Int.reduceMul, Int.reduceSub, Int.reduceNeg, Nat.reduceAdd, not_false_eq_true, not_true_eq_false, decide_true, decide_false, Bool.not_true, Bool.not_false, Bool.true_and, Bool.false_and, Bool.and_true, Bool.and_false, Bool.true_or, Bool.false_or, Bool.or_true, Bool.or_false, Bool.not_not, decide_not, Decidable.not_not, ite_not, b2i_t, b2i_f, ne_eq, Bool.not_eq_true, Bool.not_eq_false, decide_eq_true_eq, decide_eq_false_iff_not, Bool.false_eq_true, Bool.true_eq_false, reduceCtorEq, if_true, if_false, ite_self, ite_b0, ite_b1, ite_0b, ite_1b, ite_bb, x_done, x_blk, x_lp, x_er, erL_0, erL_t, erL_f, kl_n, kl_i, kl_r, kl_l, bd_i, bd_r, bk_i, bk_e, bk_n, bk_r, bd_ite, bk_ite, lk_i, lk_e, lk_n, lk_r, lk_ite, ite_nx, b2i_i, b2i_n, b2i_0, b2i_1, b2i_e, bres_r, bres_ite, mres_v, mres_n, sF_1, sF_2, sA_1, sA_2, zcmp_lt, zcmp_gt, zcmp_le, zcmp_ge, zcmp_eq, List.lookup_cons, List.lookup_nil, mresX_v, mresX_n, mresX_t, bd_t, bres_t, y_rO, y_dO, y_dA, yO_o, yO_n, dR_e, rOx_s, rOx_n, dAx_s, dAx_n, wup_s, wup_n, fup_s, fup_n, beq_self_eq_true, Nat.reduceBEq, Nat.reduceLT, Nat.reduceSub, x_aload_n0, y_get, yGet_o, yLk_s, x_callG1, x_ireturn, h1, h2, e1, e2])
    rw [N_X9_depth]; unfold B_X9_depth
    rcases hc with rfl | rfl | rfl | rfl <;> (simp only [depM] at e2; simp (disch := first | rfl | exact okv_i | exact okv_o | exact okv_a | exact b_ft _ | (simp only [wt_c, wt_0, vc_i, vc_l, vc_r] <;> decide) | omega | exact i32_r _ | exact b2i_r _ | exact b2i_01 _ | exact zAnd_r _ _ | exact zOr_r _ _ | exact zXor_r _ _ | exact zShl_r _ _ | exact zShr_r _ _ | exact zByte_r _ | exact zcmp_r _ _ | decide) only [Bool.decide_eq_true, Bool.decide_eq_false, ↓if_pos, ↓if_neg, ↓reduceIte, Nat.reduceEqDiff, Int.reduceLE, Int.reduceLT, Int.reduceEq, Int.reduceNe, Nat.reduceBEq, Int.reduceAdd, Int.reduceMul, Int.reduceSub, Int.reduceNeg, Nat.reduceAdd, not_false_eq_true, not_true_eq_false, decide_true, decide_false, Bool.not_true, Bool.not_false, Bool.true_and, Bool.false_and, Bool.and_true, Bool.and_false, Bool.true_or, Bool.false_or, Bool.or_true, Bool.or_false, Bool.not_not, decide_not, Decidable.not_not, ite_not, b2i_t, b2i_f, ne_eq, Bool.not_eq_true, Bool.not_eq_false, decide_eq_true_eq, decide_eq_false_iff_not, Bool.false_eq_true, Bool.true_eq_false, reduceCtorEq, if_true, if_false, ite_self, ite_b0, ite_b1, ite_0b, ite_1b, ite_bb, x_done, x_blk, x_lp, x_er, erL_0, erL_t, erL_f, kl_n, kl_i, kl_r, kl_l, bd_i, bd_r, bk_i, bk_e, bk_n, bk_r, bd_ite, bk_ite, lk_i, lk_e, lk_n, lk_r, lk_ite, ite_nx, b2i_i, b2i_n, b2i_0, b2i_1, b2i_e, bres_r, bres_ite, mres_v, mres_n, sF_1, sF_2, sA_1, sA_2, zcmp_lt, zcmp_gt, zcmp_le, zcmp_ge, zcmp_eq, List.lookup_cons, List.lookup_nil, mresX_v, mresX_n, mresX_t, bd_t, bres_t, y_rO, y_dO, y_dA, yO_o, yO_n, dR_e, rOx_s, rOx_n, dAx_s, dAx_n, wup_s, wup_n, fup_s, fup_n, beq_self_eq_true, Nat.reduceBEq, Nat.reduceLT, Nat.reduceSub, x_iconst, x_aload_n0, x_callG1, x_iadd, x_ireturn, h1, e8])
    all_goals (refine fin_i ?_; omega)
  | many a t q h2 h ih =>
    refine ⟨fun _ N E i r zz hF hN hs => ?_, fun z => by cases z⟩
    rw [ht_many] at hN
    rw [sz_many] at hs
    obtain ⟨M, rfl⟩ : ∃ M, N = M + 1 := ⟨N - 1, by omega⟩
    rw [FR_many] at hF
    obtain ⟨-, F, la, e, c, E', h3, h4, h5, -, h6, h7⟩ := hF
    have hl := ih.2 rfl M E' 0 0 r la e c _ F 0 zz h7 (by omega) (by omega) (by omega) h3 h4 h6 (by omega) (by omega)
    refine ⟨9, F, h3, Or.inr (Or.inr (Or.inr rfl)), ?_⟩
    show (R_dep l δ (M + 1)).2.2.2.1 _ _ = _
    rw [dpv_many]
    have vr := dpv_le h
    rw [N_X10_depth]; unfold B_X10_depth
    simp (disch := first | rfl | exact okv_i | exact okv_o | exact okv_a | exact b_ft _ | (simp only [wt_c, wt_0, vc_i, vc_l, vc_r] <;> decide) | omega | exact i32_r _ | exact b2i_r _ | exact b2i_01 _ | exact zAnd_r _ _ | exact zOr_r _ _ | exact zXor_r _ _ | exact zShl_r _ _ | exact zShr_r _ _ | exact zByte_r _ | exact zcmp_r _ _ | decide) only [Bool.decide_eq_true, Bool.decide_eq_false, ↓if_pos, ↓if_neg, ↓reduceIte, Nat.reduceEqDiff, Int.reduceLE, Int.reduceLT, Int.reduceEq, Int.reduceNe, Nat.reduceBEq, Int.reduceAdd, Int.reduceMul, Int.reduceSub, Int.reduceNeg, Nat.reduceAdd, not_false_eq_true, not_true_eq_false, decide_true, decide_false, Bool.not_true, Bool.not_false, Bool.true_and, Bool.false_and, Bool.and_true, Bool.and_false, Bool.true_or, Bool.false_or, Bool.or_true, Bool.or_false, Bool.not_not, decide_not, Decidable.not_not, ite_not, b2i_t, b2i_f, ne_eq, Bool.not_eq_true, Bool.not_eq_false, decide_eq_true_eq, decide_eq_false_iff_not, Bool.false_eq_true, Bool.true_eq_false, reduceCtorEq, if_true, if_false, ite_self, ite_b0, ite_b1, ite_0b, ite_1b, ite_bb, x_done, x_blk, x_lp, x_er, erL_0, erL_t, erL_f, kl_n, kl_i, kl_r, kl_l, bd_i, bd_r, bk_i, bk_e, bk_n, bk_r, bd_ite, bk_ite, lk_i, lk_e, lk_n, lk_r, lk_ite, ite_nx, b2i_i, b2i_n, b2i_0, b2i_1, b2i_e, bres_r, bres_ite, mres_v, mres_n, sF_1, sF_2, sA_1, sA_2, zcmp_lt, zcmp_gt, zcmp_le, zcmp_ge, zcmp_eq, List.lookup_cons, List.lookup_nil, mresX_v, mresX_n, mresX_t, bd_t, bres_t, y_rO, y_dO, y_dA, yO_o, yO_n, dR_e, rOx_s, rOx_n, dAx_s, dAx_n, wup_s, wup_n, fup_s, fup_n, beq_self_eq_true, Nat.reduceBEq, Nat.reduceLT, Nat.reduceSub, x_iconst, x_istore_n1, x_istore_n2, x_iload_n2, x_aload_n0, y_get, yGet_o, yLk_s, x_callG1, x_icmp_ge, x_iload_n1, x_callG2, y_cast, yCast_o, x_mmax, x_mmin, x_iinc2, x_goto, x_ireturn, h3, hl]
    all_goals (refine fin_i ?_; omega)
  | nil q =>
    refine ⟨fun z => (by cases z), fun _ N E k r0 r la e c n F acc zz hF hN ha hs h1 h2 hL hk hkn => ?_⟩
    rw [len_nil] at hkn
    have hk' : k = n := by omega
    subst hk'
    have hL0 := hL
    obtain ⟨G, g1, -, -, -, -, g6, g7⟩ := hL
    rw [show ((max acc.toNat (Fo.dp Fo.nil) : Nat) : Int) = acc by rw [dp_nil]; omega, lpD_eq, L_X10_depth_4]; unfold C_X10_depth_L4
    simp (disch := first | rfl | exact okv_i | exact okv_o | exact okv_a | exact b_ft _ | (simp only [wt_c, wt_0, vc_i, vc_l, vc_r] <;> decide) | omega | exact i32_r _ | exact b2i_r _ | exact b2i_01 _ | exact zAnd_r _ _ | exact zOr_r _ _ | exact zXor_r _ _ | exact zShl_r _ _ | exact zShr_r _ _ | exact zByte_r _ | exact zcmp_r _ _ | decide) only [Bool.decide_eq_true, Bool.decide_eq_false, ↓if_pos, ↓if_neg, ↓reduceIte, Nat.reduceEqDiff, Int.reduceLE, Int.reduceLT, Int.reduceEq, Int.reduceNe, Nat.reduceBEq, Int.reduceAdd, Int.reduceMul, Int.reduceSub, Int.reduceNeg, Nat.reduceAdd, not_false_eq_true, not_true_eq_false, decide_true, decide_false, Bool.not_true, Bool.not_false, Bool.true_and, Bool.false_and, Bool.and_true, Bool.and_false, Bool.true_or, Bool.false_or, Bool.or_true, Bool.or_false, Bool.not_not, decide_not, Decidable.not_not, ite_not, b2i_t, b2i_f, ne_eq, Bool.not_eq_true, Bool.not_eq_false, decide_eq_true_eq, decide_eq_false_iff_not, Bool.false_eq_true, Bool.true_eq_false, reduceCtorEq, if_true, if_false, ite_self, ite_b0, ite_b1, ite_0b, ite_1b, ite_bb, x_done, x_blk, x_lp, x_er, erL_0, erL_t, erL_f, kl_n, kl_i, kl_r, kl_l, bd_i, bd_r, bk_i, bk_e, bk_n, bk_r, bd_ite, bk_ite, lk_i, lk_e, lk_n, lk_r, lk_ite, ite_nx, b2i_i, b2i_n, b2i_0, b2i_1, b2i_e, bres_r, bres_ite, mres_v, mres_n, sF_1, sF_2, sA_1, sA_2, zcmp_lt, zcmp_gt, zcmp_le, zcmp_ge, zcmp_eq, List.lookup_cons, List.lookup_nil, mresX_v, mresX_n, mresX_t, bd_t, bres_t, y_rO, y_dO, y_dA, yO_o, yO_n, dR_e, rOx_s, rOx_n, dAx_s, dAx_n, wup_s, wup_n, fup_s, fup_n, beq_self_eq_true, Nat.reduceBEq, Nat.reduceLT, Nat.reduceSub, x_iconst, x_istore_n1, x_istore_n2, x_iload_n2, x_aload_n0, y_get, yGet_o, yLk_s, x_callG1, x_icmp_ge, x_iload_n1, x_callG2, y_cast, yCast_o, x_mmax, x_mmin, x_iinc2, x_goto, x_ireturn, h1, h2, g1, c_size hL0]
  | cons g t q hg ht ig it =>
    refine ⟨fun z => (by cases z), fun _ N E k r0 r la e c n F acc zz hF hN ha hs h1 h2 hL hk hkn => ?_⟩
    rw [len_cons] at hkn
    rw [ht_cons] at hN
    rw [sz_cons] at hs
    rw [FR_cons] at hF
    obtain ⟨p, h3, h4, h5⟩ := hF
    have hL0 := hL
    obtain ⟨G, g1, -, -, -, -, g6, g7⟩ := hL
    obtain ⟨ci, G2, e1, hc, e2⟩ := ig.1 rfl N _ _ p zz h4 (by omega) (by omega)
    have vg := dpv_le hg
    have vt := dpv_le ht
    have hl := it.2 rfl N E (k + 1) 0 r la e c n F (((max acc.toNat (Fo.dp g) : Nat) : Int)) zz h5 (by omega) (by omega) (by omega) h1 h2 hL0 (by omega) (by omega)
    have em : (if acc < (Fo.dp g : Int) then (Fo.dp g : Int) else acc) = ((max acc.toNat (Fo.dp g) : Nat) : Int) := by split <;> omega
    rw [dp_cons, show (((max acc.toNat (max (Fo.dp g) (Fo.dp t)) : Nat) : Int) : Int) = ((max ((max acc.toNat (Fo.dp g) : Nat) : Int).toNat (Fo.dp t) : Nat) : Int) by omega, ← hl, lpD_eq, L_X10_depth_4]
    unfold C_X10_depth_L4
    have ecall : (M_J2_get l δ).1 [.inr (.inr (some la)), .inl k] (w, zz) = some (.inl (some (.inr (.inr (some p)))), w, zz) := c_get hL0 ⟨hk, by omega⟩ h3
    rcases hc with rfl | rfl | rfl | rfl <;> (simp only [depM] at e2; simp (disch := first | rfl | exact okv_i | exact okv_o | exact okv_a | exact b_ft _ | (simp only [wt_c, wt_0, vc_i, vc_l, vc_r] <;> decide) | omega | exact i32_r _ | exact b2i_r _ | exact b2i_01 _ | exact zAnd_r _ _ | exact zOr_r _ _ | exact zXor_r _ _ | exact zShl_r _ _ | exact zShr_r _ _ | exact zByte_r _ | exact zcmp_r _ _ | decide) only [Bool.decide_eq_true, Bool.decide_eq_false, ↓if_pos, ↓if_neg, ↓reduceIte, Nat.reduceEqDiff, Int.reduceLE, Int.reduceLT, Int.reduceEq, Int.reduceNe, Nat.reduceBEq, Int.reduceAdd, Int.reduceMul, Int.reduceSub, Int.reduceNeg, Nat.reduceAdd, not_false_eq_true, not_true_eq_false, decide_true, decide_false, Bool.not_true, Bool.not_false, Bool.true_and, Bool.false_and, Bool.and_true, Bool.and_false, Bool.true_or, Bool.false_or, Bool.or_true, Bool.or_false, Bool.not_not, decide_not, Decidable.not_not, ite_not, b2i_t, b2i_f, ne_eq, Bool.not_eq_true, Bool.not_eq_false, decide_eq_true_eq, decide_eq_false_iff_not, Bool.false_eq_true, Bool.true_eq_false, reduceCtorEq, if_true, if_false, ite_self, ite_b0, ite_b1, ite_0b, ite_1b, ite_bb, x_done, x_blk, x_lp, x_er, erL_0, erL_t, erL_f, kl_n, kl_i, kl_r, kl_l, bd_i, bd_r, bk_i, bk_e, bk_n, bk_r, bd_ite, bk_ite, lk_i, lk_e, lk_n, lk_r, lk_ite, ite_nx, b2i_i, b2i_n, b2i_0, b2i_1, b2i_e, bres_r, bres_ite, mres_v, mres_n, sF_1, sF_2, sA_1, sA_2, zcmp_lt, zcmp_gt, zcmp_le, zcmp_ge, zcmp_eq, List.lookup_cons, List.lookup_nil, mresX_v, mresX_n, mresX_t, bd_t, bres_t, y_rO, y_dO, y_dA, yO_o, yO_n, dR_e, rOx_s, rOx_n, dAx_s, dAx_n, wup_s, wup_n, fup_s, fup_n, beq_self_eq_true, Nat.reduceBEq, Nat.reduceLT, Nat.reduceSub, x_iconst, x_istore_n1, x_istore_n2, x_iload_n2, x_aload_n0, y_get, yGet_o, yLk_s, x_callG1, x_icmp_ge, x_iload_n1, x_callG2, y_cast, yCast_o, x_mmax, x_mmin, x_iinc2, x_goto, x_ireturn, h1, h2, g1, c_size hL0, ecall, e1, e2, em])
