/-! ===== the component's other primitives in a form for rewriting ===== -/
set_option maxRecDepth 100000
def yCast (yes : List Nat) (e : Option En2) (a : Nat) (K : Den) (st : Stk) (L : Lc) (s : St) : Option Ou := match e with
  | some (.inr x) => if yes.contains x.1 = true then K (.inr (.inr (some a)) :: st) L s else none
  | _ => none
def yInst (yes no : List Nat) (e : Option En2) (K : Den) (st : Stk) (L : Lc) (s : St) : Option Ou := match e with
  | some (.inr x) => if yes.contains x.1 = true then K (.inl 1 :: st) L s else if no.contains x.1 = true then K (.inl 0 :: st) L s else none
  | _ => none
def yGetC (b : Nat) (e : Option En2) (K : Den) (st : Stk) (L : Lc) (s : St) : Option Ou := match e with
  | some (.inl x) => if x.1 = 5 ∧ Nat.ble (wt st) 8 = true then K (.inr (.inr (some b)) :: st) L s else none
  | _ => none
noncomputable def yAlE (b : Prop) (e : Option En2) (K : Den) (st : Stk) (L : Lc) (s : St) : Option Ou := @ite _ b (Classical.propDecidable b) (K (.inl 0 :: st) L s) (yLen e K st L s)
section YF
variable {θ : Ix} {p q : Nat} {st : Stk} {L : Lc} {s : St} {a : Nat} {K : Den}
theorem y_cast {idx : Nat} {yes : List Nat} {hy : ∀ ci ∈ yes, ∃ q, CL[ci]? = some q ∧ KY θ.y.cls idx q.1} {dd : decode θ.cc p = .ok (.checkcast idx, 3)} {bb : Seg θ (p + 3) q} : (seq (p_cast yes hy dd) bb).1 (.inr (.inr (some a)) :: st) L s = yCast yes (s.1 a) a bb.1 st L s := by
  show bd (match s.1 a with
    | some (.inr x) => if yes.contains x.1 = true then some (.inl (.inr (.inr (some a)) :: st, L, s)) else none
    | _ => none) bb.1 = _
  unfold yCast
  rcases s.1 a with _ | (x | x)
  · rfl
  · rfl
  · dsimp only
    rw [bd_ite]
    split <;> rfl
theorem y_inst {idx : Nat} {yes no : List Nat} {hy : ∀ ci ∈ yes, ∃ q, CL[ci]? = some q ∧ KY θ.y.cls idx q.1} {hn : ∀ ci ∈ no, ∃ q, CL[ci]? = some q ∧ KN θ.y.cls idx q.1} {dd : decode θ.cc p = .ok (.instanceof idx, 3)} {bb : Seg θ (p + 3) q} : (seq (p_inst yes no hy hn dd) bb).1 (.inr (.inr (some a)) :: st) L s = yInst yes no (s.1 a) bb.1 st L s := by
  show bd (match s.1 a with
    | some (.inr x) => if yes.contains x.1 = true then some (.inl (.inl 1 :: st, L, s)) else if no.contains x.1 = true then some (.inl (.inl 0 :: st, L, s)) else none
    | _ => none) bb.1 = _
  unfold yInst
  rcases s.1 a with _ | (x | x)
  · rfl
  · rfl
  · dsimp only
    rw [bd_ite]
    split
    · rfl
    · rw [bd_ite]
      split <;> rfl
theorem y_getC {idx : Nat} {hd : 1 ≤ θ.d} {q1 : Cond.methodLink θ.y.cls idx mGC ∈ lw_all} {q2 : Cond.selects "[Ljava/lang/Object;" mGC mGC ∈ lw_all} {q3 : Cond.instanceMethod mGC ∈ lw_all} {q4 : Cond.native mGC ∈ lw_all} {dd : decode θ.cc p = .ok (.invokevirtual idx, 3)} {bb : Seg θ (p + 3) q} : (seq (p_getC hd q1 q2 q3 q4 dd) bb).1 (.inr (.inr (some a)) :: st) L s = yGetC (θ.δ.2.2 3) (s.1 a) bb.1 st L s := by
  show bd (match s.1 a with
    | some (.inl x) => if x.1 = 5 ∧ Nat.ble (wt st) 8 = true then some (.inl (.inr (.inr (some (θ.δ.2.2 3))) :: st, L, s)) else none
    | _ => none) bb.1 = _
  unfold yGetC
  rcases s.1 a with _ | (x | x)
  · rfl
  · dsimp only
    rw [bd_ite]
    split <;> rfl
  · rfl
theorem y_alenE {dd : decode θ.cc p = .ok (.arraylength, 1)} {bb : Seg θ (p + 1) q} : (seq (p_alenE dd) bb).1 (.inr (.inr (some a)) :: st) L s = yAlE (a = θ.δ.2.2 0) (s.1 a) bb.1 st L s := by
  show bd (if a = θ.δ.2.2 0 then some (.inl (.inl 0 :: st, L, s)) else (p_alen (θ := θ) dd).1 (.inr (.inr (some a)) :: st) L s) bb.1 = _
  unfold yAlE
  by_cases h : a = θ.δ.2.2 0
  · rw [if_pos h, if_pos h]; rfl
  · rw [if_neg h, if_neg h]
    exact y_alen
theorem yCast_o {yes : List Nat} {c : Nat} {f : Nat → V} (h : yes.contains c = true) : yCast yes (some (.inr (c, f))) a K st L s = K (.inr (.inr (some a)) :: st) L s := if_pos h
theorem yInst_1 {yes no : List Nat} {c : Nat} {f : Nat → V} (h : yes.contains c = true) : yInst yes no (some (.inr (c, f))) K st L s = K (.inl 1 :: st) L s := if_pos h
theorem yInst_0 {yes no : List Nat} {c : Nat} {f : Nat → V} (h : yes.contains c = false) (h2 : no.contains c = true) : yInst yes no (some (.inr (c, f))) K st L s = K (.inl 0 :: st) L s := by
  show (if yes.contains c = true then _ else if no.contains c = true then _ else none) = _
  rw [if_neg (by rw [h]; decide), if_pos h2]
theorem yGetC_o {b n : Nat} {f : Int → V} (h : Nat.ble (wt st) 8 = true) : yGetC b (some (.inl (5, n, f))) K st L s = K (.inr (.inr (some b)) :: st) L s := if_pos ⟨rfl, h⟩
theorem yAlE_t {e : Option En2} : yAlE True e K st L s = K (.inl 0 :: st) L s := if_pos trivial
theorem yAlE_f {e : Option En2} : yAlE False e K st L s = yLen e K st L s := if_neg id
theorem yAlE_n {b : Prop} {e : Option En2} (h : ¬ b) : yAlE b e K st L s = yLen e K st L s := if_neg h
end YF
/-! ===== ArrayList ===== -/
/-- a list at la: n things, the first of E, which lie in the array e of c places -/
def CL_ (w : Hp) (la e c : Nat) (E : Int → V) (n : Nat) : Prop := ∃ G, w la = some (.inr (16, G)) ∧ G 0 = .inl (n : Int) ∧ G 1 = .inr (.inr (some e)) ∧ G 2 = .inl (n : Int) ∧ w e = some (.inl (5, c, E)) ∧ n ≤ c ∧ c ≤ 100000
section CAL
variable {l : Launch} {δ : Dl} {w : Hp} {z m la e c n : Nat} {zz : Nat × Nat} {E : Int → V} {i : Int}
theorem c_size (h : CL_ w la e c E n) : (M_J2_size l δ).1 [.inr (.inr (some la))] (w, zz) = some (.inl (some (.inl (n : Int))), w, zz) := by
  obtain ⟨G, g1, -, g3, g4, g5, g6, g7⟩ := h
  rw [N_J2_size]; unfold B_J2_size
  simp (disch := first | rfl | exact okv_i | exact okv_o | exact okv_a | exact b_ft _ | (simp only [wt_c, wt_0, vc_i, vc_l, vc_r] <;> decide) | omega | exact i32_r _ | exact b2i_r _ | exact b2i_01 _ | exact zAnd_r _ _ | exact zOr_r _ _ | exact zXor_r _ _ | exact zShl_r _ _ | exact zShr_r _ _ | exact zByte_r _ | exact zcmp_r _ _ | decide) only [Bool.decide_eq_true, Bool.decide_eq_false, ↓if_pos, ↓if_neg, ↓reduceIte, Nat.reduceEqDiff, Int.reduceLE, Int.reduceLT, Int.reduceEq, Int.reduceNe, Nat.reduceBEq, Int.reduceAdd, Int.reduceMul, Int.reduceSub, Int.reduceNeg, Nat.reduceAdd, not_false_eq_true, not_true_eq_false, decide_true, decide_false, Bool.not_true, Bool.not_false, Bool.true_and, Bool.false_and, Bool.and_true, Bool.and_false, Bool.true_or, Bool.false_or, Bool.or_true, Bool.or_false, Bool.not_not, decide_not, Decidable.not_not, ite_not, b2i_t, b2i_f, ne_eq, Bool.not_eq_true, Bool.not_eq_false, decide_eq_true_eq, decide_eq_false_iff_not, Bool.false_eq_true, Bool.true_eq_false, reduceCtorEq, if_true, if_false, ite_self, ite_b0, ite_b1, ite_0b, ite_1b, ite_bb, x_done, x_blk, x_lp, x_er, erL_0, erL_t, erL_f, kl_n, kl_i, kl_r, kl_l, bd_i, bd_r, bk_i, bk_e, bk_n, bk_r, bd_ite, bk_ite, lk_i, lk_e, lk_n, lk_r, lk_ite, ite_nx, b2i_i, b2i_n, b2i_0, b2i_1, b2i_e, bres_r, bres_ite, mres_v, mres_n, sF_1, sF_2, sA_1, sA_2, zcmp_lt, zcmp_gt, zcmp_le, zcmp_ge, zcmp_eq, List.lookup_cons, List.lookup_nil, mresX_v, mresX_n, mresX_t, bd_t, bres_t, y_rO, y_dO, y_dA, yO_o, yO_n, dR_e, rOx_s, rOx_n, dAx_s, dAx_n, wup_s, wup_n, fup_s, fup_n, beq_self_eq_true, Nat.reduceBEq, Nat.reduceLT, Nat.reduceSub, x_aload_n0, y_get, yGet_o, yLk_s, x_ireturn, g1, g4]
theorem c_chk9 {j : Int} {s : St} {o : Option Nat} (hi : 0 ≤ i ∧ i < j) (hj : j ≤ 2147483647) : (M_J9_checkIndex l δ).1 [.inl i, .inl j, .inr (.inr o)] s = some (.inl (some (.inl i)), s) := by
  rw [N_J9_checkIndex]; unfold B_J9_checkIndex
  simp (disch := first | rfl | exact okv_i | exact okv_o | exact okv_a | exact b_ft _ | (simp only [wt_c, wt_0, vc_i, vc_l, vc_r] <;> decide) | omega | exact i32_r _ | exact b2i_r _ | exact b2i_01 _ | exact zAnd_r _ _ | exact zOr_r _ _ | exact zXor_r _ _ | exact zShl_r _ _ | exact zShr_r _ _ | exact zByte_r _ | exact zcmp_r _ _ | decide) only [Bool.decide_eq_true, Bool.decide_eq_false, ↓if_pos, ↓if_neg, ↓reduceIte, Nat.reduceEqDiff, Int.reduceLE, Int.reduceLT, Int.reduceEq, Int.reduceNe, Nat.reduceBEq, Int.reduceAdd, Int.reduceMul, Int.reduceSub, Int.reduceNeg, Nat.reduceAdd, not_false_eq_true, not_true_eq_false, decide_true, decide_false, Bool.not_true, Bool.not_false, Bool.true_and, Bool.false_and, Bool.and_true, Bool.and_false, Bool.true_or, Bool.false_or, Bool.or_true, Bool.or_false, Bool.not_not, decide_not, Decidable.not_not, ite_not, b2i_t, b2i_f, ne_eq, Bool.not_eq_true, Bool.not_eq_false, decide_eq_true_eq, decide_eq_false_iff_not, Bool.false_eq_true, Bool.true_eq_false, reduceCtorEq, if_true, if_false, ite_self, ite_b0, ite_b1, ite_0b, ite_1b, ite_bb, x_done, x_blk, x_lp, x_er, erL_0, erL_t, erL_f, kl_n, kl_i, kl_r, kl_l, bd_i, bd_r, bk_i, bk_e, bk_n, bk_r, bd_ite, bk_ite, lk_i, lk_e, lk_n, lk_r, lk_ite, ite_nx, b2i_i, b2i_n, b2i_0, b2i_1, b2i_e, bres_r, bres_ite, mres_v, mres_n, sF_1, sF_2, sA_1, sA_2, zcmp_lt, zcmp_gt, zcmp_le, zcmp_ge, zcmp_eq, List.lookup_cons, List.lookup_nil, mresX_v, mresX_n, mresX_t, bd_t, bres_t, y_rO, y_dO, y_dA, yO_o, yO_n, dR_e, rOx_s, rOx_n, dAx_s, dAx_n, wup_s, wup_n, fup_s, fup_n, beq_self_eq_true, Nat.reduceBEq, Nat.reduceLT, Nat.reduceSub, x_iload_n0, x_if_lt, x_iload_n1, x_icmp_lt, x_aload_n2, y_getC, yGetC_o, x_athrow, x_ireturn]
theorem c_chk8 {j : Int} {s : St} (hi : 0 ≤ i ∧ i < j) (hj : j ≤ 2147483647) : (M_J8_checkIndex l δ).1 [.inl i, .inl j] s = some (.inl (some (.inl i)), s) := by
  rw [N_J8_checkIndex]; unfold B_J8_checkIndex
  simp (disch := first | rfl | exact okv_i | exact okv_o | exact okv_a | exact b_ft _ | (simp only [wt_c, wt_0, vc_i, vc_l, vc_r] <;> decide) | omega | exact i32_r _ | exact b2i_r _ | exact b2i_01 _ | exact zAnd_r _ _ | exact zOr_r _ _ | exact zXor_r _ _ | exact zShl_r _ _ | exact zShr_r _ _ | exact zByte_r _ | exact zcmp_r _ _ | decide) only [Bool.decide_eq_true, Bool.decide_eq_false, ↓if_pos, ↓if_neg, ↓reduceIte, Nat.reduceEqDiff, Int.reduceLE, Int.reduceLT, Int.reduceEq, Int.reduceNe, Nat.reduceBEq, Int.reduceAdd, Int.reduceMul, Int.reduceSub, Int.reduceNeg, Nat.reduceAdd, not_false_eq_true, not_true_eq_false, decide_true, decide_false, Bool.not_true, Bool.not_false, Bool.true_and, Bool.false_and, Bool.and_true, Bool.and_false, Bool.true_or, Bool.false_or, Bool.or_true, Bool.or_false, Bool.not_not, decide_not, Decidable.not_not, ite_not, b2i_t, b2i_f, ne_eq, Bool.not_eq_true, Bool.not_eq_false, decide_eq_true_eq, decide_eq_false_iff_not, Bool.false_eq_true, Bool.true_eq_false, reduceCtorEq, if_true, if_false, ite_self, ite_b0, ite_b1, ite_0b, ite_1b, ite_bb, x_done, x_blk, x_lp, x_er, erL_0, erL_t, erL_f, kl_n, kl_i, kl_r, kl_l, bd_i, bd_r, bk_i, bk_e, bk_n, bk_r, bd_ite, bk_ite, lk_i, lk_e, lk_n, lk_r, lk_ite, ite_nx, b2i_i, b2i_n, b2i_0, b2i_1, b2i_e, bres_r, bres_ite, mres_v, mres_n, sF_1, sF_2, sA_1, sA_2, zcmp_lt, zcmp_gt, zcmp_le, zcmp_ge, zcmp_eq, List.lookup_cons, List.lookup_nil, mresX_v, mresX_n, mresX_t, bd_t, bres_t, y_rO, y_dO, y_dA, yO_o, yO_n, dR_e, rOx_s, rOx_n, dAx_s, dAx_n, wup_s, wup_n, fup_s, fup_n, beq_self_eq_true, Nat.reduceBEq, Nat.reduceLT, Nat.reduceSub, x_iload_n0, x_iload_n1, x_null, x_callG3, x_ireturn, c_chk9]
theorem c_get (h : CL_ w la e c E n) (hi : 0 ≤ i ∧ i < n) {o : Option Nat} (ho : E i = .inr (.inr o)) : (M_J2_get l δ).1 [.inr (.inr (some la)), .inl i] (w, zz) = some (.inl (some (.inr (.inr o))), w, zz) := by
  obtain ⟨G, g1, -, g3, g4, g5, g6, g7⟩ := h
  have e1 : (M_J2_elementData l δ).1 [.inr (.inr (some la)), .inl i] (w, zz) = some (.inl (some (.inr (.inr o))), w, zz) := by
    rw [N_J2_elementData]; unfold B_J2_elementData
    simp (disch := first | rfl | exact okv_i | exact okv_o | exact okv_a | exact b_ft _ | (simp only [wt_c, wt_0, vc_i, vc_l, vc_r] <;> decide) | omega | exact i32_r _ | exact b2i_r _ | exact b2i_01 _ | exact zAnd_r _ _ | exact zOr_r _ _ | exact zXor_r _ _ | exact zShl_r _ _ | exact zShr_r _ _ | exact zByte_r _ | exact zcmp_r _ _ | decide) only [Bool.decide_eq_true, Bool.decide_eq_false, ↓if_pos, ↓if_neg, ↓reduceIte, Nat.reduceEqDiff, Int.reduceLE, Int.reduceLT, Int.reduceEq, Int.reduceNe, Nat.reduceBEq, Int.reduceAdd, Int.reduceMul, Int.reduceSub, Int.reduceNeg, Nat.reduceAdd, not_false_eq_true, not_true_eq_false, decide_true, decide_false, Bool.not_true, Bool.not_false, Bool.true_and, Bool.false_and, Bool.and_true, Bool.and_false, Bool.true_or, Bool.false_or, Bool.or_true, Bool.or_false, Bool.not_not, decide_not, Decidable.not_not, ite_not, b2i_t, b2i_f, ne_eq, Bool.not_eq_true, Bool.not_eq_false, decide_eq_true_eq, decide_eq_false_iff_not, Bool.false_eq_true, Bool.true_eq_false, reduceCtorEq, if_true, if_false, ite_self, ite_b0, ite_b1, ite_0b, ite_1b, ite_bb, x_done, x_blk, x_lp, x_er, erL_0, erL_t, erL_f, kl_n, kl_i, kl_r, kl_l, bd_i, bd_r, bk_i, bk_e, bk_n, bk_r, bd_ite, bk_ite, lk_i, lk_e, lk_n, lk_r, lk_ite, ite_nx, b2i_i, b2i_n, b2i_0, b2i_1, b2i_e, bres_r, bres_ite, mres_v, mres_n, sF_1, sF_2, sA_1, sA_2, zcmp_lt, zcmp_gt, zcmp_le, zcmp_ge, zcmp_eq, List.lookup_cons, List.lookup_nil, mresX_v, mresX_n, mresX_t, bd_t, bres_t, y_rO, y_dO, y_dA, yO_o, yO_n, dR_e, rOx_s, rOx_n, dAx_s, dAx_n, wup_s, wup_n, fup_s, fup_n, beq_self_eq_true, Nat.reduceBEq, Nat.reduceLT, Nat.reduceSub, x_aload_n0, y_get, yGet_o, yLk_s, x_iload_n1, y_aald, yLd2_a, yLd2_b, x_areturn, g1, g3, g5, ho]
  rw [N_J2_get]; unfold B_J2_get
  simp (disch := first | rfl | exact okv_i | exact okv_o | exact okv_a | exact b_ft _ | (simp only [wt_c, wt_0, vc_i, vc_l, vc_r] <;> decide) | omega | exact i32_r _ | exact b2i_r _ | exact b2i_01 _ | exact zAnd_r _ _ | exact zOr_r _ _ | exact zXor_r _ _ | exact zShl_r _ _ | exact zShr_r _ _ | exact zByte_r _ | exact zcmp_r _ _ | decide) only [Bool.decide_eq_true, Bool.decide_eq_false, ↓if_pos, ↓if_neg, ↓reduceIte, Nat.reduceEqDiff, Int.reduceLE, Int.reduceLT, Int.reduceEq, Int.reduceNe, Nat.reduceBEq, Int.reduceAdd, Int.reduceMul, Int.reduceSub, Int.reduceNeg, Nat.reduceAdd, not_false_eq_true, not_true_eq_false, decide_true, decide_false, Bool.not_true, Bool.not_false, Bool.true_and, Bool.false_and, Bool.and_true, Bool.and_false, Bool.true_or, Bool.false_or, Bool.or_true, Bool.or_false, Bool.not_not, decide_not, Decidable.not_not, ite_not, b2i_t, b2i_f, ne_eq, Bool.not_eq_true, Bool.not_eq_false, decide_eq_true_eq, decide_eq_false_iff_not, Bool.false_eq_true, Bool.true_eq_false, reduceCtorEq, if_true, if_false, ite_self, ite_b0, ite_b1, ite_0b, ite_1b, ite_bb, x_done, x_blk, x_lp, x_er, erL_0, erL_t, erL_f, kl_n, kl_i, kl_r, kl_l, bd_i, bd_r, bk_i, bk_e, bk_n, bk_r, bd_ite, bk_ite, lk_i, lk_e, lk_n, lk_r, lk_ite, ite_nx, b2i_i, b2i_n, b2i_0, b2i_1, b2i_e, bres_r, bres_ite, mres_v, mres_n, sF_1, sF_2, sA_1, sA_2, zcmp_lt, zcmp_gt, zcmp_le, zcmp_ge, zcmp_eq, List.lookup_cons, List.lookup_nil, mresX_v, mresX_n, mresX_t, bd_t, bres_t, y_rO, y_dO, y_dA, yO_o, yO_n, dR_e, rOx_s, rOx_n, dAx_s, dAx_n, wup_s, wup_n, fup_s, fup_n, beq_self_eq_true, Nat.reduceBEq, Nat.reduceLT, Nat.reduceSub, x_iload_n1, x_aload_n0, y_get, yGet_o, yLk_s, x_callG2, x_pop, x_areturn, g1, g4, c_chk8, e1]
end CAL
