/-! ===== formulas as objects: holds ===== -/
set_option maxRecDepth 100000
/-- an Asking at qa: the world A at wr, variables at ta -/
def AS (w : Hp) (qa ta wr : Nat) (A : Wd) (s : ES) : Prop := ∃ (F : Nat → V) (T : Int → V), w qa = some (.inr (12, F)) ∧ F 0 = .inr (.inr (some wr)) ∧ F 1 = .inr (.inr (some ta)) ∧ F 2 = .inl s.2 ∧ w ta = some (.inl (0, 9, T)) ∧ (∀ m, 0 ≤ m → m < 9 → T m = .inl (s.1 m)) ∧ CW w wr A
/-- what an answer is: it, or too much was asked -/
def HRs (w : Hp) (z m qa ta wr : Nat) (A : Wd) (x : Option (Rs × St)) (o : Option (Bool × ES)) : Prop := match o with
  | some y => ∃ w', x = some (.inl (some (.inl (b2i y.1))), w', z, m) ∧ AS w' qa ta wr A y.2 ∧ ∀ a, a ≠ qa → a ≠ ta → w' a = w a
  | none => ∃ w' F, x = some (.inr z, w', z + 1, m + 6) ∧ w' z = some (.inr (13, F)) ∧ ∀ a, a < z → a ≠ qa → a ≠ ta → w' a = w a
noncomputable def holM (l : Launch) (δ : Dl) (N : Nat) (ci : Nat) : MDen := match ci with
  | 5 => (R_hol l δ N).2.1.1
  | 7 => (R_hol l δ N).2.2.1.1
  | 8 => (R_hol l δ N).2.2.2.1.1
  | _ => (R_hol l δ N).2.2.2.2.1
theorem AS.in {w w' : Hp} {qa ta wr : Nat} {A : Wd} {s : ES} (h : AS w qa ta wr A s) (hk : ∀ a, a ≠ qa → a ≠ ta → w' a = w a) : CW w' wr A := by
  obtain ⟨F, T, h1, h2, h3, h4, h5, h6, h7⟩ := h
  refine h7.keep2 (x := qa) (y := ta) (by rw [h1]; simp [nCW]) (by rw [h5]; simp [nCW]) hk
section CHO
variable {l : Launch} {δ : Dl} {Z : Nat → Prop} {qa ta wr : Nat} {A : Wd}
/-- a call of asks out of what the formula itself answers -/
theorem c_asks {w : Hp} {z m r : Nat} {s : ES} {K : ES → Option (Bool × ES)} {M : Nat} (hA : AS w qa ta wr A s) (hs : 0 ≤ s.2 ∧ s.2 ≤ 100000) (hz : qa < z ∧ ta < z) (hr : r ≠ qa) (hci : ∃ ci F, w r = some (.inr (ci, F)) ∧ (ci = 5 ∨ ci = 7 ∨ ci = 8 ∨ ci = 9) ∧ (s.2 + 1 ≤ 100000 → ∀ w', AS w' qa ta wr A (s.1, s.2 + 1) → (∀ a, a ≠ qa → a ≠ ta → w' a = w a) → HRs w' z m qa ta wr A (holM l δ M ci [.inr (.inr (some r)), .inr (.inr (some qa))] (w', z, m)) (K (s.1, s.2 + 1)))) : HRs w z m qa ta wr A ((R_hol l δ (M + 1)).1.1 [.inr (.inr (some qa)), .inr (.inr (some r))] (w, z, m)) (askF K s) := by
  obtain ⟨ci, G, r1, hc, hh⟩ := hci
  have hA0 := hA
  obtain ⟨F, T, h1, h2, h3, h4, h5, h6, h7⟩ := hA
  have nt : qa ≠ ta := fun h => by rw [h, h5] at h1; cases h1
  have hA1 : AS (wup w qa (.inr (12, fup F 2 (.inl (s.2 + 1))))) qa ta wr A (s.1, s.2 + 1) := ⟨_, T, wup_s, h2, h3, rfl, by rw [wup_n (Ne.symm nt)]; exact h5, h6, hA0.in fun a p1 _ => wup_n p1⟩
  unfold askF
  by_cases ht : 100000 < s.2 + 1
  · rw [if_pos ht]
    obtain ⟨w2, F2, e1, e2, e3⟩ := c_tooMuch (l := l) (δ := δ) (w := wup (wup w qa (.inr (12, fup F 2 (.inl (s.2 + 1))))) z (.inr (13, f0_13))) (x := z) (zz := (z + 1, m + 6)) wup_s
    refine ⟨w2, F2, ?_, e2, fun a p1 p2 p3 => by rw [e3 a (by omega), wup_n (by omega), wup_n p2]⟩
    rw [N_X13_asks]; unfold B_X13_asks
    simp (disch := first | rfl | exact okv_i | exact okv_o | exact okv_a | exact b_ft _ | (simp only [wt_c, wt_0, vc_i, vc_l, vc_r] <;> decide) | omega | exact i32_r _ | exact b2i_r _ | exact b2i_01 _ | exact zAnd_r _ _ | exact zOr_r _ _ | exact zXor_r _ _ | exact zShl_r _ _ | exact zShr_r _ _ | exact zByte_r _ | exact zcmp_r _ _ | decide) only [Bool.decide_eq_true, Bool.decide_eq_false, ↓if_pos, ↓if_neg, ↓reduceIte, Nat.reduceEqDiff, Int.reduceLE, Int.reduceLT, Int.reduceEq, Int.reduceNe, Nat.reduceBEq, Int.reduceAdd, Int.reduceMul, Int.reduceSub, Int.reduceNeg, Nat.reduceAdd, not_false_eq_true, not_true_eq_false, decide_true, decide_false, Bool.not_true, Bool.not_false, Bool.true_and, Bool.false_and, Bool.and_true, Bool.and_false, Bool.true_or, Bool.false_or, Bool.or_true, Bool.or_false, Bool.not_not, decide_not, Decidable.not_not, ite_not, b2i_t, b2i_f, ne_eq, Bool.not_eq_true, Bool.not_eq_false, decide_eq_true_eq, decide_eq_false_iff_not, Bool.false_eq_true, Bool.true_eq_false, reduceCtorEq, if_true, if_false, ite_self, ite_b0, ite_b1, ite_0b, ite_1b, ite_bb, x_done, x_blk, x_lp, x_er, erL_0, erL_t, erL_f, kl_n, kl_i, kl_r, kl_l, bd_i, bd_r, bk_i, bk_e, bk_n, bk_r, bd_ite, bk_ite, lk_i, lk_e, lk_n, lk_r, lk_ite, ite_nx, b2i_i, b2i_n, b2i_0, b2i_1, b2i_e, bres_r, bres_ite, mres_v, mres_n, sF_1, sF_2, sA_1, sA_2, zcmp_lt, zcmp_gt, zcmp_le, zcmp_ge, zcmp_eq, List.lookup_cons, List.lookup_nil, mresX_v, mresX_n, mresX_t, bd_t, bres_t, y_rO, y_dO, y_dA, yO_o, yO_n, dR_e, rOx_s, rOx_n, dAx_s, dAx_n, wup_s, wup_n, fup_s, fup_n, beq_self_eq_true, Nat.reduceBEq, Nat.reduceLT, Nat.reduceSub, x_aload_n0, x_dup, y_get, yGet_o, yLk_s, x_iconst, x_iadd, y_put, y_putF, yPut_o, yPk_s, x_ldc, x_ldcS, x_ldcM, x_icmp_le, x_new, x_callG1, x_athrow, x_aload_n1, x_callG2, x_zreturn, h1, h2, h3, h4, e1]
  · rw [if_neg ht]
    have hk := hh (by omega) _ hA1 (fun a p1 _ => wup_n p1)
    cases ho : K (s.1, s.2 + 1) with
    | none =>
      rw [ho] at hk
      obtain ⟨w', F', k1, k2, k3⟩ := hk
      refine ⟨w', F', ?_, k2, fun a p1 p2 p3 => by rw [k3 a p1 p2 p3, wup_n p2]⟩
      rw [N_X13_asks]; unfold B_X13_asks
      rcases hc with rfl | rfl | rfl | rfl <;> (simp only [holM] at k1; simp (disch := first | rfl | exact okv_i | exact okv_o | exact okv_a | exact b_ft _ | (simp only [wt_c, wt_0, vc_i, vc_l, vc_r] <;> decide) | omega | exact i32_r _ | exact b2i_r _ | exact b2i_01 _ | exact zAnd_r _ _ | exact zOr_r _ _ | exact zXor_r _ _ | exact zShl_r _ _ | exact zShr_r _ _ | exact zByte_r _ | exact zcmp_r _ _ | decide) only [Bool.decide_eq_true, Bool.decide_eq_false, ↓if_pos, ↓if_neg, ↓reduceIte, Nat.reduceEqDiff, Int.reduceLE, Int.reduceLT, Int.reduceEq, Int.reduceNe, Nat.reduceBEq, Int.reduceAdd, Int.reduceMul, Int.reduceSub, Int.reduceNeg, Nat.reduceAdd, not_false_eq_true, not_true_eq_false, decide_true, decide_false, Bool.not_true, Bool.not_false, Bool.true_and, Bool.false_and, Bool.and_true, Bool.and_false, Bool.true_or, Bool.false_or, Bool.or_true, Bool.or_false, Bool.not_not, decide_not, Decidable.not_not, ite_not, b2i_t, b2i_f, ne_eq, Bool.not_eq_true, Bool.not_eq_false, decide_eq_true_eq, decide_eq_false_iff_not, Bool.false_eq_true, Bool.true_eq_false, reduceCtorEq, if_true, if_false, ite_self, ite_b0, ite_b1, ite_0b, ite_1b, ite_bb, x_done, x_blk, x_lp, x_er, erL_0, erL_t, erL_f, kl_n, kl_i, kl_r, kl_l, bd_i, bd_r, bk_i, bk_e, bk_n, bk_r, bd_ite, bk_ite, lk_i, lk_e, lk_n, lk_r, lk_ite, ite_nx, b2i_i, b2i_n, b2i_0, b2i_1, b2i_e, bres_r, bres_ite, mres_v, mres_n, sF_1, sF_2, sA_1, sA_2, zcmp_lt, zcmp_gt, zcmp_le, zcmp_ge, zcmp_eq, List.lookup_cons, List.lookup_nil, mresX_v, mresX_n, mresX_t, bd_t, bres_t, y_rO, y_dO, y_dA, yO_o, yO_n, dR_e, rOx_s, rOx_n, dAx_s, dAx_n, wup_s, wup_n, fup_s, fup_n, beq_self_eq_true, Nat.reduceBEq, Nat.reduceLT, Nat.reduceSub, x_aload_n0, x_dup, y_get, yGet_o, yLk_s, x_iconst, x_iadd, y_put, y_putF, yPut_o, yPk_s, x_ldc, x_ldcS, x_ldcM, x_icmp_le, x_new, x_callG1, x_athrow, x_aload_n1, x_callG2, x_zreturn, h1, h2, h3, h4, r1, k1])
    | some y =>
      rw [ho] at hk
      obtain ⟨w', k1, k2, k3⟩ := hk
      refine ⟨w', ?_, k2, fun a p2 p3 => by rw [k3 a p2 p3, wup_n p2]⟩
      rw [N_X13_asks]; unfold B_X13_asks
      rcases hc with rfl | rfl | rfl | rfl <;> (simp only [holM] at k1; simp (disch := first | rfl | exact okv_i | exact okv_o | exact okv_a | exact b_ft _ | (simp only [wt_c, wt_0, vc_i, vc_l, vc_r] <;> decide) | omega | exact i32_r _ | exact b2i_r _ | exact b2i_01 _ | exact zAnd_r _ _ | exact zOr_r _ _ | exact zXor_r _ _ | exact zShl_r _ _ | exact zShr_r _ _ | exact zByte_r _ | exact zcmp_r _ _ | decide) only [Bool.decide_eq_true, Bool.decide_eq_false, ↓if_pos, ↓if_neg, ↓reduceIte, Nat.reduceEqDiff, Int.reduceLE, Int.reduceLT, Int.reduceEq, Int.reduceNe, Nat.reduceBEq, Int.reduceAdd, Int.reduceMul, Int.reduceSub, Int.reduceNeg, Nat.reduceAdd, not_false_eq_true, not_true_eq_false, decide_true, decide_false, Bool.not_true, Bool.not_false, Bool.true_and, Bool.false_and, Bool.and_true, Bool.and_false, Bool.true_or, Bool.false_or, Bool.or_true, Bool.or_false, Bool.not_not, decide_not, Decidable.not_not, ite_not, b2i_t, b2i_f, ne_eq, Bool.not_eq_true, Bool.not_eq_false, decide_eq_true_eq, decide_eq_false_iff_not, Bool.false_eq_true, Bool.true_eq_false, reduceCtorEq, if_true, if_false, ite_self, ite_b0, ite_b1, ite_0b, ite_1b, ite_bb, x_done, x_blk, x_lp, x_er, erL_0, erL_t, erL_f, kl_n, kl_i, kl_r, kl_l, bd_i, bd_r, bk_i, bk_e, bk_n, bk_r, bd_ite, bk_ite, lk_i, lk_e, lk_n, lk_r, lk_ite, ite_nx, b2i_i, b2i_n, b2i_0, b2i_1, b2i_e, bres_r, bres_ite, mres_v, mres_n, sF_1, sF_2, sA_1, sA_2, zcmp_lt, zcmp_gt, zcmp_le, zcmp_ge, zcmp_eq, List.lookup_cons, List.lookup_nil, mresX_v, mresX_n, mresX_t, bd_t, bres_t, y_rO, y_dO, y_dA, yO_o, yO_n, dR_e, rOx_s, rOx_n, dAx_s, dAx_n, wup_s, wup_n, fup_s, fup_n, beq_self_eq_true, Nat.reduceBEq, Nat.reduceLT, Nat.reduceSub, x_aload_n0, x_dup, y_get, yGet_o, yLk_s, x_iconst, x_iadd, y_put, y_putF, yPut_o, yPk_s, x_ldc, x_ldcS, x_ldcM, x_icmp_le, x_new, x_callG1, x_athrow, x_aload_n1, x_callG2, x_zreturn, h1, h2, h3, h4, r1, k1])
end CHO
