/-! ===== the component: copyOf, whole ===== -/
set_option maxRecDepth 100000
theorem CW.congr {w : Hp} {r : Nat} {A B : Wd} (h : CW w r A) (h0 : A.1 = B.1) (h1 : ∀ a, 0 ≤ a → a < 6 → A.2.1 a = B.2.1 a) (h2 : ∀ a b, 0 ≤ a → a < 6 → 0 ≤ b → b < 6 → A.2.2 a b = B.2.2 a b) : CW w r B := by
  obtain ⟨f, mk, ti, c1, c2, c3, c4, c5, c6, c7, c8⟩ := h
  exact ⟨f, mk, ti, c1, by rw [← h0]; exact c2, c3, c4, c5, c6, fun a p1 p2 => by rw [← h1 a p1 p2]; exact c7 a p1 p2, fun a b p1 p2 p3 p4 => by rw [← h2 a b p1 p2 p3 p4]; exact c8 a b p1 p2 p3 p4⟩
/-- a world cut: no mark, no tie outside -/
def cutB (A : Wd) : Wd := (A.1, fun a => if a < A.1 then A.2.1 a else 0, fun a b => if a < A.1 ∧ b < A.1 then A.2.2 a b else false)
theorem c_copyOf {l : Launch} {δ : Dl} {w : Hp} {z m q : Nat} {A : Wd} (hA : CW w q A) (hq : q + 2 < z) (hn : 0 ≤ A.1 ∧ A.1 ≤ 6) : ∃ w', (M_X0_copyOf l δ).1 [.inr (.inr (some q))] (w, z, m) = some (.inl (some (.inr (.inr (some (z + 1))))), w', z + 4, m + 51) ∧ CW w' (z + 1) (cutB A) ∧ ∀ a, a < z → w' a = w a := by
  obtain ⟨L', s', hl, w1, T, rfl, rfl, t1, t2, t3⟩ := cl_copyOf (l := l) (δ := δ) (w := wup w z (.inl (0, 6, fun _ => .inl 0))) (zz := (z + 1, m + 6)) (t := z) wup_s (v1 := some q)
  obtain ⟨w2, i1, i2, i3⟩ := c_wInit (l := l) (δ := δ) (w := wup w1 (z + 1) (.inr (2, f0_2))) (m := m + 9) (r := z + 1) (n := A.1) wup_s
  have f2 : ∀ a, a < z + 1 → w2 a = w1 a := fun a h => by rw [i3 a (by omega) (by omega) (by omega), wup_n (by omega)]
  have f1 : ∀ a, a < z → w1 a = w a := fun a h => by rw [t3 a (by omega), wup_n (by omega)]
  have hA1 : CW w1 q A := hA.frame (f1 _ (by omega)) (f1 _ (by omega)) (f1 _ (by omega))
  have hA2 : CW w2 q A := hA1.frame (f2 _ (by omega)) (f2 _ (by omega)) (f2 _ (by omega))
  obtain ⟨w3, k1, k2, k3⟩ := c_take (l := l) (δ := δ) (z := (z + 4, m + 51)) (q := q) (r := z + 1) (t := z) (T := T) (to := fun a => a) hA2 i2 (by omega) (by omega) (by omega) ((f2 z (by omega)).trans t1) t2 (fun a p1 p2 => ⟨p1, by omega⟩) hn
  have hj : Inj (fun a => a) A.1 := fun i j _ _ _ _ e => e
  obtain ⟨m1, m2⟩ := tkA_mk (B := (A.1, fun _ => 0, fun _ _ => false)) hj A.1.toNat (by omega)
  obtain ⟨n1, n2⟩ := tkA_ti (B := (A.1, fun _ => 0, fun _ _ => false)) hn.1 hj A.1.toNat (by omega)
  refine ⟨w3, ?_, k2.congr tkA_1 (fun a p1 p2 => ?_) (fun a b p1 p2 p3 p4 => ?_), fun a h => by rw [k3 a (by omega) (by omega), f2 a (by omega), f1 a h]⟩
  · have hA3 := hA1
    obtain ⟨Fa, ma, ta, a1, a2, -⟩ := hA3
    have i2' := i2
    obtain ⟨Fb, mb, tb', b1, -⟩ := i2'
    rw [N_X0_copyOf]; unfold B_X0_copyOf
    simp (disch := first | rfl | exact okv_i | exact okv_o | exact okv_a | exact b_ft _ | (simp only [wt_c, wt_0, vc_i, vc_l, vc_r] <;> decide) | omega | exact i32_r _ | exact b2i_r _ | exact b2i_01 _ | exact zAnd_r _ _ | exact zOr_r _ _ | exact zXor_r _ _ | exact zShl_r _ _ | exact zShr_r _ _ | exact zByte_r _ | exact zcmp_r _ _ | decide) only [Bool.decide_eq_true, Bool.decide_eq_false, ↓if_pos, ↓if_neg, ↓reduceIte, Nat.reduceEqDiff, Int.reduceLE, Int.reduceLT, Int.reduceEq, Int.reduceNe, Nat.reduceBEq, Int.reduceAdd, Int.reduceMul, Int.reduceSub, Int.reduceNeg, Nat.reduceAdd, not_false_eq_true, not_true_eq_false, decide_true, decide_false, Bool.not_true, Bool.not_false, Bool.true_and, Bool.false_and, Bool.and_true, Bool.and_false, Bool.true_or, Bool.false_or, Bool.or_true, Bool.or_false, Bool.not_not, decide_not, Decidable.not_not, ite_not, b2i_t, b2i_f, ne_eq, Bool.not_eq_true, Bool.not_eq_false, decide_eq_true_eq, decide_eq_false_iff_not, Bool.false_eq_true, Bool.true_eq_false, reduceCtorEq, if_true, if_false, ite_self, ite_b0, ite_b1, ite_0b, ite_1b, ite_bb, x_done, x_blk, x_lp, x_er, erL_0, erL_t, erL_f, kl_n, kl_i, kl_r, kl_l, bd_i, bd_r, bk_i, bk_e, bk_n, bk_r, bd_ite, bk_ite, lk_i, lk_e, lk_n, lk_r, lk_ite, ite_nx, b2i_i, b2i_n, b2i_0, b2i_1, b2i_e, bres_r, bres_ite, mres_v, mres_n, sF_1, sF_2, sA_1, sA_2, zcmp_lt, zcmp_gt, zcmp_le, zcmp_ge, zcmp_eq, List.lookup_cons, List.lookup_nil, mresX_v, mresX_n, mresX_t, bd_t, bres_t, y_rO, y_dO, y_dA, yO_o, yO_n, dR_e, rOx_s, rOx_n, dAx_s, dAx_n, wup_s, wup_n, fup_s, fup_n, beq_self_eq_true, Nat.reduceBEq, Nat.reduceLT, Nat.reduceSub, x_bipush, y_newa0, y_newa1, y_newa2, y_newa3, Int.reduceToNat, x_astore_n1, x_iconst, x_istore_n2, x_iload_n2, x_icmp_ge, x_aload_n1, y_iast, ySt_a, x_iinc2, x_goto, x_new, x_dup, x_aload_n0, y_get, yGet_o, yLk_s, x_callG2, x_astore_n2, x_aload_n2, x_callG3, x_areturn, hl, a1, a2, b1, i1, k1]
  · show _ = if a < A.1 then A.2.1 a else 0
    by_cases e : a < A.1
    · rw [if_pos e]; exact m1 a p1 (by omega)
    · rw [if_neg e]; exact m2 a fun i h1 h2 => by omega
  · show _ = if a < A.1 ∧ b < A.1 then A.2.2 a b else false
    by_cases e : a < A.1 ∧ b < A.1
    · rw [if_pos e]; exact n1 a b p1 (by omega) p3 e.2
    · rw [if_neg e]
      refine n2 a b ?_
      by_cases e2 : a < A.1
      · exact Or.inr fun j h1 h2 => by omega
      · exact Or.inl fun i h1 h2 => by omega
