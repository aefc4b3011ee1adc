/-! ===== the component: World.take, whole ===== -/
set_option maxRecDepth 100000
/-- things up to i are taken -/
def tkA (A : Wd) (to : Int → Int) (B : Wd) : Nat → Wd
  | 0 => B
  | i + 1 => (B.1, iup (tkA A to B i).2.1 (to i) (A.2.1 i), tkB A to i (tkA A to B i).2.2 A.1.toNat)
theorem tkA_1 {A B : Wd} {to : Int → Int} : ∀ {i : Nat}, (tkA A to B i).1 = B.1
  | 0 => rfl
  | i + 1 => rfl
section CTK2
variable {l : Launch} {δ : Dl} {z : Nat × Nat} {r q t : Nat} {A B : Wd} {to : Int → Int}
theorem c_take {w : Hp} {T : Int → V} (hA : CW w q A) (hB : CW w r B) (hq : q ≠ r) (ht : t ≠ r + 2) (ht1 : t ≠ r + 1) (hT : w t = some (.inl (0, 6, T))) (hto : ∀ a, 0 ≤ a → a < 6 → T a = .inl (to a)) (hr : ∀ a, 0 ≤ a → a < A.1 → 0 ≤ to a ∧ to a < 6) (hn : 0 ≤ A.1 ∧ A.1 ≤ 6) : ∃ w', (M_X2_take l δ).1 [.inr (.inr (some r)), .inr (.inr (some q)), .inr (.inr (some t))] (w, z) = some (.inl none, w', z) ∧ CW w' r (tkA A to B A.1.toNat) ∧ ∀ x, x ≠ r + 1 → x ≠ r + 2 → w' x = w x := by
  have hq2 : (q ≠ r + 1 ∧ q + 1 ≠ r + 1 ∧ q + 2 ≠ r + 1) ∧ (q ≠ r + 2 ∧ q + 1 ≠ r + 2 ∧ q + 2 ≠ r + 2) := by
    have h3 := hA
    have h4 := hB
    obtain ⟨Fa, ma, ta, a1, a2, a3, a4, a5, a6, -⟩ := h3
    obtain ⟨Fb, mb, tb', b1, b2, b3, b4, b5, b6, -⟩ := h4
    refine ⟨⟨fun e => ?_, fun e => hq (by omega), fun e => ?_⟩, ⟨fun e => ?_, fun e => ?_, fun e => hq (by omega)⟩⟩
    · rw [← e, a1] at b5; cases b5
    · rw [← e, a6] at b5; cases b5
    · rw [← e, a1] at b6; cases b6
    · rw [← e, a5] at b6; cases b6
  have hl := lp_inv (h := 2) (e := 71) (D := (B_X2_take_L2 l δ).1) (N := A.1) (I := fun i L s => 0 ≤ i ∧ i ≤ A.1 ∧ ∃ w', L = [some (.inr (.inr (some r))), some (.inr (.inr (some q))), some (.inr (.inr (some t))), some (.inl i), none] ∧ s = (w', z) ∧ CW w' r (tkA A to B i.toNat) ∧ ∀ x, x ≠ r + 1 → x ≠ r + 2 → w' x = w x) (Q := fun L s => ∃ w', s = (w', z) ∧ CW w' r (tkA A to B A.1.toNat) ∧ ∀ x, x ≠ r + 1 → x ≠ r + 2 → w' x = w x) (by decide) ?_ ?_ 0 _ _ hn.1 ⟨Int.le_refl _, hn.1, w, rfl, rfl, hB, fun _ _ _ => rfl⟩
  · obtain ⟨L', s', h, w', rfl, h1, h2⟩ := hl
    refine ⟨w', ?_, h1, h2⟩
    rw [N_X2_take]; unfold B_X2_take
    simp (disch := first | rfl | exact okv_i | exact okv_o | exact okv_a | exact b_ft _ | (simp only [wt_c, wt_0, vc_i, vc_l, vc_r] <;> decide) | omega | exact i32_r _ | exact b2i_r _ | exact b2i_01 _ | exact zAnd_r _ _ | exact zOr_r _ _ | exact zXor_r _ _ | exact zShl_r _ _ | exact zShr_r _ _ | exact zByte_r _ | exact zcmp_r _ _ | decide) only [Bool.decide_eq_true, Bool.decide_eq_false, ↓if_pos, ↓if_neg, ↓reduceIte, Nat.reduceEqDiff, Int.reduceLE, Int.reduceLT, Int.reduceEq, Int.reduceNe, Nat.reduceBEq, Int.reduceAdd, Int.reduceMul, Int.reduceSub, Int.reduceNeg, Nat.reduceAdd, not_false_eq_true, not_true_eq_false, decide_true, decide_false, Bool.not_true, Bool.not_false, Bool.true_and, Bool.false_and, Bool.and_true, Bool.and_false, Bool.true_or, Bool.false_or, Bool.or_true, Bool.or_false, Bool.not_not, decide_not, Decidable.not_not, ite_not, b2i_t, b2i_f, ne_eq, Bool.not_eq_true, Bool.not_eq_false, decide_eq_true_eq, decide_eq_false_iff_not, Bool.false_eq_true, Bool.true_eq_false, reduceCtorEq, if_true, if_false, ite_self, ite_b0, ite_b1, ite_0b, ite_1b, ite_bb, x_done, x_blk, x_lp, x_er, erL_0, erL_t, erL_f, kl_n, kl_i, kl_r, kl_l, bd_i, bd_r, bk_i, bk_e, bk_n, bk_r, bd_ite, bk_ite, lk_i, lk_e, lk_n, lk_r, lk_ite, ite_nx, b2i_i, b2i_n, b2i_0, b2i_1, b2i_e, bres_r, bres_ite, mres_v, mres_n, sF_1, sF_2, sA_1, sA_2, zcmp_lt, zcmp_gt, zcmp_le, zcmp_ge, zcmp_eq, List.lookup_cons, List.lookup_nil, mresX_v, mresX_n, mresX_t, bd_t, bres_t, y_rO, y_dO, y_dA, yO_o, yO_n, dR_e, rOx_s, rOx_n, dAx_s, dAx_n, wup_s, wup_n, fup_s, fup_n, beq_self_eq_true, Nat.reduceBEq, Nat.reduceLT, Nat.reduceSub, x_iconst, x_istore_n3, x_iload_n3, x_aload_n1, y_get, yGet_o, yLk_s, x_icmp_ge, x_aload_n0, x_aload_n2, y_iald, yLd_a, y_iast, ySt_a, x_istore4, x_iload4, x_bipush, x_imul, x_iadd, x_callG3, y_bast, y_zast, x_iinc4, x_goto, x_iinc3, x_return, h]
  · rintro i L s hi ⟨h0, h1, w', rfl, rfl, hB', hF⟩
    have hA' : CW w' q A := hA.frame (hF _ hq2.1.1 hq2.2.1) (hF _ hq2.1.2.1 hq2.2.2.1) (hF _ hq2.1.2.2 hq2.2.2.2)
    have hA2 := hA'
    obtain ⟨Fa, ma, ta, a1, a2, a3, a4, a5, a6, a7, a8⟩ := hA'
    obtain ⟨Fb, mb, tb', b1, b2, b3, b4, b5, b6, b7, b8⟩ := hB'
    have e1 := hto i (by omega) (by omega)
    have r1 := hr i (by omega) (by omega)
    have e3 := a7 i (by omega) (by omega)
    have hT' := (hF t ht1 ht).trans hT
    have hB2 : CW (wup w' (r + 1) (.inl (0, 6, iup mb (to i) (.inl (A.2.1 i))))) r (B.1, iup (tkA A to B i.toNat).2.1 (to i) (A.2.1 i), (tkA A to B i.toNat).2.2) := by
      refine ⟨Fb, iup mb (to i) (.inl (A.2.1 i)), tb', ?_, b2.trans (by rw [tkA_1]), b3, b4, wup_s, ?_, fun x p1 p2 => ?_, b8⟩
      · rw [wup_n (by omega)]; exact b1
      · rw [wup_n (by omega)]; exact b6
      · show iup mb (to i) (.inl (A.2.1 i)) x = .inl (iup (tkA A to B i.toNat).2.1 (to i) (A.2.1 i) x)
        unfold iup
        by_cases e : x = to i
        · rw [if_pos e, if_pos e]
        · rw [if_neg e, if_neg e]; exact b7 x p1 p2
    have hA3 : CW (wup w' (r + 1) (.inl (0, 6, iup mb (to i) (.inl (A.2.1 i))))) q A := hA2.frame (wup_n hq2.1.1) (wup_n hq2.1.2.1) (wup_n hq2.1.2.2)
    obtain ⟨L2, s2, hl, w2, rfl, rfl, g1, g2⟩ := cl_take_b (l := l) (δ := δ) (z := z) (t := t) (T := T) (to := to) hA3 hB2 hq ht ((wup_n ht1).trans hT') hto hr hn (a := i) ⟨h0, hi⟩
    refine ⟨_, _, ⟨by omega, by omega, w2, rfl, rfl, ?_, fun x p1 p2 => by rw [g2 x p2, wup_n p1, hF x p1 p2]⟩, ?_⟩
    · rw [show (i + 1).toNat = i.toNat + 1 by omega]
      show CW w2 r (B.1, iup (tkA A to B i.toNat).2.1 (to (i.toNat : Nat)) (A.2.1 (i.toNat : Nat)), tkB A to (i.toNat : Nat) (tkA A to B i.toNat).2.2 A.1.toNat)
      rw [show ((i.toNat : Nat) : Int) = i by omega]
      exact g1
    · rw [L_X2_take_2]; unfold C_X2_take_L2
      simp (disch := first | rfl | exact okv_i | exact okv_o | exact okv_a | exact b_ft _ | (simp only [wt_c, wt_0, vc_i, vc_l, vc_r] <;> decide) | omega | exact i32_r _ | exact b2i_r _ | exact b2i_01 _ | exact zAnd_r _ _ | exact zOr_r _ _ | exact zXor_r _ _ | exact zShl_r _ _ | exact zShr_r _ _ | exact zByte_r _ | exact zcmp_r _ _ | decide) only [Bool.decide_eq_true, Bool.decide_eq_false, ↓if_pos, ↓if_neg, ↓reduceIte, Nat.reduceEqDiff, Int.reduceLE, Int.reduceLT, Int.reduceEq, Int.reduceNe, Nat.reduceBEq, Int.reduceAdd, Int.reduceMul, Int.reduceSub, Int.reduceNeg, Nat.reduceAdd, not_false_eq_true, not_true_eq_false, decide_true, decide_false, Bool.not_true, Bool.not_false, Bool.true_and, Bool.false_and, Bool.and_true, Bool.and_false, Bool.true_or, Bool.false_or, Bool.or_true, Bool.or_false, Bool.not_not, decide_not, Decidable.not_not, ite_not, b2i_t, b2i_f, ne_eq, Bool.not_eq_true, Bool.not_eq_false, decide_eq_true_eq, decide_eq_false_iff_not, Bool.false_eq_true, Bool.true_eq_false, reduceCtorEq, if_true, if_false, ite_self, ite_b0, ite_b1, ite_0b, ite_1b, ite_bb, x_done, x_blk, x_lp, x_er, erL_0, erL_t, erL_f, kl_n, kl_i, kl_r, kl_l, bd_i, bd_r, bk_i, bk_e, bk_n, bk_r, bd_ite, bk_ite, lk_i, lk_e, lk_n, lk_r, lk_ite, ite_nx, b2i_i, b2i_n, b2i_0, b2i_1, b2i_e, bres_r, bres_ite, mres_v, mres_n, sF_1, sF_2, sA_1, sA_2, zcmp_lt, zcmp_gt, zcmp_le, zcmp_ge, zcmp_eq, List.lookup_cons, List.lookup_nil, mresX_v, mresX_n, mresX_t, bd_t, bres_t, y_rO, y_dO, y_dA, yO_o, yO_n, dR_e, rOx_s, rOx_n, dAx_s, dAx_n, wup_s, wup_n, fup_s, fup_n, beq_self_eq_true, Nat.reduceBEq, Nat.reduceLT, Nat.reduceSub, x_iconst, x_istore_n3, x_iload_n3, x_aload_n1, y_get, yGet_o, yLk_s, x_icmp_ge, x_aload_n0, x_aload_n2, y_iald, yLd_a, y_iast, ySt_a, x_istore4, x_iload4, x_bipush, x_imul, x_iadd, x_callG3, y_bast, y_zast, x_iinc4, x_goto, x_iinc3, x_return, a1, a2, a3, a4, a5, a6, b1, b2, b3, b4, b5, b6, hT', e1, e3, hl]
  · rintro L s ⟨h0, h1, w', rfl, rfl, hB', hF⟩
    have hA' : CW w' q A := hA.frame (hF _ hq2.1.1 hq2.2.1) (hF _ hq2.1.2.1 hq2.2.2.1) (hF _ hq2.1.2.2 hq2.2.2.2)
    obtain ⟨Fa, ma, ta, a1, a2, -⟩ := hA'
    refine ⟨[some (.inr (.inr (some r))), some (.inr (.inr (some q))), some (.inr (.inr (some t))), some (.inl A.1), none], (w', z), ?_, w', rfl, hB', hF⟩
    rw [L_X2_take_2]; unfold C_X2_take_L2
    simp (disch := first | rfl | exact okv_i | exact okv_o | exact okv_a | exact b_ft _ | (simp only [wt_c, wt_0, vc_i, vc_l, vc_r] <;> decide) | omega | exact i32_r _ | exact b2i_r _ | exact b2i_01 _ | exact zAnd_r _ _ | exact zOr_r _ _ | exact zXor_r _ _ | exact zShl_r _ _ | exact zShr_r _ _ | exact zByte_r _ | exact zcmp_r _ _ | decide) only [Bool.decide_eq_true, Bool.decide_eq_false, ↓if_pos, ↓if_neg, ↓reduceIte, Nat.reduceEqDiff, Int.reduceLE, Int.reduceLT, Int.reduceEq, Int.reduceNe, Nat.reduceBEq, Int.reduceAdd, Int.reduceMul, Int.reduceSub, Int.reduceNeg, Nat.reduceAdd, not_false_eq_true, not_true_eq_false, decide_true, decide_false, Bool.not_true, Bool.not_false, Bool.true_and, Bool.false_and, Bool.and_true, Bool.and_false, Bool.true_or, Bool.false_or, Bool.or_true, Bool.or_false, Bool.not_not, decide_not, Decidable.not_not, ite_not, b2i_t, b2i_f, ne_eq, Bool.not_eq_true, Bool.not_eq_false, decide_eq_true_eq, decide_eq_false_iff_not, Bool.false_eq_true, Bool.true_eq_false, reduceCtorEq, if_true, if_false, ite_self, ite_b0, ite_b1, ite_0b, ite_1b, ite_bb, x_done, x_blk, x_lp, x_er, erL_0, erL_t, erL_f, kl_n, kl_i, kl_r, kl_l, bd_i, bd_r, bk_i, bk_e, bk_n, bk_r, bd_ite, bk_ite, lk_i, lk_e, lk_n, lk_r, lk_ite, ite_nx, b2i_i, b2i_n, b2i_0, b2i_1, b2i_e, bres_r, bres_ite, mres_v, mres_n, sF_1, sF_2, sA_1, sA_2, zcmp_lt, zcmp_gt, zcmp_le, zcmp_ge, zcmp_eq, List.lookup_cons, List.lookup_nil, mresX_v, mresX_n, mresX_t, bd_t, bres_t, y_rO, y_dO, y_dA, yO_o, yO_n, dR_e, rOx_s, rOx_n, dAx_s, dAx_n, wup_s, wup_n, fup_s, fup_n, beq_self_eq_true, Nat.reduceBEq, Nat.reduceLT, Nat.reduceSub, x_iconst, x_istore_n3, x_iload_n3, x_aload_n1, y_get, yGet_o, yLk_s, x_icmp_ge, x_aload_n0, x_aload_n2, y_iald, yLd_a, y_iast, ySt_a, x_istore4, x_iload4, x_bipush, x_imul, x_iadd, x_callG3, y_bast, y_zast, x_iinc4, x_goto, x_iinc3, x_return, a1, a2]
end CTK2
