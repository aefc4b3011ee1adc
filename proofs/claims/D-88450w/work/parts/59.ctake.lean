/-! ===== the component: World.take ===== -/
set_option maxRecDepth 100000
def tiU (ti : Int → Int → Bool) (x y : Int) (v : Bool) : Int → Int → Bool := fun p q => if p = x ∧ q = y then v else ti p q
/-- the ties of thing a are taken, up to i -/
def tkB (A : Wd) (to : Int → Int) (a : Int) (ti : Int → Int → Bool) : Nat → Int → Int → Bool
  | 0 => ti
  | i + 1 => tiU (tkB A to a ti i) (to a) (to i) (A.2.2 a i)
section CTK
variable {l : Launch} {δ : Dl} {z : Nat × Nat} {r q t : Nat} {A B : Wd} {to : Int → Int}
theorem cl_take_b {w : Hp} {T : Int → V} (hA : CW w q A) (hB : CW w r B) (hq : q ≠ r) (ht : t ≠ r + 2) (hT : w t = some (.inl (0, 6, T))) (hto : ∀ a, 0 ≤ a → a < 6 → T a = .inl (to a)) (hr : ∀ a, 0 ≤ a → a < A.1 → 0 ≤ to a ∧ to a < 6) (hn : 0 ≤ A.1 ∧ A.1 ≤ 6) {a : Int} (ha : 0 ≤ a ∧ a < A.1) : ∃ (L' : Lc) (s' : St), lpD 27 (B_X2_take_L27 l δ).1 [] [some (.inr (.inr (some r))), some (.inr (.inr (some q))), some (.inr (.inr (some t))), some (.inl a), some (.inl 0)] (w, z) = some (.inr (.inl (65, [], L', s'))) ∧ ∃ w', L' = [some (.inr (.inr (some r))), some (.inr (.inr (some q))), some (.inr (.inr (some t))), some (.inl a), some (.inl A.1)] ∧ s' = (w', z) ∧ CW w' r (B.1, B.2.1, tkB A to a B.2.2 A.1.toNat) ∧ ∀ x, x ≠ r + 2 → w' x = w x := by
  refine lp_inv (h := 27) (e := 65) (D := (B_X2_take_L27 l δ).1) (N := A.1) (I := fun i L s => 0 ≤ i ∧ i ≤ A.1 ∧ ∃ w', L = [some (.inr (.inr (some r))), some (.inr (.inr (some q))), some (.inr (.inr (some t))), some (.inl a), some (.inl i)] ∧ s = (w', z) ∧ CW w' r (B.1, B.2.1, tkB A to a B.2.2 i.toNat) ∧ ∀ x, x ≠ r + 2 → w' x = w x) (by decide) ?_ ?_ 0 _ _ hn.1 ⟨Int.le_refl _, hn.1, w, rfl, rfl, hB, fun _ _ => rfl⟩
  · rintro i L s hi ⟨h0, h1, w', rfl, rfl, hB', hF⟩
    have hq2 : q ≠ r + 2 ∧ q + 1 ≠ r + 2 ∧ q + 2 ≠ r + 2 := by
      have h3 := hA
      obtain ⟨Fa, ma, ta, a1, a2, a3, a4, a5, a6, -⟩ := h3
      obtain ⟨Fb, mb, tb', b1, b2, b3, b4, b5, b6, -⟩ := hB
      refine ⟨fun e => ?_, fun e => ?_, fun e => hq (by omega)⟩
      · rw [← e, a1] at b6; cases b6
      · rw [← e, a5] at b6; cases b6
    have hA' : CW w' q A := hA.frame (hF _ hq2.1) (hF _ hq2.2.1) (hF _ hq2.2.2)
    have hA2 := hA'
    obtain ⟨Fa, ma, ta, a1, a2, a3, a4, a5, a6, a7, a8⟩ := hA'
    obtain ⟨Fb, mb, tb', b1, b2, b3, b4, b5, b6, b7, b8⟩ := hB'
    have e1 := hto a (by omega) (by omega)
    have e2 := hto i (by omega) (by omega)
    have r1 := hr a (by omega) (by omega)
    have r2 := hr i (by omega) (by omega)
    have hT' := (hF t ht).trans hT
    refine ⟨_, _, ⟨by omega, by omega, wup w' (r + 2) (.inl (2, 36, iup tb' (6 * to a + to i) (.inl (b2i (A.2.2 a i))))), rfl, rfl, ⟨Fb, mb, iup tb' (6 * to a + to i) (.inl (b2i (A.2.2 a i))), ?_, b2, b3, b4, ?_, wup_s, b7, ?_⟩, fun x hx => by rw [wup_n hx, hF x hx]⟩, ?_⟩
    · rw [wup_n (by omega)]; exact b1
    · rw [wup_n (by omega)]; exact b5
    · intro x y h2 h3 h4 h5
      rw [show (i + 1).toNat = i.toNat + 1 by omega]
      show iup tb' (6 * to a + to i) (.inl (b2i (A.2.2 a i))) (6 * x + y) = .inl (b2i (tiU (tkB A to a B.2.2 i.toNat) (to a) (to (i.toNat : Nat)) (A.2.2 a (i.toNat : Nat)) x y))
      rw [show ((i.toNat : Nat) : Int) = i by omega]
      unfold iup tiU
      by_cases e : 6 * x + y = 6 * to a + to i
      · rw [if_pos e, if_pos (by omega)]
      · rw [if_neg e, if_neg (by omega)]
        exact b8 x y h2 h3 h4 h5
    · rw [L_X2_take_27]; unfold C_X2_take_L27
      simp (disch := first | rfl | exact okv_i | exact okv_o | exact okv_a | exact b_ft _ | (simp only [wt_c, wt_0, vc_i, vc_l, vc_r] <;> decide) | omega | exact i32_r _ | exact b2i_r _ | exact b2i_01 _ | exact zAnd_r _ _ | exact zOr_r _ _ | exact zXor_r _ _ | exact zShl_r _ _ | exact zShr_r _ _ | exact zByte_r _ | exact zcmp_r _ _ | decide) only [Bool.decide_eq_true, Bool.decide_eq_false, ↓if_pos, ↓if_neg, ↓reduceIte, Nat.reduceEqDiff, Int.reduceLE, Int.reduceLT, Int.reduceEq, Int.reduceNe, Nat.reduceBEq, Int.reduceAdd, Int.reduceMul, Int.reduceSub, Int.reduceNeg, Nat.reduceAdd, not_false_eq_true, not_true_eq_false, decide_true, decide_false, Bool.not_true, Bool.not_false, Bool.true_and, Bool.false_and, Bool.and_true, Bool.and_false, Bool.true_or, Bool.false_or, Bool.or_true, Bool.or_false, Bool.not_not, decide_not, Decidable.not_not, ite_not, b2i_t, b2i_f, ne_eq, Bool.not_eq_true, Bool.not_eq_false, decide_eq_true_eq, decide_eq_false_iff_not, Bool.false_eq_true, Bool.true_eq_false, reduceCtorEq, if_true, if_false, ite_self, ite_b0, ite_b1, ite_0b, ite_1b, ite_bb, x_done, x_blk, x_lp, x_er, erL_0, erL_t, erL_f, kl_n, kl_i, kl_r, kl_l, bd_i, bd_r, bk_i, bk_e, bk_n, bk_r, bd_ite, bk_ite, lk_i, lk_e, lk_n, lk_r, lk_ite, ite_nx, b2i_i, b2i_n, b2i_0, b2i_1, b2i_e, bres_r, bres_ite, mres_v, mres_n, sF_1, sF_2, sA_1, sA_2, zcmp_lt, zcmp_gt, zcmp_le, zcmp_ge, zcmp_eq, List.lookup_cons, List.lookup_nil, mresX_v, mresX_n, mresX_t, bd_t, bres_t, y_rO, y_dO, y_dA, yO_o, yO_n, dR_e, rOx_s, rOx_n, dAx_s, dAx_n, wup_s, wup_n, fup_s, fup_n, beq_self_eq_true, Nat.reduceBEq, Nat.reduceLT, Nat.reduceSub, x_iconst, x_istore_n3, x_iload_n3, x_aload_n1, y_get, yGet_o, yLk_s, x_icmp_ge, x_aload_n0, x_aload_n2, y_iald, yLd_a, y_iast, ySt_a, x_istore4, x_iload4, x_bipush, x_imul, x_iadd, x_callG3, y_bast, y_zast, x_iinc4, x_goto, x_iinc3, x_return, a1, a2, a3, a4, a5, a6, b1, b2, b3, b4, b5, b6, hT', e1, e2, c_isTied hA2]
  · rintro L s ⟨h0, h1, w', rfl, rfl, hB', hF⟩
    have hq2 : q ≠ r + 2 ∧ q + 1 ≠ r + 2 ∧ q + 2 ≠ r + 2 := by
      have h3 := hA
      obtain ⟨Fa, ma, ta, a1, a2, a3, a4, a5, a6, -⟩ := h3
      obtain ⟨Fb, mb, tb', b1, b2, b3, b4, b5, b6, -⟩ := hB
      refine ⟨fun e => ?_, fun e => ?_, fun e => hq (by omega)⟩
      · rw [← e, a1] at b6; cases b6
      · rw [← e, a5] at b6; cases b6
    have hA' : CW w' q A := hA.frame (hF _ hq2.1) (hF _ hq2.2.1) (hF _ hq2.2.2)
    obtain ⟨Fa, ma, ta, a1, a2, -⟩ := hA'
    refine ⟨_, _, ?_, w', rfl, rfl, hB', hF⟩
    rw [L_X2_take_27]; unfold C_X2_take_L27
    simp (disch := first | rfl | exact okv_i | exact okv_o | exact okv_a | exact b_ft _ | (simp only [wt_c, wt_0, vc_i, vc_l, vc_r] <;> decide) | omega | exact i32_r _ | exact b2i_r _ | exact b2i_01 _ | exact zAnd_r _ _ | exact zOr_r _ _ | exact zXor_r _ _ | exact zShl_r _ _ | exact zShr_r _ _ | exact zByte_r _ | exact zcmp_r _ _ | decide) only [Bool.decide_eq_true, Bool.decide_eq_false, ↓if_pos, ↓if_neg, ↓reduceIte, Nat.reduceEqDiff, Int.reduceLE, Int.reduceLT, Int.reduceEq, Int.reduceNe, Nat.reduceBEq, Int.reduceAdd, Int.reduceMul, Int.reduceSub, Int.reduceNeg, Nat.reduceAdd, not_false_eq_true, not_true_eq_false, decide_true, decide_false, Bool.not_true, Bool.not_false, Bool.true_and, Bool.false_and, Bool.and_true, Bool.and_false, Bool.true_or, Bool.false_or, Bool.or_true, Bool.or_false, Bool.not_not, decide_not, Decidable.not_not, ite_not, b2i_t, b2i_f, ne_eq, Bool.not_eq_true, Bool.not_eq_false, decide_eq_true_eq, decide_eq_false_iff_not, Bool.false_eq_true, Bool.true_eq_false, reduceCtorEq, if_true, if_false, ite_self, ite_b0, ite_b1, ite_0b, ite_1b, ite_bb, x_done, x_blk, x_lp, x_er, erL_0, erL_t, erL_f, kl_n, kl_i, kl_r, kl_l, bd_i, bd_r, bk_i, bk_e, bk_n, bk_r, bd_ite, bk_ite, lk_i, lk_e, lk_n, lk_r, lk_ite, ite_nx, b2i_i, b2i_n, b2i_0, b2i_1, b2i_e, bres_r, bres_ite, mres_v, mres_n, sF_1, sF_2, sA_1, sA_2, zcmp_lt, zcmp_gt, zcmp_le, zcmp_ge, zcmp_eq, List.lookup_cons, List.lookup_nil, mresX_v, mresX_n, mresX_t, bd_t, bres_t, y_rO, y_dO, y_dA, yO_o, yO_n, dR_e, rOx_s, rOx_n, dAx_s, dAx_n, wup_s, wup_n, fup_s, fup_n, beq_self_eq_true, Nat.reduceBEq, Nat.reduceLT, Nat.reduceSub, x_iconst, x_istore_n3, x_iload_n3, x_aload_n1, y_get, yGet_o, yLk_s, x_icmp_ge, x_aload_n0, x_aload_n2, y_iald, yLd_a, y_iast, ySt_a, x_istore4, x_iload4, x_bipush, x_imul, x_iadd, x_callG3, y_bast, y_zast, x_iinc4, x_goto, x_iinc3, x_return, a1, a2]
end CTK
