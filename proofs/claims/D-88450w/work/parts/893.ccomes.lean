/-! ===== the component: a formula becomes a sentence ===== -/
set_option maxRecDepth 100000
theorem FR.any {w : Hp} {Z : Nat → Prop} {f : Fo} {q : Int} {E E' : Int → V} {i i' : Int} {p : Nat} (h : FR w Z f E i p) (hf : Fo.wf f false q) : FR w Z f E' i' p := by
  rcases wf_f hf with ⟨k', m', n', rfl, h'⟩ | ⟨g, rfl, h'⟩ | ⟨a, g, rfl, hq', h'⟩ | ⟨a, l', rfl, h2', h'⟩
  · rw [FR_atom h'] at h ⊢; exact h
  · rw [FR_not] at h ⊢; exact h
  · rw [FR_each] at h ⊢; exact h
  · rw [FR_many] at h ⊢; exact h
section CCM
variable {l : Launch} {δ : Dl} {w : Hp} {z m p c la e n B : Nat} {Z : Nat → Prop} {f : Fo} {E E0 : Int → V} {i : Int} {F : Nat → V}
theorem c_sInit {r : Nat} (hw : w r = some (.inr (10, f0_10))) (hf : Fo.wf f false 0) (hF : FR w Z f E0 i p) (hZ : ∀ a, Z a → a < r) (hs : Fo.sz f ≤ 600) (hh : Fo.ht f ≤ 30) : ∃ w', (M_X11_init l δ).1 [.inr (.inr (some r)), .inr (.inr (some p))] (w, r + 1, m) = some (.inl none, w', r + 4, m + 4802 + (Fo.text f).length) ∧ SR w' (fun a => Z a ∨ a = r ∨ a = r + 3) r f ∧ ∀ a, a < r → w' a = w a := by
  have fr1 : ∀ a, a ≠ r → wup w r (.inr (10, fup f0_10 0 (.inr (.inr (some p))))) a = w a := fun a h => wup_n h
  have hF1 : FR (wup w r (.inr (10, fup f0_10 0 (.inr (.inr (some p)))))) Z f E0 i p := FR.mono (fun a ha => ⟨ha, fr1 a (by have := hZ a ha; omega)⟩) hf _ _ _ hF
  obtain ⟨ci, G, d1, hc, d2⟩ := (c_depth (l := l) (δ := δ) hf).1 rfl 64 E0 i p (r + 1, m) hF1 (by omega) (by omega)
  have hdp := dpv_le hf
  have fr2 : ∀ a, a ≠ r → wup (wup w r (.inr (10, fup f0_10 0 (.inr (.inr (some p)))))) r (.inr (10, fup (fup f0_10 0 (.inr (.inr (some p)))) 1 (.inl (Fo.dp f : Int)))) a = w a := fun a h => by rw [wup_n h, wup_n h]
  have hF2 : FR (wup (wup w r (.inr (10, fup f0_10 0 (.inr (.inr (some p)))))) r (.inr (10, fup (fup f0_10 0 (.inr (.inr (some p)))) 1 (.inl (Fo.dp f : Int))))) Z f E0 i p := FR.mono (fun a ha => ⟨ha, fr2 a (by have := hZ a ha; omega)⟩) hf _ _ _ hF
  obtain ⟨ci2, G2, n1, hc2, n2⟩ := (c_nodes (l := l) (δ := δ) hf).1 rfl 64 E0 i p (r + 1, m) hF2 (by omega) (by omega)
  have fr3 : ∀ a, a ≠ r → wup (wup (wup w r (.inr (10, fup f0_10 0 (.inr (.inr (some p)))))) r (.inr (10, fup (fup f0_10 0 (.inr (.inr (some p)))) 1 (.inl (Fo.dp f : Int))))) r (.inr (10, fup (fup (fup f0_10 0 (.inr (.inr (some p)))) 1 (.inl (Fo.dp f : Int))) 2 (.inl (Fo.sz f : Int)))) a = w a := fun a h => by rw [wup_n h, wup_n h, wup_n h]
  have hF3 : FR (wup (wup (wup w r (.inr (10, fup f0_10 0 (.inr (.inr (some p)))))) r (.inr (10, fup (fup f0_10 0 (.inr (.inr (some p)))) 1 (.inl (Fo.dp f : Int))))) r (.inr (10, fup (fup (fup f0_10 0 (.inr (.inr (some p)))) 1 (.inl (Fo.dp f : Int))) 2 (.inl (Fo.sz f : Int))))) Z f E0 i p := FR.mono (fun a ha => ⟨ha, fr3 a (by have := hZ a ha; omega)⟩) hf _ _ _ hF
  obtain ⟨w4, t1, t2, t3⟩ := c_textOf (l := l) (δ := δ) (z := r + 1) (m := m) hf hF3 (fun a ha => by have := hZ a ha; omega) (by omega) hh
  have t1 : (M_X0_textOf l δ).1 [.inr (.inr (some p))] (wup (wup (wup w r (.inr (10, fup f0_10 0 (.inr (.inr (some p)))))) r (.inr (10, fup (fup f0_10 0 (.inr (.inr (some p)))) 1 (.inl (Fo.dp f : Int))))) r (.inr (10, fup (fup (fup f0_10 0 (.inr (.inr (some p)))) 1 (.inl (Fo.dp f : Int))) 2 (.inl (Fo.sz f : Int)))), r + 1, m) = some (.inl (some (.inr (.inr (some (r + 3))))), w4, r + 4, m + 4802 + (Fo.text f).length) := t1
  have w4r : w4 r = some (.inr (10, fup (fup (fup f0_10 0 (.inr (.inr (some p)))) 1 (.inl (Fo.dp f : Int))) 2 (.inl (Fo.sz f : Int)))) := by rw [t3 r (by omega), wup_s]
  refine ⟨wup w4 r (.inr (10, fup (fup (fup (fup f0_10 0 (.inr (.inr (some p)))) 1 (.inl (Fo.dp f : Int))) 2 (.inl (Fo.sz f : Int))) 3 (.inr (.inr (some (r + 3)))))), ?_, ⟨Or.inr (Or.inl rfl), _, p, r + 3, wup_s, rfl, rfl, rfl, rfl, Or.inr (Or.inr rfl), ?_, ?_⟩, fun a h => by rw [wup_n (by omega), t3 a (by omega), fr3 a (by omega)]⟩
  · rw [N_X11_init]; unfold B_X11_init
    have np : p ≠ r := fun e => by
      rw [e, wup_s] at d1
      cases d1
      rcases hc with h | h | h | h <;> cases h
    have d0 : w p = some (.inr (ci, G)) := by rw [← fr1 p np]; exact d1
    have : ci2 = ci := by rw [fr2 p np, d0] at n1; cases n1; rfl
    subst this
    clear hc2
    rcases hc with rfl | rfl | rfl | rfl <;> (simp only [depM] at d2; simp only [nodM] at n2; simp (disch := first | rfl | exact okv_i | exact okv_o | exact okv_a | exact b_ft _ | (simp only [wt_c, wt_0, vc_i, vc_l, vc_r] <;> decide) | omega | exact i32_r _ | exact b2i_r _ | exact b2i_01 _ | exact zAnd_r _ _ | exact zOr_r _ _ | exact zXor_r _ _ | exact zShl_r _ _ | exact zShr_r _ _ | exact zByte_r _ | exact zcmp_r _ _ | decide) only [Bool.decide_eq_true, Bool.decide_eq_false, ↓if_pos, ↓if_neg, ↓reduceIte, Nat.reduceEqDiff, Int.reduceLE, Int.reduceLT, Int.reduceEq, Int.reduceNe, Nat.reduceBEq, Int.reduceAdd, Int.reduceMul, Int.reduceSub, Int.reduceNeg, Nat.reduceAdd, not_false_eq_true, not_true_eq_false, decide_true, decide_false, Bool.not_true, Bool.not_false, Bool.true_and, Bool.false_and, Bool.and_true, Bool.and_false, Bool.true_or, Bool.false_or, Bool.or_true, Bool.or_false, Bool.not_not, decide_not, Decidable.not_not, ite_not, b2i_t, b2i_f, ne_eq, Bool.not_eq_true, Bool.not_eq_false, decide_eq_true_eq, decide_eq_false_iff_not, Bool.false_eq_true, Bool.true_eq_false, reduceCtorEq, if_true, if_false, ite_self, ite_b0, ite_b1, ite_0b, ite_1b, ite_bb, x_done, x_blk, x_lp, x_er, erL_0, erL_t, erL_f, kl_n, kl_i, kl_r, kl_l, bd_i, bd_r, bk_i, bk_e, bk_n, bk_r, bd_ite, bk_ite, lk_i, lk_e, lk_n, lk_r, lk_ite, ite_nx, b2i_i, b2i_n, b2i_0, b2i_1, b2i_e, bres_r, bres_ite, mres_v, mres_n, sF_1, sF_2, sA_1, sA_2, zcmp_lt, zcmp_gt, zcmp_le, zcmp_ge, zcmp_eq, List.lookup_cons, List.lookup_nil, mresX_v, mresX_n, mresX_t, bd_t, bres_t, y_rO, y_dO, y_dA, yO_o, yO_n, dR_e, rOx_s, rOx_n, dAx_s, dAx_n, wup_s, wup_n, fup_s, fup_n, beq_self_eq_true, Nat.reduceBEq, Nat.reduceLT, Nat.reduceSub, x_aload_n0, x_callG1, x_objI, x_aload_n1, y_put, y_putF, yPut_o, yPk_s, x_return, hw, d0, d2, n2, t1, w4r])
  · obtain ⟨T, q1, q2⟩ := t2
    exact ⟨T, by rw [wup_n (by omega)]; exact q1, q2⟩
  · have := FR.mono (w' := wup w4 r (.inr (10, fup (fup (fup (fup f0_10 0 (.inr (.inr (some p)))) 1 (.inl (Fo.dp f : Int))) 2 (.inl (Fo.sz f : Int))) 3 (.inr (.inr (some (r + 3))))))) (Z' := fun a => Z a ∨ a = r ∨ a = r + 3) (fun a ha => ⟨Or.inl ha, by have := hZ a ha; rw [wup_n (by omega), t3 a (by omega), fr3 a (by omega)]⟩) hf E0 i p hF
    exact this.any hf
end CCM
