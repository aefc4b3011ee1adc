/-! ===== formulas as objects: write ===== -/
set_option maxRecDepth 100000
noncomputable def wriM (l : Launch) (δ : Dl) (N : Nat) (ci : Nat) : MDen := match ci with
  | 5 => (R_wri l δ N).1.1
  | 7 => (R_wri l δ N).2.1.1
  | 8 => (R_wri l δ N).2.1.1
  | _ => (R_wri l δ N).2.2.1.1
noncomputable def wwiM (l : Launch) (δ : Dl) (N : Nat) (ci : Nat) : MDen := match ci with
  | 5 => (R_wri l δ N).2.2.2.1.1
  | 7 => (R_wri l δ N).2.2.2.1.1
  | 8 => (R_wri l δ N).2.2.2.1.1
  | _ => (R_wri l δ N).2.2.2.2.1
/-- the parts of a row from the one at k on are written -/
def rowT (s : Int) (f : Fo) (k : Int) : List Int := if k = 0 then Fo.tx f s else if Fo.len f = 0 then [] else s :: Fo.tx f s
theorem rowT_nil {s k : Int} : rowT s Fo.nil k = [] := by unfold rowT; split <;> simp [tx_nil, len_nil]
theorem rowT_c0 {s : Int} {g t : Fo} : rowT s (Fo.cons g t) 0 = Fo.tx g 0 ++ rowT s t 1 := by unfold rowT; rw [if_pos rfl, tx_cons, if_neg (show ¬ (1 : Int) = 0 by decide)]
theorem rowT_c {s k : Int} {g t : Fo} (h : 0 < k) : rowT s (Fo.cons g t) k = s :: (Fo.tx g 0 ++ rowT s t (k + 1)) := by
  unfold rowT
  rw [if_neg (by omega), len_cons, if_neg (by omega), tx_cons, if_neg (show ¬ k + 1 = 0 by omega)]
/-- what is put on a paper: M, and nothing else changes -/
def WrR (w : Hp) (pa ba : Nat) (zz : Nat × Nat) (L M : List Int) (x : Option (Rs × St)) : Prop := ∃ w', x = some (.inl none, w', zz) ∧ PW w' pa ba (L ++ M) ∧ ∀ a, a ≠ pa → a ≠ ba → w' a = w a
theorem FR.mono2 {w w' : Hp} {Z : Nat → Prop} {pa ba : Nat} {f : Fo} {b : Bool} {q : Int} {E : Int → V} {i : Int} {r : Nat} (h : FR w Z f E i r) (hZ : ∀ a, Z a → a ≠ pa ∧ a ≠ ba) (hk : ∀ a, a ≠ pa → a ≠ ba → w' a = w a) (hf : Fo.wf f b q) : FR w' Z f E i r := FR.mono (fun a ha => ⟨ha, hk a (hZ a ha).1 (hZ a ha).2⟩) hf _ _ _ h
theorem c_write {l : Launch} {δ : Dl} {Z : Nat → Prop} {pa ba : Nat} {zz : Nat × Nat} (hZ : ∀ a, Z a → a ≠ pa ∧ a ≠ ba) {f : Fo} {b : Bool} {q : Int} (hf : Fo.wf f b q) : (b = false → 0 ≤ q → q ≤ 8 → ∀ (N : Nat) (E : Int → V) (i : Int) (r : Nat) (w : Hp) (L : List Int), FR w Z f E i r → PW w pa ba L → L.length + 4 * Fo.sz f ≤ 4800 → (2 * Fo.ht f + 1 ≤ N → Dsp w r (fun ci => WrR w pa ba zz L (Fo.text f) (wriM l δ N ci [.inr (.inr (some r)), .inr (.inr (some pa))] (w, zz)))) ∧ (2 * Fo.ht f + 2 ≤ N → Dsp w r (fun ci => WrR w pa ba zz L (Fo.tx f 0) (wwiM l δ N ci [.inr (.inr (some r)), .inr (.inr (some pa))] (w, zz))))) ∧ (b = true → 0 ≤ q → q ≤ 8 → ∀ (N : Nat) (E : Int → V) (k : Int) (r0 r la e c n : Nat) (F : Nat → V) (a : Bool) (w : Hp) (L : List Int), FR w Z f E k r0 → PW w pa ba L → L.length + 4 * Fo.sz f + 1 ≤ 4800 → 2 * Fo.ht f + 2 ≤ N → w r = some (.inr (9, F)) → F 0 = .inr (.inr (some la)) → F 1 = .inl (Fo.sgM a) → CL_ w la e c E n → (Z r ∧ Z la ∧ Z e) → 0 ≤ k → k + Fo.len f = n → ∃ w', lpD 2 (B_X10_write_L2 l δ N (R_wri l δ N)).1 [] [some (.inr (.inr (some r))), some (.inr (.inr (some pa))), some (.inl k)] (w, zz) = some (.inr (.inl (50, [], [some (.inr (.inr (some r))), some (.inr (.inr (some pa))), some (.inl (n : Int))], w', zz))) ∧ PW w' pa ba (L ++ rowT (Fo.sgM a) f k) ∧ ∀ a, a ≠ pa → a ≠ ba → w' a = w a) := by
  induction f, b, q, hf using wf_ind with
  | atom k vm vn q h =>
    refine ⟨fun _ hq0 hq8 N E i r w L hF hP hL => ?_, fun z => by cases z⟩
    rw [sz_atom h] at hL
    rw [FR_atom h] at hF
    obtain ⟨zr, G, h1, h2, h3, h4⟩ := hF
    have nr := hZ r zr
    have sg := sgA_r (k := k)
    have key : ∀ M, WrR w pa ba zz L (Fo.tx (Fo.atom k vm vn) 0) ((R_wri l δ (M + 1)).1.1 [.inr (.inr (some r)), .inr (.inr (some pa))] (w, zz)) := by
      intro M
      obtain ⟨w1, e1, e2, e3⟩ := c_put (l := l) (δ := δ) (zz := zz) (c := Fo.sgA k) hP (by omega) (by omega)
      have h1' := (e3 r nr.1 nr.2).trans h1
      have p1 : ∃ F, w pa = some (.inr (11, F)) := by obtain ⟨F, T, p1, -⟩ := hP; exact ⟨F, p1⟩
      obtain ⟨F1, p1⟩ := p1
      have p2 : ∃ F, w1 pa = some (.inr (11, F)) := by obtain ⟨F, T, p1, -⟩ := e2; exact ⟨F, p1⟩
      obtain ⟨F2, p2⟩ := p2
      rw [tx_atom h]
      unfold Fo.okA at h
      rcases h with ⟨hk, rfl, rfl⟩ | ⟨hk, hm, rfl⟩ | ⟨hk, hm, hn⟩
      · refine ⟨w1, ?_, e2, e3⟩
        rw [N_X6_write]; unfold B_X6_write
        simp (disch := first | rfl | exact okv_i | exact okv_o | exact okv_a | exact b_ft _ | (simp only [wt_c, wt_0, vc_i, vc_l, vc_r] <;> decide) | omega | exact i32_r _ | exact b2i_r _ | exact b2i_01 _ | exact zAnd_r _ _ | exact zOr_r _ _ | exact zXor_r _ _ | exact zShl_r _ _ | exact zShr_r _ _ | exact zByte_r _ | exact zcmp_r _ _ | decide) only [Bool.decide_eq_true, Bool.decide_eq_false, ↓if_pos, ↓if_neg, ↓reduceIte, Nat.reduceEqDiff, Int.reduceLE, Int.reduceLT, Int.reduceEq, Int.reduceNe, Nat.reduceBEq, Int.reduceAdd, Int.reduceMul, Int.reduceSub, Int.reduceNeg, Nat.reduceAdd, not_false_eq_true, not_true_eq_false, decide_true, decide_false, Bool.not_true, Bool.not_false, Bool.true_and, Bool.false_and, Bool.and_true, Bool.and_false, Bool.true_or, Bool.false_or, Bool.or_true, Bool.or_false, Bool.not_not, decide_not, Decidable.not_not, ite_not, b2i_t, b2i_f, ne_eq, Bool.not_eq_true, Bool.not_eq_false, decide_eq_true_eq, decide_eq_false_iff_not, Bool.false_eq_true, Bool.true_eq_false, reduceCtorEq, if_true, if_false, ite_self, ite_b0, ite_b1, ite_0b, ite_1b, ite_bb, x_done, x_blk, x_lp, x_er, erL_0, erL_t, erL_f, kl_n, kl_i, kl_r, kl_l, bd_i, bd_r, bk_i, bk_e, bk_n, bk_r, bd_ite, bk_ite, lk_i, lk_e, lk_n, lk_r, lk_ite, ite_nx, b2i_i, b2i_n, b2i_0, b2i_1, b2i_e, bres_r, bres_ite, mres_v, mres_n, sF_1, sF_2, sA_1, sA_2, zcmp_lt, zcmp_gt, zcmp_le, zcmp_ge, zcmp_eq, List.lookup_cons, List.lookup_nil, mresX_v, mresX_n, mresX_t, bd_t, bres_t, y_rO, y_dO, y_dA, yO_o, yO_n, dR_e, rOx_s, rOx_n, dAx_s, dAx_n, wup_s, wup_n, fup_s, fup_n, beq_self_eq_true, Nat.reduceBEq, Nat.reduceLT, Nat.reduceSub, x_aload_n1, x_aload_n0, y_get, yGet_o, yLk_s, x_callG2, x_if_le, x_return, h1, h2, h3, h4, p1, e1, h1']
      · obtain ⟨w2, k1, k2, k3⟩ := c_var (l := l) (δ := δ) (zz := zz) (v := vm) e2 (by omega) (by rw [List.length_append]; simp only [List.length_singleton]; omega)
        have h1'' := (k3 r nr.1 nr.2).trans h1'
        refine ⟨w2, ?_, ?_, fun x q1 q2 => by rw [k3 x q1 q2, e3 x q1 q2]⟩
        · rw [N_X6_write]; unfold B_X6_write
          simp (disch := first | rfl | exact okv_i | exact okv_o | exact okv_a | exact b_ft _ | (simp only [wt_c, wt_0, vc_i, vc_l, vc_r] <;> decide) | omega | exact i32_r _ | exact b2i_r _ | exact b2i_01 _ | exact zAnd_r _ _ | exact zOr_r _ _ | exact zXor_r _ _ | exact zShl_r _ _ | exact zShr_r _ _ | exact zByte_r _ | exact zcmp_r _ _ | decide) only [Bool.decide_eq_true, Bool.decide_eq_false, ↓if_pos, ↓if_neg, ↓reduceIte, Nat.reduceEqDiff, Int.reduceLE, Int.reduceLT, Int.reduceEq, Int.reduceNe, Nat.reduceBEq, Int.reduceAdd, Int.reduceMul, Int.reduceSub, Int.reduceNeg, Nat.reduceAdd, not_false_eq_true, not_true_eq_false, decide_true, decide_false, Bool.not_true, Bool.not_false, Bool.true_and, Bool.false_and, Bool.and_true, Bool.and_false, Bool.true_or, Bool.false_or, Bool.or_true, Bool.or_false, Bool.not_not, decide_not, Decidable.not_not, ite_not, b2i_t, b2i_f, ne_eq, Bool.not_eq_true, Bool.not_eq_false, decide_eq_true_eq, decide_eq_false_iff_not, Bool.false_eq_true, Bool.true_eq_false, reduceCtorEq, if_true, if_false, ite_self, ite_b0, ite_b1, ite_0b, ite_1b, ite_bb, x_done, x_blk, x_lp, x_er, erL_0, erL_t, erL_f, kl_n, kl_i, kl_r, kl_l, bd_i, bd_r, bk_i, bk_e, bk_n, bk_r, bd_ite, bk_ite, lk_i, lk_e, lk_n, lk_r, lk_ite, ite_nx, b2i_i, b2i_n, b2i_0, b2i_1, b2i_e, bres_r, bres_ite, mres_v, mres_n, sF_1, sF_2, sA_1, sA_2, zcmp_lt, zcmp_gt, zcmp_le, zcmp_ge, zcmp_eq, List.lookup_cons, List.lookup_nil, mresX_v, mresX_n, mresX_t, bd_t, bres_t, y_rO, y_dO, y_dA, yO_o, yO_n, dR_e, rOx_s, rOx_n, dAx_s, dAx_n, wup_s, wup_n, fup_s, fup_n, beq_self_eq_true, Nat.reduceBEq, Nat.reduceLT, Nat.reduceSub, x_aload_n1, x_aload_n0, y_get, yGet_o, yLk_s, x_callG2, x_if_le, x_return, h1, h2, h3, h4, p1, p2, e1, h1', k1, h1'']
        · rw [show Fo.sgA k :: (vrT vm ++ vrT 0) = [Fo.sgA k] ++ [96 + vm] by unfold vrT; rw [if_pos (by omega), if_neg (by decide)]; rfl, ← List.append_assoc]
          exact k2
      · obtain ⟨w2, k1, k2, k3⟩ := c_var (l := l) (δ := δ) (zz := zz) (v := vm) e2 (by omega) (by rw [List.length_append]; simp only [List.length_singleton]; omega)
        have h1'' := (k3 r nr.1 nr.2).trans h1'
        have p3 : ∃ F, w2 pa = some (.inr (11, F)) := by obtain ⟨F, T, p1, -⟩ := k2; exact ⟨F, p1⟩
        obtain ⟨F3, p3⟩ := p3
        obtain ⟨w3, j1, j2, j3⟩ := c_var (l := l) (δ := δ) (zz := zz) (v := vn) k2 (by omega) (by rw [List.length_append, List.length_append]; simp only [List.length_singleton]; omega)
        refine ⟨w3, ?_, ?_, fun x q1 q2 => by rw [j3 x q1 q2, k3 x q1 q2, e3 x q1 q2]⟩
        · rw [N_X6_write]; unfold B_X6_write
          simp (disch := first | rfl | exact okv_i | exact okv_o | exact okv_a | exact b_ft _ | (simp only [wt_c, wt_0, vc_i, vc_l, vc_r] <;> decide) | omega | exact i32_r _ | exact b2i_r _ | exact b2i_01 _ | exact zAnd_r _ _ | exact zOr_r _ _ | exact zXor_r _ _ | exact zShl_r _ _ | exact zShr_r _ _ | exact zByte_r _ | exact zcmp_r _ _ | decide) only [Bool.decide_eq_true, Bool.decide_eq_false, ↓if_pos, ↓if_neg, ↓reduceIte, Nat.reduceEqDiff, Int.reduceLE, Int.reduceLT, Int.reduceEq, Int.reduceNe, Nat.reduceBEq, Int.reduceAdd, Int.reduceMul, Int.reduceSub, Int.reduceNeg, Nat.reduceAdd, not_false_eq_true, not_true_eq_false, decide_true, decide_false, Bool.not_true, Bool.not_false, Bool.true_and, Bool.false_and, Bool.and_true, Bool.and_false, Bool.true_or, Bool.false_or, Bool.or_true, Bool.or_false, Bool.not_not, decide_not, Decidable.not_not, ite_not, b2i_t, b2i_f, ne_eq, Bool.not_eq_true, Bool.not_eq_false, decide_eq_true_eq, decide_eq_false_iff_not, Bool.false_eq_true, Bool.true_eq_false, reduceCtorEq, if_true, if_false, ite_self, ite_b0, ite_b1, ite_0b, ite_1b, ite_bb, x_done, x_blk, x_lp, x_er, erL_0, erL_t, erL_f, kl_n, kl_i, kl_r, kl_l, bd_i, bd_r, bk_i, bk_e, bk_n, bk_r, bd_ite, bk_ite, lk_i, lk_e, lk_n, lk_r, lk_ite, ite_nx, b2i_i, b2i_n, b2i_0, b2i_1, b2i_e, bres_r, bres_ite, mres_v, mres_n, sF_1, sF_2, sA_1, sA_2, zcmp_lt, zcmp_gt, zcmp_le, zcmp_ge, zcmp_eq, List.lookup_cons, List.lookup_nil, mresX_v, mresX_n, mresX_t, bd_t, bres_t, y_rO, y_dO, y_dA, yO_o, yO_n, dR_e, rOx_s, rOx_n, dAx_s, dAx_n, wup_s, wup_n, fup_s, fup_n, beq_self_eq_true, Nat.reduceBEq, Nat.reduceLT, Nat.reduceSub, x_aload_n1, x_aload_n0, y_get, yGet_o, yLk_s, x_callG2, x_if_le, x_return, h1, h2, h3, h4, p1, p2, p3, e1, h1', k1, h1'', j1]
        · rw [show Fo.sgA k :: (vrT vm ++ vrT vn) = [Fo.sgA k] ++ [96 + vm] ++ [96 + vn] by unfold vrT; rw [if_pos (by omega), if_pos (by omega)]; rfl, ← List.append_assoc, ← List.append_assoc]
          exact j2
    refine ⟨fun hN => ?_, fun hN => ?_⟩
    · obtain ⟨M, rfl⟩ : ∃ M, N = M + 1 := ⟨N - 1, by omega⟩
      exact ⟨5, G, h1, Or.inl rfl, key M⟩
    · obtain ⟨M, rfl⟩ : ∃ M, N = M + 1 + 1 := ⟨N - 2, by omega⟩
      obtain ⟨w', k1, k2, k3⟩ := key M
      refine ⟨5, G, h1, Or.inl rfl, w', ?_, k2, k3⟩
      show (R_wri l δ (M + 1 + 1)).2.2.2.1.1 _ _ = _
      rw [N_X5_writeWithin]; unfold B_X5_writeWithin
      simp (disch := first | rfl | exact okv_i | exact okv_o | exact okv_a | exact b_ft _ | (simp only [wt_c, wt_0, vc_i, vc_l, vc_r] <;> decide) | omega | exact i32_r _ | exact b2i_r _ | exact b2i_01 _ | exact zAnd_r _ _ | exact zOr_r _ _ | exact zXor_r _ _ | exact zShl_r _ _ | exact zShr_r _ _ | exact zByte_r _ | exact zcmp_r _ _ | decide) only [Bool.decide_eq_true, Bool.decide_eq_false, ↓if_pos, ↓if_neg, ↓reduceIte, Nat.reduceEqDiff, Int.reduceLE, Int.reduceLT, Int.reduceEq, Int.reduceNe, Nat.reduceBEq, Int.reduceAdd, Int.reduceMul, Int.reduceSub, Int.reduceNeg, Nat.reduceAdd, not_false_eq_true, not_true_eq_false, decide_true, decide_false, Bool.not_true, Bool.not_false, Bool.true_and, Bool.false_and, Bool.and_true, Bool.and_false, Bool.true_or, Bool.false_or, Bool.or_true, Bool.or_false, Bool.not_not, decide_not, Decidable.not_not, ite_not, b2i_t, b2i_f, ne_eq, Bool.not_eq_true, Bool.not_eq_false, decide_eq_true_eq, decide_eq_false_iff_not, Bool.false_eq_true, Bool.true_eq_false, reduceCtorEq, if_true, if_false, ite_self, ite_b0, ite_b1, ite_0b, ite_1b, ite_bb, x_done, x_blk, x_lp, x_er, erL_0, erL_t, erL_f, kl_n, kl_i, kl_r, kl_l, bd_i, bd_r, bk_i, bk_e, bk_n, bk_r, bd_ite, bk_ite, lk_i, lk_e, lk_n, lk_r, lk_ite, ite_nx, b2i_i, b2i_n, b2i_0, b2i_1, b2i_e, bres_r, bres_ite, mres_v, mres_n, sF_1, sF_2, sA_1, sA_2, zcmp_lt, zcmp_gt, zcmp_le, zcmp_ge, zcmp_eq, List.lookup_cons, List.lookup_nil, mresX_v, mresX_n, mresX_t, bd_t, bres_t, y_rO, y_dO, y_dA, yO_o, yO_n, dR_e, rOx_s, rOx_n, dAx_s, dAx_n, wup_s, wup_n, fup_s, fup_n, beq_self_eq_true, Nat.reduceBEq, Nat.reduceLT, Nat.reduceSub, x_aload_n0, x_aload_n1, x_callG2, x_return, h1, k1]
  | not f q h ih =>
    refine ⟨fun _ hq0 hq8 N E i r w L hF hP hL => ?_, fun z => by cases z⟩
    rw [sz_not] at hL
    rw [ht_not]
    rw [FR_not] at hF
    obtain ⟨zr, G, p, h1, h2, h3⟩ := hF
    have nr := hZ r zr
    have p1 : ∃ F, w pa = some (.inr (11, F)) := by obtain ⟨F, T, p1, -⟩ := hP; exact ⟨F, p1⟩
    obtain ⟨F1, p1⟩ := p1
    have key : ∀ M, 2 * Fo.ht f + 2 ≤ M → WrR w pa ba zz L (Fo.tx (Fo.not f) 0) ((R_wri l δ (M + 1)).2.1.1 [.inr (.inr (some r)), .inr (.inr (some pa))] (w, zz)) := by
      intro M hM
      obtain ⟨w1, e1, e2, e3⟩ := c_sign7 (l := l) (δ := δ) (zz := zz) hP h1 (by omega)
      have h1' := (e3 r nr.1 nr.2).trans h1
      obtain ⟨ci, G2, g1, hc, ⟨w2, k1, k2, k3⟩⟩ := (ih.1 rfl hq0 hq8 M _ _ p w1 (L ++ [45]) (h3.mono2 hZ e3 h) e2 (by rw [List.length_append]; simp only [List.length_singleton]; omega)).2 hM
      refine ⟨w2, ?_, by rw [tx_not, show (45 : Int) :: Fo.tx f 0 = [45] ++ Fo.tx f 0 from rfl, ← List.append_assoc]; exact k2, fun x q1 q2 => by rw [k3 x q1 q2, e3 x q1 q2]⟩
      rw [N_X8_write]; unfold B_X8_write
      rcases hc with rfl | rfl | rfl | rfl <;> (simp only [wwiM] at k1; simp (disch := first | rfl | exact okv_i | exact okv_o | exact okv_a | exact b_ft _ | (simp only [wt_c, wt_0, vc_i, vc_l, vc_r] <;> decide) | omega | exact i32_r _ | exact b2i_r _ | exact b2i_01 _ | exact zAnd_r _ _ | exact zOr_r _ _ | exact zXor_r _ _ | exact zShl_r _ _ | exact zShr_r _ _ | exact zByte_r _ | exact zcmp_r _ _ | decide) only [Bool.decide_eq_true, Bool.decide_eq_false, ↓if_pos, ↓if_neg, ↓reduceIte, Nat.reduceEqDiff, Int.reduceLE, Int.reduceLT, Int.reduceEq, Int.reduceNe, Nat.reduceBEq, Int.reduceAdd, Int.reduceMul, Int.reduceSub, Int.reduceNeg, Nat.reduceAdd, not_false_eq_true, not_true_eq_false, decide_true, decide_false, Bool.not_true, Bool.not_false, Bool.true_and, Bool.false_and, Bool.and_true, Bool.and_false, Bool.true_or, Bool.false_or, Bool.or_true, Bool.or_false, Bool.not_not, decide_not, Decidable.not_not, ite_not, b2i_t, b2i_f, ne_eq, Bool.not_eq_true, Bool.not_eq_false, decide_eq_true_eq, decide_eq_false_iff_not, Bool.false_eq_true, Bool.true_eq_false, reduceCtorEq, if_true, if_false, ite_self, ite_b0, ite_b1, ite_0b, ite_1b, ite_bb, x_done, x_blk, x_lp, x_er, erL_0, erL_t, erL_f, kl_n, kl_i, kl_r, kl_l, bd_i, bd_r, bk_i, bk_e, bk_n, bk_r, bd_ite, bk_ite, lk_i, lk_e, lk_n, lk_r, lk_ite, ite_nx, b2i_i, b2i_n, b2i_0, b2i_1, b2i_e, bres_r, bres_ite, mres_v, mres_n, sF_1, sF_2, sA_1, sA_2, zcmp_lt, zcmp_gt, zcmp_le, zcmp_ge, zcmp_eq, List.lookup_cons, List.lookup_nil, mresX_v, mresX_n, mresX_t, bd_t, bres_t, y_rO, y_dO, y_dA, yO_o, yO_n, dR_e, rOx_s, rOx_n, dAx_s, dAx_n, wup_s, wup_n, fup_s, fup_n, beq_self_eq_true, Nat.reduceBEq, Nat.reduceLT, Nat.reduceSub, x_aload_n0, x_aload_n1, x_callG2, y_get, yGet_o, yLk_s, x_return, h1, h2, p1, e1, h1', g1, k1])
    refine ⟨fun hN => ?_, fun hN => ?_⟩
    · obtain ⟨M, rfl⟩ : ∃ M, N = M + 1 := ⟨N - 1, by omega⟩
      exact ⟨7, G, h1, Or.inr (Or.inl rfl), key M (by omega)⟩
    · obtain ⟨M, rfl⟩ : ∃ M, N = M + 1 + 1 := ⟨N - 2, by omega⟩
      obtain ⟨w', k1, k2, k3⟩ := key M (by omega)
      refine ⟨7, G, h1, Or.inr (Or.inl rfl), w', ?_, k2, k3⟩
      show (R_wri l δ (M + 1 + 1)).2.2.2.1.1 _ _ = _
      rw [N_X5_writeWithin]; unfold B_X5_writeWithin
      simp (disch := first | rfl | exact okv_i | exact okv_o | exact okv_a | exact b_ft _ | (simp only [wt_c, wt_0, vc_i, vc_l, vc_r] <;> decide) | omega | exact i32_r _ | exact b2i_r _ | exact b2i_01 _ | exact zAnd_r _ _ | exact zOr_r _ _ | exact zXor_r _ _ | exact zShl_r _ _ | exact zShr_r _ _ | exact zByte_r _ | exact zcmp_r _ _ | decide) only [Bool.decide_eq_true, Bool.decide_eq_false, ↓if_pos, ↓if_neg, ↓reduceIte, Nat.reduceEqDiff, Int.reduceLE, Int.reduceLT, Int.reduceEq, Int.reduceNe, Nat.reduceBEq, Int.reduceAdd, Int.reduceMul, Int.reduceSub, Int.reduceNeg, Nat.reduceAdd, not_false_eq_true, not_true_eq_false, decide_true, decide_false, Bool.not_true, Bool.not_false, Bool.true_and, Bool.false_and, Bool.and_true, Bool.and_false, Bool.true_or, Bool.false_or, Bool.or_true, Bool.or_false, Bool.not_not, decide_not, Decidable.not_not, ite_not, b2i_t, b2i_f, ne_eq, Bool.not_eq_true, Bool.not_eq_false, decide_eq_true_eq, decide_eq_false_iff_not, Bool.false_eq_true, Bool.true_eq_false, reduceCtorEq, if_true, if_false, ite_self, ite_b0, ite_b1, ite_0b, ite_1b, ite_bb, x_done, x_blk, x_lp, x_er, erL_0, erL_t, erL_f, kl_n, kl_i, kl_r, kl_l, bd_i, bd_r, bk_i, bk_e, bk_n, bk_r, bd_ite, bk_ite, lk_i, lk_e, lk_n, lk_r, lk_ite, ite_nx, b2i_i, b2i_n, b2i_0, b2i_1, b2i_e, bres_r, bres_ite, mres_v, mres_n, sF_1, sF_2, sA_1, sA_2, zcmp_lt, zcmp_gt, zcmp_le, zcmp_ge, zcmp_eq, List.lookup_cons, List.lookup_nil, mresX_v, mresX_n, mresX_t, bd_t, bres_t, y_rO, y_dO, y_dA, yO_o, yO_n, dR_e, rOx_s, rOx_n, dAx_s, dAx_n, wup_s, wup_n, fup_s, fup_n, beq_self_eq_true, Nat.reduceBEq, Nat.reduceLT, Nat.reduceSub, x_aload_n0, x_aload_n1, x_callG2, x_return, h1, k1]
  | each a f q hq h ih =>
    refine ⟨fun _ hq0 hq8 N E i r w L hF hP hL => ?_, fun z => by cases z⟩
    rw [sz_each] at hL
    rw [ht_each]
    rw [FR_each] at hF
    obtain ⟨zr, G, p, h1, h2, h3, h4, h5⟩ := hF
    have nr := hZ r zr
    have p1 : ∃ F, w pa = some (.inr (11, F)) := by obtain ⟨F, T, p1, -⟩ := hP; exact ⟨F, p1⟩
    obtain ⟨F1, p1⟩ := p1
    have key : ∀ M, 2 * Fo.ht f + 2 ≤ M → WrR w pa ba zz L (Fo.tx (Fo.each a (q + 1) f) 0) ((R_wri l δ (M + 1)).2.1.1 [.inr (.inr (some r)), .inr (.inr (some pa))] (w, zz)) := by
      intro M hM
      obtain ⟨w1, e1, e2, e3⟩ := c_sign8 (l := l) (δ := δ) (zz := zz) hP h1 h3 h4 (by omega) nr (by omega)
      have h1' := (e3 r nr.1 nr.2).trans h1
      obtain ⟨ci, G2, g1, hc, ⟨w2, k1, k2, k3⟩⟩ := (ih.1 rfl (by omega) (by omega) M _ _ p w1 _ (h5.mono2 hZ e3 h) e2 (by rw [List.length_append]; simp only [List.length_cons, List.length_nil]; omega)).2 hM
      refine ⟨w2, ?_, by rw [tx_each, show Fo.sgQ a :: (96 + (q + 1)) :: Fo.tx f 0 = [Fo.sgQ a, 96 + (q + 1)] ++ Fo.tx f 0 from rfl, ← List.append_assoc]; exact k2, fun x q1 q2 => by rw [k3 x q1 q2, e3 x q1 q2]⟩
      rw [N_X8_write]; unfold B_X8_write
      rcases hc with rfl | rfl | rfl | rfl <;> (simp only [wwiM] at k1; simp (disch := first | rfl | exact okv_i | exact okv_o | exact okv_a | exact b_ft _ | (simp only [wt_c, wt_0, vc_i, vc_l, vc_r] <;> decide) | omega | exact i32_r _ | exact b2i_r _ | exact b2i_01 _ | exact zAnd_r _ _ | exact zOr_r _ _ | exact zXor_r _ _ | exact zShl_r _ _ | exact zShr_r _ _ | exact zByte_r _ | exact zcmp_r _ _ | decide) only [Bool.decide_eq_true, Bool.decide_eq_false, ↓if_pos, ↓if_neg, ↓reduceIte, Nat.reduceEqDiff, Int.reduceLE, Int.reduceLT, Int.reduceEq, Int.reduceNe, Nat.reduceBEq, Int.reduceAdd, Int.reduceMul, Int.reduceSub, Int.reduceNeg, Nat.reduceAdd, not_false_eq_true, not_true_eq_false, decide_true, decide_false, Bool.not_true, Bool.not_false, Bool.true_and, Bool.false_and, Bool.and_true, Bool.and_false, Bool.true_or, Bool.false_or, Bool.or_true, Bool.or_false, Bool.not_not, decide_not, Decidable.not_not, ite_not, b2i_t, b2i_f, ne_eq, Bool.not_eq_true, Bool.not_eq_false, decide_eq_true_eq, decide_eq_false_iff_not, Bool.false_eq_true, Bool.true_eq_false, reduceCtorEq, if_true, if_false, ite_self, ite_b0, ite_b1, ite_0b, ite_1b, ite_bb, x_done, x_blk, x_lp, x_er, erL_0, erL_t, erL_f, kl_n, kl_i, kl_r, kl_l, bd_i, bd_r, bk_i, bk_e, bk_n, bk_r, bd_ite, bk_ite, lk_i, lk_e, lk_n, lk_r, lk_ite, ite_nx, b2i_i, b2i_n, b2i_0, b2i_1, b2i_e, bres_r, bres_ite, mres_v, mres_n, sF_1, sF_2, sA_1, sA_2, zcmp_lt, zcmp_gt, zcmp_le, zcmp_ge, zcmp_eq, List.lookup_cons, List.lookup_nil, mresX_v, mresX_n, mresX_t, bd_t, bres_t, y_rO, y_dO, y_dA, yO_o, yO_n, dR_e, rOx_s, rOx_n, dAx_s, dAx_n, wup_s, wup_n, fup_s, fup_n, beq_self_eq_true, Nat.reduceBEq, Nat.reduceLT, Nat.reduceSub, x_aload_n0, x_aload_n1, x_callG2, y_get, yGet_o, yLk_s, x_return, h1, h2, p1, e1, h1', g1, k1])
    refine ⟨fun hN => ?_, fun hN => ?_⟩
    · obtain ⟨M, rfl⟩ : ∃ M, N = M + 1 := ⟨N - 1, by omega⟩
      rw [text_each]
      exact ⟨8, G, h1, Or.inr (Or.inr (Or.inl rfl)), key M (by omega)⟩
    · obtain ⟨M, rfl⟩ : ∃ M, N = M + 1 + 1 := ⟨N - 2, by omega⟩
      obtain ⟨w', k1, k2, k3⟩ := key M (by omega)
      refine ⟨8, G, h1, Or.inr (Or.inr (Or.inl rfl)), w', ?_, k2, k3⟩
      show (R_wri l δ (M + 1 + 1)).2.2.2.1.1 _ _ = _
      rw [N_X5_writeWithin]; unfold B_X5_writeWithin
      simp (disch := first | rfl | exact okv_i | exact okv_o | exact okv_a | exact b_ft _ | (simp only [wt_c, wt_0, vc_i, vc_l, vc_r] <;> decide) | omega | exact i32_r _ | exact b2i_r _ | exact b2i_01 _ | exact zAnd_r _ _ | exact zOr_r _ _ | exact zXor_r _ _ | exact zShl_r _ _ | exact zShr_r _ _ | exact zByte_r _ | exact zcmp_r _ _ | decide) only [Bool.decide_eq_true, Bool.decide_eq_false, ↓if_pos, ↓if_neg, ↓reduceIte, Nat.reduceEqDiff, Int.reduceLE, Int.reduceLT, Int.reduceEq, Int.reduceNe, Nat.reduceBEq, Int.reduceAdd, Int.reduceMul, Int.reduceSub, Int.reduceNeg, Nat.reduceAdd, not_false_eq_true, not_true_eq_false, decide_true, decide_false, Bool.not_true, Bool.not_false, Bool.true_and, Bool.false_and, Bool.and_true, Bool.and_false, Bool.true_or, Bool.false_or, Bool.or_true, Bool.or_false, Bool.not_not, decide_not, Decidable.not_not, ite_not, b2i_t, b2i_f, ne_eq, Bool.not_eq_true, Bool.not_eq_false, decide_eq_true_eq, decide_eq_false_iff_not, Bool.false_eq_true, Bool.true_eq_false, reduceCtorEq, if_true, if_false, ite_self, ite_b0, ite_b1, ite_0b, ite_1b, ite_bb, x_done, x_blk, x_lp, x_er, erL_0, erL_t, erL_f, kl_n, kl_i, kl_r, kl_l, bd_i, bd_r, bk_i, bk_e, bk_n, bk_r, bd_ite, bk_ite, lk_i, lk_e, lk_n, lk_r, lk_ite, ite_nx, b2i_i, b2i_n, b2i_0, b2i_1, b2i_e, bres_r, bres_ite, mres_v, mres_n, sF_1, sF_2, sA_1, sA_2, zcmp_lt, zcmp_gt, zcmp_le, zcmp_ge, zcmp_eq, List.lookup_cons, List.lookup_nil, mresX_v, mresX_n, mresX_t, bd_t, bres_t, y_rO, y_dO, y_dA, yO_o, yO_n, dR_e, rOx_s, rOx_n, dAx_s, dAx_n, wup_s, wup_n, fup_s, fup_n, beq_self_eq_true, Nat.reduceBEq, Nat.reduceLT, Nat.reduceSub, x_aload_n0, x_aload_n1, x_callG2, x_return, h1, k1]
  | many a t q h2 h ih =>
    refine ⟨fun _ hq0 hq8 N E i r w L hF hP hL => ?_, fun z => by cases z⟩
    rw [sz_many] at hL
    rw [ht_many]
    rw [FR_many] at hF
    obtain ⟨zr, G, la, e, c, E', h3, h4, h5, h6, h7, h8⟩ := hF
    have nr := hZ r zr
    have nl := hZ la h6.1
    have ne := hZ e h6.2
    have key : ∀ M w L, w r = some (.inr (9, G)) → CL_ w la e c E' (Fo.len t) → FR w Z t E' 0 0 → PW w pa ba L → L.length + 4 * Fo.sz t + 1 ≤ 4800 → 2 * Fo.ht t + 2 ≤ M → WrR w pa ba zz L (Fo.tx t (Fo.sgM a)) ((R_wri l δ (M + 1)).2.2.1.1 [.inr (.inr (some r)), .inr (.inr (some pa))] (w, zz)) := by
      intro M w L h3 h7 h8 hP hL hM
      obtain ⟨w', k1, k2, k3⟩ := ih.2 rfl hq0 hq8 M E' 0 0 r la e c _ G a w L h8 hP hL hM h3 h4 h5 h7 ⟨zr, h6⟩ (by omega) (by omega)
      refine ⟨w', ?_, k2, k3⟩
      rw [N_X10_write]; unfold B_X10_write
      simp (disch := first | rfl | exact okv_i | exact okv_o | exact okv_a | exact b_ft _ | (simp only [wt_c, wt_0, vc_i, vc_l, vc_r] <;> decide) | omega | exact i32_r _ | exact b2i_r _ | exact b2i_01 _ | exact zAnd_r _ _ | exact zOr_r _ _ | exact zXor_r _ _ | exact zShl_r _ _ | exact zShr_r _ _ | exact zByte_r _ | exact zcmp_r _ _ | decide) only [Bool.decide_eq_true, Bool.decide_eq_false, ↓if_pos, ↓if_neg, ↓reduceIte, Nat.reduceEqDiff, Int.reduceLE, Int.reduceLT, Int.reduceEq, Int.reduceNe, Nat.reduceBEq, Int.reduceAdd, Int.reduceMul, Int.reduceSub, Int.reduceNeg, Nat.reduceAdd, not_false_eq_true, not_true_eq_false, decide_true, decide_false, Bool.not_true, Bool.not_false, Bool.true_and, Bool.false_and, Bool.and_true, Bool.and_false, Bool.true_or, Bool.false_or, Bool.or_true, Bool.or_false, Bool.not_not, decide_not, Decidable.not_not, ite_not, b2i_t, b2i_f, ne_eq, Bool.not_eq_true, Bool.not_eq_false, decide_eq_true_eq, decide_eq_false_iff_not, Bool.false_eq_true, Bool.true_eq_false, reduceCtorEq, if_true, if_false, ite_self, ite_b0, ite_b1, ite_0b, ite_1b, ite_bb, x_done, x_blk, x_lp, x_er, erL_0, erL_t, erL_f, kl_n, kl_i, kl_r, kl_l, bd_i, bd_r, bk_i, bk_e, bk_n, bk_r, bd_ite, bk_ite, lk_i, lk_e, lk_n, lk_r, lk_ite, ite_nx, b2i_i, b2i_n, b2i_0, b2i_1, b2i_e, bres_r, bres_ite, mres_v, mres_n, sF_1, sF_2, sA_1, sA_2, zcmp_lt, zcmp_gt, zcmp_le, zcmp_ge, zcmp_eq, List.lookup_cons, List.lookup_nil, mresX_v, mresX_n, mresX_t, bd_t, bres_t, y_rO, y_dO, y_dA, yO_o, yO_n, dR_e, rOx_s, rOx_n, dAx_s, dAx_n, wup_s, wup_n, fup_s, fup_n, beq_self_eq_true, Nat.reduceBEq, Nat.reduceLT, Nat.reduceSub, x_iconst, x_istore_n2, x_iload_n2, x_aload_n0, y_get, yGet_o, yLk_s, x_callG1, x_icmp_ge, x_if_le, x_aload_n1, x_callG2, y_cast, yCast_o, x_iinc2, x_goto, x_return, k1]
    refine ⟨fun hN => ?_, fun hN => ?_⟩
    · obtain ⟨M, rfl⟩ : ∃ M, N = M + 1 := ⟨N - 1, by omega⟩
      rw [text_many]
      exact ⟨9, G, h3, Or.inr (Or.inr (Or.inr rfl)), key M w L h3 h7 h8 hP (by omega) (by omega)⟩
    · obtain ⟨M, rfl⟩ : ∃ M, N = M + 1 + 1 := ⟨N - 2, by omega⟩
      have p1 : ∃ F, w pa = some (.inr (11, F)) := by obtain ⟨F, T, p1, -⟩ := hP; exact ⟨F, p1⟩
      obtain ⟨F1, p1⟩ := p1
      obtain ⟨w1, e1, e2, e3⟩ := c_put (l := l) (δ := δ) (zz := zz) (c := 40) hP (by omega) (by omega)
      have h3' := (e3 r nr.1 nr.2).trans h3
      obtain ⟨w2, k1, k2, k3⟩ := key M w1 _ h3' (h7.fr (e3 la nl.1 nl.2) (e3 e ne.1 ne.2)) (h8.mono2 hZ e3 h) e2 (by rw [List.length_append]; simp only [List.length_singleton]; omega) (by omega)
      have p2 : ∃ F, w2 pa = some (.inr (11, F)) := by obtain ⟨F, T, p1, -⟩ := k2; exact ⟨F, p1⟩
      obtain ⟨F2, p2⟩ := p2
      have tl := tx_len h (Fo.sgM a)
      rw [if_pos rfl] at tl
      obtain ⟨w3, j1, j2, j3⟩ := c_put (l := l) (δ := δ) (zz := zz) (c := 41) k2 (by omega) (by rw [List.length_append, List.length_append]; simp only [List.length_singleton]; omega)
      refine ⟨9, G, h3, Or.inr (Or.inr (Or.inr rfl)), w3, ?_, ?_, fun x q1 q2 => by rw [j3 x q1 q2, k3 x q1 q2, e3 x q1 q2]⟩
      · show (R_wri l δ (M + 1 + 1)).2.2.2.2.1 _ _ = _
        rw [N_X10_writeWithin]; unfold B_X10_writeWithin
        simp (disch := first | rfl | exact okv_i | exact okv_o | exact okv_a | exact b_ft _ | (simp only [wt_c, wt_0, vc_i, vc_l, vc_r] <;> decide) | omega | exact i32_r _ | exact b2i_r _ | exact b2i_01 _ | exact zAnd_r _ _ | exact zOr_r _ _ | exact zXor_r _ _ | exact zShl_r _ _ | exact zShr_r _ _ | exact zByte_r _ | exact zcmp_r _ _ | decide) only [Bool.decide_eq_true, Bool.decide_eq_false, ↓if_pos, ↓if_neg, ↓reduceIte, Nat.reduceEqDiff, Int.reduceLE, Int.reduceLT, Int.reduceEq, Int.reduceNe, Nat.reduceBEq, Int.reduceAdd, Int.reduceMul, Int.reduceSub, Int.reduceNeg, Nat.reduceAdd, not_false_eq_true, not_true_eq_false, decide_true, decide_false, Bool.not_true, Bool.not_false, Bool.true_and, Bool.false_and, Bool.and_true, Bool.and_false, Bool.true_or, Bool.false_or, Bool.or_true, Bool.or_false, Bool.not_not, decide_not, Decidable.not_not, ite_not, b2i_t, b2i_f, ne_eq, Bool.not_eq_true, Bool.not_eq_false, decide_eq_true_eq, decide_eq_false_iff_not, Bool.false_eq_true, Bool.true_eq_false, reduceCtorEq, if_true, if_false, ite_self, ite_b0, ite_b1, ite_0b, ite_1b, ite_bb, x_done, x_blk, x_lp, x_er, erL_0, erL_t, erL_f, kl_n, kl_i, kl_r, kl_l, bd_i, bd_r, bk_i, bk_e, bk_n, bk_r, bd_ite, bk_ite, lk_i, lk_e, lk_n, lk_r, lk_ite, ite_nx, b2i_i, b2i_n, b2i_0, b2i_1, b2i_e, bres_r, bres_ite, mres_v, mres_n, sF_1, sF_2, sA_1, sA_2, zcmp_lt, zcmp_gt, zcmp_le, zcmp_ge, zcmp_eq, List.lookup_cons, List.lookup_nil, mresX_v, mresX_n, mresX_t, bd_t, bres_t, y_rO, y_dO, y_dA, yO_o, yO_n, dR_e, rOx_s, rOx_n, dAx_s, dAx_n, wup_s, wup_n, fup_s, fup_n, beq_self_eq_true, Nat.reduceBEq, Nat.reduceLT, Nat.reduceSub, x_aload_n1, x_bipush, x_callG2, x_aload_n0, x_return, h3, p1, e1, h3', k1, p2, j1]
      · rw [tx_many, show (40 : Int) :: (Fo.tx t (Fo.sgM a) ++ [41]) = [40] ++ Fo.tx t (Fo.sgM a) ++ [41] from rfl, ← List.append_assoc, ← List.append_assoc]
        exact j2
  | nil q =>
    refine ⟨fun z => (by cases z), fun _ hq0 hq8 N E k r0 r la e c n F a w L hF hP hL hN h1 h2 h3 hCL hZr hk hkn => ?_⟩
    rw [len_nil] at hkn
    have hk' : k = n := by omega
    subst hk'
    refine ⟨w, ?_, by rw [rowT_nil, List.append_nil]; exact hP, fun _ _ _ => rfl⟩
    have hL0 := hCL
    obtain ⟨G, g1, -, -, -, -, g6, g7⟩ := hCL
    rw [lpD_eq, L_X10_write_2]; unfold C_X10_write_L2
    simp (disch := first | rfl | exact okv_i | exact okv_o | exact okv_a | exact b_ft _ | (simp only [wt_c, wt_0, vc_i, vc_l, vc_r] <;> decide) | omega | exact i32_r _ | exact b2i_r _ | exact b2i_01 _ | exact zAnd_r _ _ | exact zOr_r _ _ | exact zXor_r _ _ | exact zShl_r _ _ | exact zShr_r _ _ | exact zByte_r _ | exact zcmp_r _ _ | decide) only [Bool.decide_eq_true, Bool.decide_eq_false, ↓if_pos, ↓if_neg, ↓reduceIte, Nat.reduceEqDiff, Int.reduceLE, Int.reduceLT, Int.reduceEq, Int.reduceNe, Nat.reduceBEq, Int.reduceAdd, Int.reduceMul, Int.reduceSub, Int.reduceNeg, Nat.reduceAdd, not_false_eq_true, not_true_eq_false, decide_true, decide_false, Bool.not_true, Bool.not_false, Bool.true_and, Bool.false_and, Bool.and_true, Bool.and_false, Bool.true_or, Bool.false_or, Bool.or_true, Bool.or_false, Bool.not_not, decide_not, Decidable.not_not, ite_not, b2i_t, b2i_f, ne_eq, Bool.not_eq_true, Bool.not_eq_false, decide_eq_true_eq, decide_eq_false_iff_not, Bool.false_eq_true, Bool.true_eq_false, reduceCtorEq, if_true, if_false, ite_self, ite_b0, ite_b1, ite_0b, ite_1b, ite_bb, x_done, x_blk, x_lp, x_er, erL_0, erL_t, erL_f, kl_n, kl_i, kl_r, kl_l, bd_i, bd_r, bk_i, bk_e, bk_n, bk_r, bd_ite, bk_ite, lk_i, lk_e, lk_n, lk_r, lk_ite, ite_nx, b2i_i, b2i_n, b2i_0, b2i_1, b2i_e, bres_r, bres_ite, mres_v, mres_n, sF_1, sF_2, sA_1, sA_2, zcmp_lt, zcmp_gt, zcmp_le, zcmp_ge, zcmp_eq, List.lookup_cons, List.lookup_nil, mresX_v, mresX_n, mresX_t, bd_t, bres_t, y_rO, y_dO, y_dA, yO_o, yO_n, dR_e, rOx_s, rOx_n, dAx_s, dAx_n, wup_s, wup_n, fup_s, fup_n, beq_self_eq_true, Nat.reduceBEq, Nat.reduceLT, Nat.reduceSub, x_iconst, x_istore_n2, x_iload_n2, x_aload_n0, y_get, yGet_o, yLk_s, x_callG1, x_icmp_ge, x_if_le, x_aload_n1, x_callG2, y_cast, yCast_o, x_iinc2, x_goto, x_return, h1, h2, g1, c_size hL0]
  | cons g t q hg ht ig it =>
    refine ⟨fun z => (by cases z), fun _ hq0 hq8 N E k r0 r la e c n F a w L hF hP hL hN h1 h2 h3 hCL hZr hk hkn => ?_⟩
    rw [len_cons] at hkn
    rw [ht_cons] at hN
    rw [sz_cons] at hL
    rw [FR_cons] at hF
    obtain ⟨p, f1, f2, f3⟩ := hF
    have zr := hZ r hZr.1
    have zl := hZ la hZr.2.1
    have ze := hZ e hZr.2.2
    have gp := sz_pos hg
    have tl := tx_len hg 0
    rw [if_neg (by decide)] at tl
    have step : ∀ w1 L1, PW w1 pa ba L1 → (∀ a, a ≠ pa → a ≠ ba → w1 a = w a) → L1.length + 4 * Fo.sz g ≤ 4800 → ∃ w2 ci G, w1 p = some (.inr (ci, G)) ∧ (ci = 5 ∨ ci = 7 ∨ ci = 8 ∨ ci = 9) ∧ wwiM l δ N ci [.inr (.inr (some p)), .inr (.inr (some pa))] (w1, zz) = some (.inl none, w2, zz) ∧ PW w2 pa ba (L1 ++ Fo.tx g 0) ∧ ∀ a, a ≠ pa → a ≠ ba → w2 a = w a := by
      intro w1 L1 hP1 hk1 hL1
      obtain ⟨ci, G2, g1, hc, ⟨w2, k1, k2, k3⟩⟩ := (ig.1 rfl hq0 hq8 N _ _ p w1 L1 (f2.mono2 hZ hk1 hg) hP1 hL1).2 (by omega)
      exact ⟨w2, ci, G2, g1, hc, k1, k2, fun x q1 q2 => by rw [k3 x q1 q2, hk1 x q1 q2]⟩
    have next : ∀ w2 L2, PW w2 pa ba L2 → (∀ a, a ≠ pa → a ≠ ba → w2 a = w a) → L2.length + 4 * Fo.sz t + 1 ≤ 4800 → ∃ w', lpD 2 (B_X10_write_L2 l δ N (R_wri l δ N)).1 [] [some (.inr (.inr (some r))), some (.inr (.inr (some pa))), some (.inl (k + 1))] (w2, zz) = some (.inr (.inl (50, [], [some (.inr (.inr (some r))), some (.inr (.inr (some pa))), some (.inl (n : Int))], w', zz))) ∧ PW w' pa ba (L2 ++ rowT (Fo.sgM a) t (k + 1)) ∧ ∀ a, a ≠ pa → a ≠ ba → w' a = w a := by
      intro w2 L2 hP2 hk2 hL2
      obtain ⟨w', k1, k2, k3⟩ := it.2 rfl hq0 hq8 N E (k + 1) 0 r la e c n F a w2 L2 (f3.mono2 hZ hk2 ht) hP2 hL2 (by omega) ((hk2 r zr.1 zr.2).trans h1) h2 h3 (hCL.fr (hk2 la zl.1 zl.2) (hk2 e ze.1 ze.2)) hZr (by omega) (by omega)
      exact ⟨w', k1, k2, fun x q1 q2 => by rw [k3 x q1 q2, hk2 x q1 q2]⟩
    have p1 : ∃ F, w pa = some (.inr (11, F)) := by obtain ⟨F, T, p1, -⟩ := hP; exact ⟨F, p1⟩
    obtain ⟨F1, p1⟩ := p1
    have hL0 := hCL
    obtain ⟨G, g1, -, -, -, -, g6, g7⟩ := hCL
    by_cases k0 : k = 0
    · subst k0
      obtain ⟨w2, ci, J, j1, hc, j2, j3, j4⟩ := step w L hP (fun _ _ _ => rfl) (by omega)
      obtain ⟨w', n1, n2, n3⟩ := next w2 _ j3 j4 (by rw [List.length_append]; omega)
      refine ⟨w', ?_, by rw [rowT_c0, ← List.append_assoc]; exact n2, n3⟩
      have ea : (M_J2_get l δ).1 [.inr (.inr (some la)), .inl 0] (w, zz) = some (.inl (some (.inr (.inr (some p)))), w, zz) := c_get hL0 ⟨hk, by omega⟩ f1
      rw [lpD_eq, L_X10_write_2]; unfold C_X10_write_L2
      rcases hc with rfl | rfl | rfl | rfl <;> (simp only [wwiM] at j2; simp (disch := first | rfl | exact okv_i | exact okv_o | exact okv_a | exact b_ft _ | (simp only [wt_c, wt_0, vc_i, vc_l, vc_r] <;> decide) | omega | exact i32_r _ | exact b2i_r _ | exact b2i_01 _ | exact zAnd_r _ _ | exact zOr_r _ _ | exact zXor_r _ _ | exact zShl_r _ _ | exact zShr_r _ _ | exact zByte_r _ | exact zcmp_r _ _ | decide) only [Bool.decide_eq_true, Bool.decide_eq_false, ↓if_pos, ↓if_neg, ↓reduceIte, Nat.reduceEqDiff, Int.reduceLE, Int.reduceLT, Int.reduceEq, Int.reduceNe, Nat.reduceBEq, Int.reduceAdd, Int.reduceMul, Int.reduceSub, Int.reduceNeg, Nat.reduceAdd, not_false_eq_true, not_true_eq_false, decide_true, decide_false, Bool.not_true, Bool.not_false, Bool.true_and, Bool.false_and, Bool.and_true, Bool.and_false, Bool.true_or, Bool.false_or, Bool.or_true, Bool.or_false, Bool.not_not, decide_not, Decidable.not_not, ite_not, b2i_t, b2i_f, ne_eq, Bool.not_eq_true, Bool.not_eq_false, decide_eq_true_eq, decide_eq_false_iff_not, Bool.false_eq_true, Bool.true_eq_false, reduceCtorEq, if_true, if_false, ite_self, ite_b0, ite_b1, ite_0b, ite_1b, ite_bb, x_done, x_blk, x_lp, x_er, erL_0, erL_t, erL_f, kl_n, kl_i, kl_r, kl_l, bd_i, bd_r, bk_i, bk_e, bk_n, bk_r, bd_ite, bk_ite, lk_i, lk_e, lk_n, lk_r, lk_ite, ite_nx, b2i_i, b2i_n, b2i_0, b2i_1, b2i_e, bres_r, bres_ite, mres_v, mres_n, sF_1, sF_2, sA_1, sA_2, zcmp_lt, zcmp_gt, zcmp_le, zcmp_ge, zcmp_eq, List.lookup_cons, List.lookup_nil, mresX_v, mresX_n, mresX_t, bd_t, bres_t, y_rO, y_dO, y_dA, yO_o, yO_n, dR_e, rOx_s, rOx_n, dAx_s, dAx_n, wup_s, wup_n, fup_s, fup_n, beq_self_eq_true, Nat.reduceBEq, Nat.reduceLT, Nat.reduceSub, x_iconst, x_istore_n2, x_iload_n2, x_aload_n0, y_get, yGet_o, yLk_s, x_callG1, x_icmp_ge, x_if_le, x_aload_n1, x_callG2, y_cast, yCast_o, x_iinc2, x_goto, x_return, h1, h2, h3, g1, c_size hL0, ea, j1, j2]; exact n1)
    · have sg := sgM_r a
      obtain ⟨w1, e1, e2, e3⟩ := c_put (l := l) (δ := δ) (zz := zz) (c := Fo.sgM a) hP (by omega) (by omega)
      obtain ⟨w2, ci, J, j1, hc, j2, j3, j4⟩ := step w1 _ e2 e3 (by rw [List.length_append]; simp only [List.length_singleton]; omega)
      obtain ⟨w', n1, n2, n3⟩ := next w2 _ j3 j4 (by rw [List.length_append, List.length_append]; simp only [List.length_singleton]; omega)
      refine ⟨w', ?_, by rw [rowT_c (by omega), show Fo.sgM a :: (Fo.tx g 0 ++ rowT (Fo.sgM a) t (k + 1)) = [Fo.sgM a] ++ Fo.tx g 0 ++ rowT (Fo.sgM a) t (k + 1) from rfl, ← List.append_assoc, ← List.append_assoc]; exact n2, n3⟩
      have h1' := (e3 r zr.1 zr.2).trans h1
      have g1' := (e3 la zl.1 zl.2).trans g1
      have ea : (M_J2_get l δ).1 [.inr (.inr (some la)), .inl k] (w1, zz) = some (.inl (some (.inr (.inr (some p)))), w1, zz) := c_get (hL0.fr (e3 la zl.1 zl.2) (e3 e ze.1 ze.2)) ⟨hk, by omega⟩ f1
      rw [lpD_eq, L_X10_write_2]; unfold C_X10_write_L2
      rcases hc with rfl | rfl | rfl | rfl <;> (simp only [wwiM] at j2; simp (disch := first | rfl | exact okv_i | exact okv_o | exact okv_a | exact b_ft _ | (simp only [wt_c, wt_0, vc_i, vc_l, vc_r] <;> decide) | omega | exact i32_r _ | exact b2i_r _ | exact b2i_01 _ | exact zAnd_r _ _ | exact zOr_r _ _ | exact zXor_r _ _ | exact zShl_r _ _ | exact zShr_r _ _ | exact zByte_r _ | exact zcmp_r _ _ | decide) only [Bool.decide_eq_true, Bool.decide_eq_false, ↓if_pos, ↓if_neg, ↓reduceIte, Nat.reduceEqDiff, Int.reduceLE, Int.reduceLT, Int.reduceEq, Int.reduceNe, Nat.reduceBEq, Int.reduceAdd, Int.reduceMul, Int.reduceSub, Int.reduceNeg, Nat.reduceAdd, not_false_eq_true, not_true_eq_false, decide_true, decide_false, Bool.not_true, Bool.not_false, Bool.true_and, Bool.false_and, Bool.and_true, Bool.and_false, Bool.true_or, Bool.false_or, Bool.or_true, Bool.or_false, Bool.not_not, decide_not, Decidable.not_not, ite_not, b2i_t, b2i_f, ne_eq, Bool.not_eq_true, Bool.not_eq_false, decide_eq_true_eq, decide_eq_false_iff_not, Bool.false_eq_true, Bool.true_eq_false, reduceCtorEq, if_true, if_false, ite_self, ite_b0, ite_b1, ite_0b, ite_1b, ite_bb, x_done, x_blk, x_lp, x_er, erL_0, erL_t, erL_f, kl_n, kl_i, kl_r, kl_l, bd_i, bd_r, bk_i, bk_e, bk_n, bk_r, bd_ite, bk_ite, lk_i, lk_e, lk_n, lk_r, lk_ite, ite_nx, b2i_i, b2i_n, b2i_0, b2i_1, b2i_e, bres_r, bres_ite, mres_v, mres_n, sF_1, sF_2, sA_1, sA_2, zcmp_lt, zcmp_gt, zcmp_le, zcmp_ge, zcmp_eq, List.lookup_cons, List.lookup_nil, mresX_v, mresX_n, mresX_t, bd_t, bres_t, y_rO, y_dO, y_dA, yO_o, yO_n, dR_e, rOx_s, rOx_n, dAx_s, dAx_n, wup_s, wup_n, fup_s, fup_n, beq_self_eq_true, Nat.reduceBEq, Nat.reduceLT, Nat.reduceSub, x_iconst, x_istore_n2, x_iload_n2, x_aload_n0, y_get, yGet_o, yLk_s, x_callG1, x_icmp_ge, x_if_le, x_aload_n1, x_callG2, y_cast, yCast_o, x_iinc2, x_goto, x_return, h1, h2, h3, g1, c_size hL0, p1, e1, h1', g1', ea, j1, j2]; exact n1)
