/-! ===== the component: sentences ===== -/
set_option maxRecDepth 100000
/-- an array of bytes at x: the text L -/
def TxA (w : Hp) (x : Nat) (L : List Int) : Prop := ∃ T : Int → V, w x = some (.inl (1, L.length, T)) ∧ ∀ i : Nat, i < L.length → T i = .inl (L.getD i 0)
theorem text_len {f : Fo} {q : Int} (h : Fo.wf f false q) : (Fo.text f).length ≤ 4 * Fo.sz f := by
  rcases wf_f h with ⟨k', m', n', rfl, h'⟩ | ⟨g, rfl, h'⟩ | ⟨a, g, rfl, hq', h'⟩ | ⟨a, l', rfl, h2', h'⟩
  · have := tx_len h 0; rw [text_atom]; omega
  · have := tx_len h 0; rw [text_not]; omega
  · have := tx_len h 0; rw [text_each]; omega
  · have := tx_len h' (Fo.sgM a); rw [text_many, sz_many]; rw [if_pos rfl] at this; omega
theorem vrT_r {q m : Int} (h : 0 ≤ m ∧ m ≤ 8) : ∀ c, c ∈ vrT m → 0 ≤ c ∧ c ≤ 127 := by
  intro c hc
  unfold vrT at hc
  split at hc
  · simp at hc; omega
  · cases hc
theorem tx_r {f : Fo} {b : Bool} {q : Int} (h : Fo.wf f b q) : 0 ≤ q → q ≤ 8 → ∀ (s : Int), (0 ≤ s ∧ s ≤ 127) → ∀ c, c ∈ Fo.tx f s → 0 ≤ c ∧ c ≤ 127 := by
  induction f, b, q, h using wf_ind with
  | atom k m n q h =>
    intro h0 h8 s hs c hc
    rw [tx_atom h] at hc
    have sg := sgA_r (k := k)
    unfold Fo.okA at h
    rcases List.mem_cons.mp hc with rfl | hc
    · omega
    · rcases List.mem_append.mp hc with hc | hc
      · exact vrT_r (q := q) (by omega) c hc
      · exact vrT_r (q := q) (by omega) c hc
  | not f q h ih =>
    intro h0 h8 s hs c hc
    rw [tx_not] at hc
    rcases List.mem_cons.mp hc with rfl | hc
    · omega
    · exact ih h0 h8 0 (by omega) c hc
  | each a f q hq h ih =>
    intro h0 h8 s hs c hc
    rw [tx_each] at hc
    have sg := sgQ_r a
    rcases List.mem_cons.mp hc with rfl | hc
    · omega
    · rcases List.mem_cons.mp hc with rfl | hc
      · omega
      · exact ih (by omega) (by omega) 0 (by omega) c hc
  | many a l q h2 h ih =>
    intro h0 h8 s hs c hc
    rw [tx_many] at hc
    have sg := sgM_r a
    rcases List.mem_cons.mp hc with rfl | hc
    · omega
    · rcases List.mem_append.mp hc with hc | hc
      · exact ih h0 h8 _ (by omega) c hc
      · simp at hc; omega
  | nil q => intro h0 h8 s hs c hc; rw [tx_nil] at hc; cases hc
  | cons g t q h1 h2 i1 i2 =>
    intro h0 h8 s hs c hc
    rw [tx_cons] at hc
    rcases List.mem_append.mp hc with hc | hc
    · exact i1 h0 h8 0 (by omega) c hc
    · split at hc
      · cases hc
      · rcases List.mem_cons.mp hc with rfl | hc
        · exact hs
        · exact i2 h0 h8 s hs c hc
theorem text_r {f : Fo} {q : Int} (h : Fo.wf f false q) (h0 : 0 ≤ q) (h8 : q ≤ 8) : ∀ c, c ∈ Fo.text f → 0 ≤ c ∧ c ≤ 127 := by
  rcases wf_f h with ⟨k', m', n', rfl, h'⟩ | ⟨g, rfl, h'⟩ | ⟨a, g, rfl, hq', h'⟩ | ⟨a, l', rfl, h2', h'⟩
  · rw [text_atom]; exact tx_r h h0 h8 0 (by omega)
  · rw [text_not]; exact tx_r h h0 h8 0 (by omega)
  · rw [text_each]; exact tx_r h h0 h8 0 (by omega)
  · rw [text_many]; have := sgM_r a; exact tx_r h' h0 h8 _ (by omega)
section CSE
variable {l : Launch} {δ : Dl} {w : Hp} {z m p : Nat} {Z : Nat → Prop} {f : Fo} {E : Int → V} {i : Int}
theorem c_textOf (hf : Fo.wf f false 0) (hF : FR w Z f E i p) (hZ : ∀ a, Z a → a < z) (hs : Fo.sz f ≤ 1200) (hh : Fo.ht f ≤ 30) : ∃ w', (M_X0_textOf l δ).1 [.inr (.inr (some p))] (w, z, m) = some (.inl (some (.inr (.inr (some (z + 2))))), w', z + 3, m + 4802 + (Fo.text f).length) ∧ TxA w' (z + 2) (Fo.text f) ∧ ∀ a, a < z → w' a = w a := by
  have tl := text_len hf
  have e1 : (M_X12_init l δ).1 [.inr (.inr (some z))] (wup w z (.inr (11, f0_11)), z + 1, m + 2) = some (.inl none, wup (wup (wup w z (.inr (11, f0_11))) (z + 1) (.inl (1, 4800, fun _ => .inl 0))) z (.inr (11, fup f0_11 0 (.inr (.inr (some (z + 1)))))), z + 2, m + 2 + 4800) := by
    rw [N_X12_init]; unfold B_X12_init
    simp (disch := first | rfl | exact okv_i | exact okv_o | exact okv_a | exact b_ft _ | (simp only [wt_c, wt_0, vc_i, vc_l, vc_r] <;> decide) | omega | exact i32_r _ | exact b2i_r _ | exact b2i_01 _ | exact zAnd_r _ _ | exact zOr_r _ _ | exact zXor_r _ _ | exact zShl_r _ _ | exact zShr_r _ _ | exact zByte_r _ | exact zcmp_r _ _ | decide) only [Bool.decide_eq_true, Bool.decide_eq_false, ↓if_pos, ↓if_neg, ↓reduceIte, Nat.reduceEqDiff, Int.reduceLE, Int.reduceLT, Int.reduceEq, Int.reduceNe, Nat.reduceBEq, Int.reduceAdd, Int.reduceMul, Int.reduceSub, Int.reduceNeg, Nat.reduceAdd, not_false_eq_true, not_true_eq_false, decide_true, decide_false, Bool.not_true, Bool.not_false, Bool.true_and, Bool.false_and, Bool.and_true, Bool.and_false, Bool.true_or, Bool.false_or, Bool.or_true, Bool.or_false, Bool.not_not, decide_not, Decidable.not_not, ite_not, b2i_t, b2i_f, ne_eq, Bool.not_eq_true, Bool.not_eq_false, decide_eq_true_eq, decide_eq_false_iff_not, Bool.false_eq_true, Bool.true_eq_false, reduceCtorEq, if_true, if_false, ite_self, ite_b0, ite_b1, ite_0b, ite_1b, ite_bb, x_done, x_blk, x_lp, x_er, erL_0, erL_t, erL_f, kl_n, kl_i, kl_r, kl_l, bd_i, bd_r, bk_i, bk_e, bk_n, bk_r, bd_ite, bk_ite, lk_i, lk_e, lk_n, lk_r, lk_ite, ite_nx, b2i_i, b2i_n, b2i_0, b2i_1, b2i_e, bres_r, bres_ite, mres_v, mres_n, sF_1, sF_2, sA_1, sA_2, zcmp_lt, zcmp_gt, zcmp_le, zcmp_ge, zcmp_eq, List.lookup_cons, List.lookup_nil, mresX_v, mresX_n, mresX_t, bd_t, bres_t, y_rO, y_dO, y_dA, yO_o, yO_n, dR_e, rOx_s, rOx_n, dAx_s, dAx_n, wup_s, wup_n, fup_s, fup_n, beq_self_eq_true, Nat.reduceBEq, Nat.reduceLT, Nat.reduceSub, x_aload_n0, x_callG1, x_objI, x_sipush, y_newa0, y_newa1, y_newa2, y_newa3, Int.reduceToNat, y_put, y_putF, yPut_o, yPk_s, x_return]
  have fr : ∀ a, a < z → wup (wup (wup w z (.inr (11, f0_11))) (z + 1) (.inl (1, 4800, fun _ => .inl 0))) z (.inr (11, fup f0_11 0 (.inr (.inr (some (z + 1)))))) a = w a := fun a h => by rw [wup_n (by omega), wup_n (by omega), wup_n (by omega)]
  have hP : PW (wup (wup (wup w z (.inr (11, f0_11))) (z + 1) (.inl (1, 4800, fun _ => .inl 0))) z (.inr (11, fup f0_11 0 (.inr (.inr (some (z + 1))))))) z (z + 1) [] := ⟨_, fun _ => .inl 0, wup_s, rfl, rfl, by rw [wup_n (by omega), wup_s], fun i h => by simp at h⟩
  obtain ⟨ci, G, g1, hc, ⟨w2, k1, k2, k3⟩⟩ := ((c_write (l := l) (δ := δ) (Z := Z) (pa := z) (ba := z + 1) (zz := (z + 2, m + 2 + 4800)) (fun a ha => by have := hZ a ha; omega) hf).1 rfl (by omega) (by omega) 80 E i p _ [] (FR.mono (fun a ha => ⟨ha, fr a (hZ a ha)⟩) hf _ _ _ hF) hP (by simp; omega)).1 (by omega)
  rw [List.nil_append] at k2
  obtain ⟨F, T, p1, p2, p3, p4, p5⟩ := k2
  have tr := text_r hf (by omega) (by omega)
  have cp : ∀ i : Int, 0 ≤ i → i < ((Fo.text f).length : Int) → ∃ c, T i = .inl c ∧ -128 ≤ c ∧ c ≤ 127 := fun i h1 h2 => by
    have := p5 i.toNat (by omega)
    rw [show ((i.toNat : Nat) : Int) = i by omega] at this
    refine ⟨_, this, ?_⟩
    have hm : (Fo.text f).getD i.toNat 0 ∈ Fo.text f := by
      rw [List.getD_eq_getElem?_getD, List.getElem?_eq_getElem (by omega)]
      exact List.getElem_mem _
    have := tr _ hm
    omega
  refine ⟨wup (wup w2 (z + 2) (.inl (1, (Fo.text f).length, fun _ => .inl 0))) (z + 2) (.inl (1, (Fo.text f).length, cpyV T (fun _ => .inl 0) ((Fo.text f).length : Int))), ?_, ⟨_, wup_s, fun i hi => ?_⟩, fun a h => by rw [wup_n (by omega), wup_n (by omega), k3 a (by omega) (by omega), fr a h]⟩
  · rw [N_X0_textOf]; unfold B_X0_textOf
    have g1' : w2 z = some (.inr (11, F)) := p1
    rcases hc with rfl | rfl | rfl | rfl <;> (simp only [wriM] at k1; simp (disch := first | rfl | exact okv_i | exact okv_o | exact okv_a | exact b_ft _ | (simp only [wt_c, wt_0, vc_i, vc_l, vc_r] <;> decide) | omega | exact i32_r _ | exact b2i_r _ | exact b2i_01 _ | exact zAnd_r _ _ | exact zOr_r _ _ | exact zXor_r _ _ | exact zShl_r _ _ | exact zShr_r _ _ | exact zByte_r _ | exact zcmp_r _ _ | decide) only [Bool.decide_eq_true, Bool.decide_eq_false, ↓if_pos, ↓if_neg, ↓reduceIte, Nat.reduceEqDiff, Int.reduceLE, Int.reduceLT, Int.reduceEq, Int.reduceNe, Nat.reduceBEq, Int.reduceAdd, Int.reduceMul, Int.reduceSub, Int.reduceNeg, Nat.reduceAdd, not_false_eq_true, not_true_eq_false, decide_true, decide_false, Bool.not_true, Bool.not_false, Bool.true_and, Bool.false_and, Bool.and_true, Bool.and_false, Bool.true_or, Bool.false_or, Bool.or_true, Bool.or_false, Bool.not_not, decide_not, Decidable.not_not, ite_not, b2i_t, b2i_f, ne_eq, Bool.not_eq_true, Bool.not_eq_false, decide_eq_true_eq, decide_eq_false_iff_not, Bool.false_eq_true, Bool.true_eq_false, reduceCtorEq, if_true, if_false, ite_self, ite_b0, ite_b1, ite_0b, ite_1b, ite_bb, x_done, x_blk, x_lp, x_er, erL_0, erL_t, erL_f, kl_n, kl_i, kl_r, kl_l, bd_i, bd_r, bk_i, bk_e, bk_n, bk_r, bd_ite, bk_ite, lk_i, lk_e, lk_n, lk_r, lk_ite, ite_nx, b2i_i, b2i_n, b2i_0, b2i_1, b2i_e, bres_r, bres_ite, mres_v, mres_n, sF_1, sF_2, sA_1, sA_2, zcmp_lt, zcmp_gt, zcmp_le, zcmp_ge, zcmp_eq, List.lookup_cons, List.lookup_nil, mresX_v, mresX_n, mresX_t, bd_t, bres_t, y_rO, y_dO, y_dA, yO_o, yO_n, dR_e, rOx_s, rOx_n, dAx_s, dAx_n, wup_s, wup_n, fup_s, fup_n, beq_self_eq_true, Nat.reduceBEq, Nat.reduceLT, Nat.reduceSub, x_new, x_dup, x_callG1, x_astore_n1, x_aload_n0, x_aload_n1, x_callG2, y_get, yGet_o, yLk_s, y_newa0, y_newa1, y_newa2, y_newa3, Int.reduceToNat, x_astore_n2, x_iconst, x_aload_n2, x_callG5, x_areturn, e1, g1, k1, p1, p2, p3, Int.toNat_natCast]; rw [x_copyB (f := T) (g := fun _ => .inl 0) (n0 := 4800) (n1 := (Fo.text f).length) (by show wup w2 (z + 2) _ (z + 1) = _; rw [wup_n (by omega)]; exact p4) wup_s ⟨by omega, by omega, by omega⟩ ⟨by omega, by omega⟩ rfl cp]; simp (disch := first | rfl | exact okv_i | exact okv_o | exact okv_a | exact b_ft _ | (simp only [wt_c, wt_0, vc_i, vc_l, vc_r] <;> decide) | omega | exact i32_r _ | exact b2i_r _ | exact b2i_01 _ | exact zAnd_r _ _ | exact zOr_r _ _ | exact zXor_r _ _ | exact zShl_r _ _ | exact zShr_r _ _ | exact zByte_r _ | exact zcmp_r _ _ | decide) only [Bool.decide_eq_true, Bool.decide_eq_false, ↓if_pos, ↓if_neg, ↓reduceIte, Nat.reduceEqDiff, Int.reduceLE, Int.reduceLT, Int.reduceEq, Int.reduceNe, Nat.reduceBEq, Int.reduceAdd, Int.reduceMul, Int.reduceSub, Int.reduceNeg, Nat.reduceAdd, not_false_eq_true, not_true_eq_false, decide_true, decide_false, Bool.not_true, Bool.not_false, Bool.true_and, Bool.false_and, Bool.and_true, Bool.and_false, Bool.true_or, Bool.false_or, Bool.or_true, Bool.or_false, Bool.not_not, decide_not, Decidable.not_not, ite_not, b2i_t, b2i_f, ne_eq, Bool.not_eq_true, Bool.not_eq_false, decide_eq_true_eq, decide_eq_false_iff_not, Bool.false_eq_true, Bool.true_eq_false, reduceCtorEq, if_true, if_false, ite_self, ite_b0, ite_b1, ite_0b, ite_1b, ite_bb, x_done, x_blk, x_lp, x_er, erL_0, erL_t, erL_f, kl_n, kl_i, kl_r, kl_l, bd_i, bd_r, bk_i, bk_e, bk_n, bk_r, bd_ite, bk_ite, lk_i, lk_e, lk_n, lk_r, lk_ite, ite_nx, b2i_i, b2i_n, b2i_0, b2i_1, b2i_e, bres_r, bres_ite, mres_v, mres_n, sF_1, sF_2, sA_1, sA_2, zcmp_lt, zcmp_gt, zcmp_le, zcmp_ge, zcmp_eq, List.lookup_cons, List.lookup_nil, mresX_v, mresX_n, mresX_t, bd_t, bres_t, y_rO, y_dO, y_dA, yO_o, yO_n, dR_e, rOx_s, rOx_n, dAx_s, dAx_n, wup_s, wup_n, fup_s, fup_n, beq_self_eq_true, Nat.reduceBEq, Nat.reduceLT, Nat.reduceSub, x_new, x_dup, x_callG1, x_astore_n1, x_aload_n0, x_aload_n1, x_callG2, y_get, yGet_o, yLk_s, y_newa0, y_newa1, y_newa2, y_newa3, Int.reduceToNat, x_astore_n2, x_iconst, x_aload_n2, x_callG5, x_areturn])
  · unfold cpyV
    rw [if_pos ⟨by omega, by omega⟩]
    exact p5 i hi
/-- a sentence at r: the formula f -/
def SR (w : Hp) (Z : Nat → Prop) (r : Nat) (f : Fo) : Prop := Z r ∧ ∃ (F : Nat → V) (p x : Nat), w r = some (.inr (10, F)) ∧ F 0 = .inr (.inr (some p)) ∧ F 1 = .inl (Fo.dp f : Int) ∧ F 2 = .inl (Fo.sz f : Int) ∧ F 3 = .inr (.inr (some x)) ∧ Z x ∧ TxA w x (Fo.text f) ∧ FR w Z f (fun _ => .inl 0) 0 p
theorem SR.mono {w w' : Hp} {Z Z' : Nat → Prop} {r : Nat} {q : Int} (hf : Fo.wf f false q) (h : SR w Z r f) (hZ : ∀ a, Z a → Z' a ∧ w' a = w a) : SR w' Z' r f := by
  obtain ⟨z1, F, p, x, h1, h2, h3, h4, h5, z2, ⟨T, h6, h7⟩, h8⟩ := h
  exact ⟨(hZ r z1).1, F, p, x, (hZ r z1).2.trans h1, h2, h3, h4, h5, (hZ x z2).1, ⟨T, (hZ x z2).2.trans h6, h7⟩, FR.mono hZ hf _ _ _ h8⟩
end CSE
