/-! ===== the reference: answers, winning picks, plays ===== -/
set_option maxRecDepth 100000
/-- a pick of the first world's things ahead of the second's is answered -/
def PK (A B : Wd) (f g : Int → Int) (n k : Nat) (p : Int) : Bool := if p < A.1 then anyU B.1.toNat (GB A B f g n k 0 p) else anyU A.1.toNat (GB A B f g n k 1 (p - A.1))
theorem anyU_f {k : Nat} {f : Int → Bool} (h : ∀ i : Int, 0 ≤ i → i < k → f i = false) : anyU k f = false := by
  cases q : anyU k f with
  | false => rfl
  | true =>
    obtain ⟨i, h1, h2, h3⟩ := anyU_iff.mp q
    rw [h i h1 h2] at h3
    cases h3
theorem anyU_t {k : Nat} {f : Int → Bool} {i : Int} (h1 : 0 ≤ i) (h2 : i < k) (h3 : f i = true) : anyU k f = true := anyU_iff.mpr ⟨i, h1, h2, h3⟩
theorem GB_congr {A B : Wd} {f g f' g' : Int → Int} {n k : Nat} {s a b : Int} (hf : ∀ j : Int, 0 ≤ j → j < n → f j = f' j) (hg : ∀ j : Int, 0 ≤ j → j < n → g j = g' j) : GB A B f g n k s a b = GB A B f' g' n k s a b := by
  have hu : ∀ {f f' : Int → Int} {x : Int}, (∀ j : Int, 0 ≤ j → j < n → f j = f' j) → ∀ j : Int, 0 ≤ j → j ≤ n → iup f n x j = iup f' n x j := fun h j h1 h2 => by
    by_cases e : j = n
    · subst e; rw [iup_s, iup_s]
    · rw [iup_n e, iup_n e]; exact h j h1 (by omega)
  have hu' : ∀ {f f' : Int → Int} {x : Int}, (∀ j : Int, 0 ≤ j → j < n → f j = f' j) → ∀ j : Int, 0 ≤ j → j < (n + 1 : Nat) → iup f n x j = iup f' n x j := fun h j h1 h2 => hu h j h1 (by omega)
  unfold GB
  by_cases h : s = 0
  · rw [if_pos h, if_pos h, PA_congr (hu hf) (hu hg), KP_congr (hu' hf) (hu' hg)]
  · rw [if_neg h, if_neg h, PA_congr (hu hf) (hu hg), KP_congr (hu' hf) (hu' hg)]
theorem e_answerTo0 {l : Launch} {δ : Dl} {w0 : Hp} {o : Nat} {σ : MS} {z : Nat × Nat} (hI : WI σ) {n : Nat} (hn : σ.1 7 = n) (hR : RI σ n) {k : Nat} (hk3 : k ≤ 3) (hm : n + 1 + k ≤ 5) (hAL : AL (wd σ (σ.1 5)) (wd σ (σ.1 6)) (σ.2 8) (σ.2 9) n = true) {a : Int} (ha : 0 ≤ a ∧ a < σ.2 0 (σ.1 5)) : ∃ τ' r, Kp σ τ' ∧ ((∃ b : Int, r = b ∧ 0 ≤ b ∧ b < σ.2 0 (σ.1 6) ∧ GB (wd σ (σ.1 5)) (wd σ (σ.1 6)) (σ.2 8) (σ.2 9) n k 0 a b = true ∧ ∀ j : Int, 0 ≤ j → j < b → GB (wd σ (σ.1 5)) (wd σ (σ.1 6)) (σ.2 8) (σ.2 9) n k 0 a j = false) ∨ (r = -1 ∧ ∀ j : Int, 0 ≤ j → j < σ.2 0 (σ.1 6) → GB (wd σ (σ.1 5)) (wd σ (σ.1 6)) (σ.2 8) (σ.2 9) n k 0 a j = false)) ∧ (M_X1_answerTo l δ).1 [.inr (.inr (some o)), .inl 0, .inl a, .inl (k : Int)] (mw w0 o σ, z) = some (.inl (some (.inl r)), mw w0 o τ', z) := by
  have hN := hI.1 (σ.1 6) (by have := hR.1; have := hR.2.1; omega) (by have := hR.1; have := hR.2.1; omega)
  have hl := lp_fst (h := 3) (e := 54) (D := (B_X1_answerTo_L3 l δ).1) (X := fun i => [some (.inr (.inr (some o))), some (.inl 0), some (.inl a), some (.inl (k : Int)), some (.inl i), none]) (N := (σ.2 0 (σ.1 6)).toNat) (p := fun i => GB (wd σ (σ.1 5)) (wd σ (σ.1 6)) (σ.2 8) (σ.2 9) n k 0 a i) (rv := fun i => .inl i) (P := fun s => ∃ τ, Kp σ τ ∧ s = (mw w0 o τ, z)) (by decide) ?_ ?_ ?_ (mw w0 o σ, z) ⟨σ, Kp.rf, rfl⟩
  · obtain ⟨s', ⟨τ, hk, rfl⟩, h⟩ := hl
    rcases h with ⟨i, h1, h2, h3, h4, h5⟩ | ⟨h1, h2⟩
    · refine ⟨τ, i, hk, Or.inl ⟨i, rfl, h1, by omega, h3, h4⟩, ?_⟩
      rw [N_X1_answerTo]; unfold B_X1_answerTo
      simp (disch := first | rfl | (simp only [wt_c, wt_0, vc_i, vc_l, vc_r] <;> decide) | omega | exact i32_r _ | exact b2i_r _ | exact b2i_01 _ | exact zAnd_r _ _ | exact zOr_r _ _ | exact zXor_r _ _ | exact zShl_r _ _ | exact zShr_r _ _ | exact zByte_r _ | exact zcmp_r _ _ | decide) only [Bool.decide_eq_true, Bool.decide_eq_false, ↓if_pos, ↓if_neg, ↓reduceIte, Nat.reduceEqDiff, Int.reduceLE, Int.reduceLT, Int.reduceEq, Int.reduceNe, Nat.reduceBEq, Int.reduceAdd, Int.reduceMul, Int.reduceSub, Int.reduceNeg, Nat.reduceAdd, not_false_eq_true, not_true_eq_false, decide_true, decide_false, Bool.not_true, Bool.not_false, Bool.true_and, Bool.false_and, Bool.and_true, Bool.and_false, Bool.true_or, Bool.false_or, Bool.or_true, Bool.or_false, Bool.not_not, decide_not, Decidable.not_not, ite_not, b2i_t, b2i_f, ne_eq, Bool.not_eq_true, Bool.not_eq_false, decide_eq_true_eq, decide_eq_false_iff_not, Bool.false_eq_true, Bool.true_eq_false, reduceCtorEq, if_true, if_false, ite_self, ite_b0, ite_b1, ite_0b, ite_1b, ite_bb, x_done, x_blk, x_lp, x_er, erL_0, erL_t, erL_f, kl_n, kl_i, kl_r, kl_l, bd_i, bd_r, bk_i, bk_e, bk_n, bk_r, bd_ite, bk_ite, lk_i, lk_e, lk_n, lk_r, lk_ite, ite_nx, b2i_i, b2i_n, b2i_0, b2i_1, b2i_e, bres_r, bres_ite, mres_v, mres_n, sF_1, sF_2, sA_1, sA_2, x_iconst, x_istore4, x_iload4, x_aload_n0, x_iload_n1, x_isub, m_call1, x_icmp_ge, x_iload_n2, m_call3, x_iload_n3, x_istore5, x_dup, m_get, fM_7, m_puti, x_iload5, x_if_eq, x_ireturn, x_iinc4, x_goto, h5]
    · refine ⟨τ, -1, hk, Or.inr ⟨rfl, fun j p1 p2 => h1 j p1 (by omega)⟩, ?_⟩
      rw [N_X1_answerTo]; unfold B_X1_answerTo
      simp (disch := first | rfl | (simp only [wt_c, wt_0, vc_i, vc_l, vc_r] <;> decide) | omega | exact i32_r _ | exact b2i_r _ | exact b2i_01 _ | exact zAnd_r _ _ | exact zOr_r _ _ | exact zXor_r _ _ | exact zShl_r _ _ | exact zShr_r _ _ | exact zByte_r _ | exact zcmp_r _ _ | decide) only [Bool.decide_eq_true, Bool.decide_eq_false, ↓if_pos, ↓if_neg, ↓reduceIte, Nat.reduceEqDiff, Int.reduceLE, Int.reduceLT, Int.reduceEq, Int.reduceNe, Nat.reduceBEq, Int.reduceAdd, Int.reduceMul, Int.reduceSub, Int.reduceNeg, Nat.reduceAdd, not_false_eq_true, not_true_eq_false, decide_true, decide_false, Bool.not_true, Bool.not_false, Bool.true_and, Bool.false_and, Bool.and_true, Bool.and_false, Bool.true_or, Bool.false_or, Bool.or_true, Bool.or_false, Bool.not_not, decide_not, Decidable.not_not, ite_not, b2i_t, b2i_f, ne_eq, Bool.not_eq_true, Bool.not_eq_false, decide_eq_true_eq, decide_eq_false_iff_not, Bool.false_eq_true, Bool.true_eq_false, reduceCtorEq, if_true, if_false, ite_self, ite_b0, ite_b1, ite_0b, ite_1b, ite_bb, x_done, x_blk, x_lp, x_er, erL_0, erL_t, erL_f, kl_n, kl_i, kl_r, kl_l, bd_i, bd_r, bk_i, bk_e, bk_n, bk_r, bd_ite, bk_ite, lk_i, lk_e, lk_n, lk_r, lk_ite, ite_nx, b2i_i, b2i_n, b2i_0, b2i_1, b2i_e, bres_r, bres_ite, mres_v, mres_n, sF_1, sF_2, sA_1, sA_2, x_iconst, x_istore4, x_iload4, x_aload_n0, x_iload_n1, x_isub, m_call1, x_icmp_ge, x_iload_n2, m_call3, x_iload_n3, x_istore5, x_dup, m_get, fM_7, m_puti, x_iload5, x_if_eq, x_ireturn, x_iinc4, x_goto, h2]
  · rintro i s h0 h1 ⟨τ, hk, rfl⟩ hp
    have w5 := hI.1 (σ.1 5) (by have := hR.1; omega) (by have := hR.1; omega)
    have w6 := hI.1 (σ.1 6) (by have := hR.2.1; omega) (by have := hR.2.1; omega)
    have e1 := hk.1
    have t5 : 0 ≤ τ.1 5 ∧ τ.1 5 < 8 := by rw [e1]; exact hR.1
    have t6 : 0 ≤ τ.1 6 ∧ τ.1 6 < 8 := by rw [e1]; exact hR.2.1
    have e0 := hk.2.1 0 (by decide) (by decide)
    have h7 : τ.1 7 = n := by rw [e1]; exact hn
    have hIa : WI (addS τ a i) := addS_WI (hk.WI hI)
    have hRa : RI (addS τ a i) ((n : Int) + 1) := addS_RI (hk.RI hn hR) h7 (by rw [e1, e0]; omega) (by rw [e1, e0]; omega)
    obtain ⟨τ', k1, ek⟩ := e_keeps (l := l) (δ := δ) (w0 := w0) (o := o) (z := z) hIa (n := n + 1) (by rw [addS_1, if_pos rfl, h7]; omega) hRa (k := (k : Int)) (by omega) (by omega) (by omega)
    have hv : (AL (wd (addS τ a i) ((addS τ a i).1 5)) (wd (addS τ a i) ((addS τ a i).1 6)) ((addS τ a i).2 8) ((addS τ a i).2 9) (n + 1) && KP (wd (addS τ a i) ((addS τ a i).1 5)) (wd (addS τ a i) ((addS τ a i).1 6)) (k : Int).toNat ((addS τ a i).2 8) ((addS τ a i).2 9) (n + 1)) = GB (wd σ (σ.1 5)) (wd σ (σ.1 6)) (σ.2 8) (σ.2 9) n k 0 a i := by
      rw [Int.toNat_natCast, AL_add hk hn, KP_add hk hn, AL_push, hAL, Bool.true_and]; simp [GB]
    rw [hv, hp] at ek
    have e7 : τ'.1 7 = (n : Int) + 1 := by rw [k1.1, addS_1, if_pos rfl, h7]
    refine ⟨_, ⟨sF τ' 7 n, addS_Kp hk k1 hn.symm, rfl⟩, ?_⟩
    rw [L_X1_answerTo_3]; unfold C_X1_answerTo_L3
    simp (disch := first | rfl | (simp only [wt_c, wt_0, vc_i, vc_l, vc_r] <;> decide) | omega | exact i32_r _ | exact b2i_r _ | exact b2i_01 _ | exact zAnd_r _ _ | exact zOr_r _ _ | exact zXor_r _ _ | exact zShl_r _ _ | exact zShr_r _ _ | exact zByte_r _ | exact zcmp_r _ _ | decide) only [Bool.decide_eq_true, Bool.decide_eq_false, ↓if_pos, ↓if_neg, ↓reduceIte, Nat.reduceEqDiff, Int.reduceLE, Int.reduceLT, Int.reduceEq, Int.reduceNe, Nat.reduceBEq, Int.reduceAdd, Int.reduceMul, Int.reduceSub, Int.reduceNeg, Nat.reduceAdd, not_false_eq_true, not_true_eq_false, decide_true, decide_false, Bool.not_true, Bool.not_false, Bool.true_and, Bool.false_and, Bool.and_true, Bool.and_false, Bool.true_or, Bool.false_or, Bool.or_true, Bool.or_false, Bool.not_not, decide_not, Decidable.not_not, ite_not, b2i_t, b2i_f, ne_eq, Bool.not_eq_true, Bool.not_eq_false, decide_eq_true_eq, decide_eq_false_iff_not, Bool.false_eq_true, Bool.true_eq_false, reduceCtorEq, if_true, if_false, ite_self, ite_b0, ite_b1, ite_0b, ite_1b, ite_bb, x_done, x_blk, x_lp, x_er, erL_0, erL_t, erL_f, kl_n, kl_i, kl_r, kl_l, bd_i, bd_r, bk_i, bk_e, bk_n, bk_r, bd_ite, bk_ite, lk_i, lk_e, lk_n, lk_r, lk_ite, ite_nx, b2i_i, b2i_n, b2i_0, b2i_1, b2i_e, bres_r, bres_ite, mres_v, mres_n, sF_1, sF_2, sA_1, sA_2, x_iconst, x_istore4, x_iload4, x_aload_n0, x_iload_n1, x_isub, m_call1, x_icmp_ge, x_iload_n2, m_call3, x_iload_n3, x_istore5, x_dup, m_get, fM_7, m_puti, x_iload5, x_if_eq, x_ireturn, x_iinc4, x_goto, h7, e1, e0, e_manyOf_0, e_manyOf_1, e_addPick_0, e_addPick_1, ek, e7, Int.add_sub_cancel]
  · rintro i s h0 h1 ⟨τ, hk, rfl⟩ hp
    have w5 := hI.1 (σ.1 5) (by have := hR.1; omega) (by have := hR.1; omega)
    have w6 := hI.1 (σ.1 6) (by have := hR.2.1; omega) (by have := hR.2.1; omega)
    have e1 := hk.1
    have t5 : 0 ≤ τ.1 5 ∧ τ.1 5 < 8 := by rw [e1]; exact hR.1
    have t6 : 0 ≤ τ.1 6 ∧ τ.1 6 < 8 := by rw [e1]; exact hR.2.1
    have e0 := hk.2.1 0 (by decide) (by decide)
    have h7 : τ.1 7 = n := by rw [e1]; exact hn
    have hIa : WI (addS τ a i) := addS_WI (hk.WI hI)
    have hRa : RI (addS τ a i) ((n : Int) + 1) := addS_RI (hk.RI hn hR) h7 (by rw [e1, e0]; omega) (by rw [e1, e0]; omega)
    obtain ⟨τ', k1, ek⟩ := e_keeps (l := l) (δ := δ) (w0 := w0) (o := o) (z := z) hIa (n := n + 1) (by rw [addS_1, if_pos rfl, h7]; omega) hRa (k := (k : Int)) (by omega) (by omega) (by omega)
    have hv : (AL (wd (addS τ a i) ((addS τ a i).1 5)) (wd (addS τ a i) ((addS τ a i).1 6)) ((addS τ a i).2 8) ((addS τ a i).2 9) (n + 1) && KP (wd (addS τ a i) ((addS τ a i).1 5)) (wd (addS τ a i) ((addS τ a i).1 6)) (k : Int).toNat ((addS τ a i).2 8) ((addS τ a i).2 9) (n + 1)) = GB (wd σ (σ.1 5)) (wd σ (σ.1 6)) (σ.2 8) (σ.2 9) n k 0 a i := by
      rw [Int.toNat_natCast, AL_add hk hn, KP_add hk hn, AL_push, hAL, Bool.true_and]; simp [GB]
    rw [hv, hp] at ek
    have e7 : τ'.1 7 = (n : Int) + 1 := by rw [k1.1, addS_1, if_pos rfl, h7]
    refine ⟨_, ⟨sF τ' 7 n, addS_Kp hk k1 hn.symm, rfl⟩, ?_⟩
    rw [L_X1_answerTo_3]; unfold C_X1_answerTo_L3
    simp (disch := first | rfl | (simp only [wt_c, wt_0, vc_i, vc_l, vc_r] <;> decide) | omega | exact i32_r _ | exact b2i_r _ | exact b2i_01 _ | exact zAnd_r _ _ | exact zOr_r _ _ | exact zXor_r _ _ | exact zShl_r _ _ | exact zShr_r _ _ | exact zByte_r _ | exact zcmp_r _ _ | decide) only [Bool.decide_eq_true, Bool.decide_eq_false, ↓if_pos, ↓if_neg, ↓reduceIte, Nat.reduceEqDiff, Int.reduceLE, Int.reduceLT, Int.reduceEq, Int.reduceNe, Nat.reduceBEq, Int.reduceAdd, Int.reduceMul, Int.reduceSub, Int.reduceNeg, Nat.reduceAdd, not_false_eq_true, not_true_eq_false, decide_true, decide_false, Bool.not_true, Bool.not_false, Bool.true_and, Bool.false_and, Bool.and_true, Bool.and_false, Bool.true_or, Bool.false_or, Bool.or_true, Bool.or_false, Bool.not_not, decide_not, Decidable.not_not, ite_not, b2i_t, b2i_f, ne_eq, Bool.not_eq_true, Bool.not_eq_false, decide_eq_true_eq, decide_eq_false_iff_not, Bool.false_eq_true, Bool.true_eq_false, reduceCtorEq, if_true, if_false, ite_self, ite_b0, ite_b1, ite_0b, ite_1b, ite_bb, x_done, x_blk, x_lp, x_er, erL_0, erL_t, erL_f, kl_n, kl_i, kl_r, kl_l, bd_i, bd_r, bk_i, bk_e, bk_n, bk_r, bd_ite, bk_ite, lk_i, lk_e, lk_n, lk_r, lk_ite, ite_nx, b2i_i, b2i_n, b2i_0, b2i_1, b2i_e, bres_r, bres_ite, mres_v, mres_n, sF_1, sF_2, sA_1, sA_2, x_iconst, x_istore4, x_iload4, x_aload_n0, x_iload_n1, x_isub, m_call1, x_icmp_ge, x_iload_n2, m_call3, x_iload_n3, x_istore5, x_dup, m_get, fM_7, m_puti, x_iload5, x_if_eq, x_ireturn, x_iinc4, x_goto, h7, e1, e0, e_manyOf_0, e_manyOf_1, e_addPick_0, e_addPick_1, ek, e7, Int.add_sub_cancel]
  · rintro s ⟨τ, hk, rfl⟩
    have w5 := hI.1 (σ.1 5) (by have := hR.1; omega) (by have := hR.1; omega)
    have w6 := hI.1 (σ.1 6) (by have := hR.2.1; omega) (by have := hR.2.1; omega)
    have e1 := hk.1
    have t5 : 0 ≤ τ.1 5 ∧ τ.1 5 < 8 := by rw [e1]; exact hR.1
    have t6 : 0 ≤ τ.1 6 ∧ τ.1 6 < 8 := by rw [e1]; exact hR.2.1
    have e0 := hk.2.1 0 (by decide) (by decide)
    rw [show (((σ.2 0 (σ.1 6)).toNat : Nat) : Int) = σ.2 0 (σ.1 6) by omega]
    rw [L_X1_answerTo_3]; unfold C_X1_answerTo_L3
    simp (disch := first | rfl | (simp only [wt_c, wt_0, vc_i, vc_l, vc_r] <;> decide) | omega | exact i32_r _ | exact b2i_r _ | exact b2i_01 _ | exact zAnd_r _ _ | exact zOr_r _ _ | exact zXor_r _ _ | exact zShl_r _ _ | exact zShr_r _ _ | exact zByte_r _ | exact zcmp_r _ _ | decide) only [Bool.decide_eq_true, Bool.decide_eq_false, ↓if_pos, ↓if_neg, ↓reduceIte, Nat.reduceEqDiff, Int.reduceLE, Int.reduceLT, Int.reduceEq, Int.reduceNe, Nat.reduceBEq, Int.reduceAdd, Int.reduceMul, Int.reduceSub, Int.reduceNeg, Nat.reduceAdd, not_false_eq_true, not_true_eq_false, decide_true, decide_false, Bool.not_true, Bool.not_false, Bool.true_and, Bool.false_and, Bool.and_true, Bool.and_false, Bool.true_or, Bool.false_or, Bool.or_true, Bool.or_false, Bool.not_not, decide_not, Decidable.not_not, ite_not, b2i_t, b2i_f, ne_eq, Bool.not_eq_true, Bool.not_eq_false, decide_eq_true_eq, decide_eq_false_iff_not, Bool.false_eq_true, Bool.true_eq_false, reduceCtorEq, if_true, if_false, ite_self, ite_b0, ite_b1, ite_0b, ite_1b, ite_bb, x_done, x_blk, x_lp, x_er, erL_0, erL_t, erL_f, kl_n, kl_i, kl_r, kl_l, bd_i, bd_r, bk_i, bk_e, bk_n, bk_r, bd_ite, bk_ite, lk_i, lk_e, lk_n, lk_r, lk_ite, ite_nx, b2i_i, b2i_n, b2i_0, b2i_1, b2i_e, bres_r, bres_ite, mres_v, mres_n, sF_1, sF_2, sA_1, sA_2, x_iconst, x_istore4, x_iload4, x_aload_n0, x_iload_n1, x_isub, m_call1, x_icmp_ge, x_iload_n2, m_call3, x_iload_n3, x_istore5, x_dup, m_get, fM_7, m_puti, x_iload5, x_if_eq, x_ireturn, x_iinc4, x_goto, e1, e0, e_manyOf_0, e_manyOf_1]
theorem e_answerTo1 {l : Launch} {δ : Dl} {w0 : Hp} {o : Nat} {σ : MS} {z : Nat × Nat} (hI : WI σ) {n : Nat} (hn : σ.1 7 = n) (hR : RI σ n) {k : Nat} (hk3 : k ≤ 3) (hm : n + 1 + k ≤ 5) (hAL : AL (wd σ (σ.1 5)) (wd σ (σ.1 6)) (σ.2 8) (σ.2 9) n = true) {a : Int} (ha : 0 ≤ a ∧ a < σ.2 0 (σ.1 6)) : ∃ τ' r, Kp σ τ' ∧ ((∃ b : Int, r = b ∧ 0 ≤ b ∧ b < σ.2 0 (σ.1 5) ∧ GB (wd σ (σ.1 5)) (wd σ (σ.1 6)) (σ.2 8) (σ.2 9) n k 1 a b = true ∧ ∀ j : Int, 0 ≤ j → j < b → GB (wd σ (σ.1 5)) (wd σ (σ.1 6)) (σ.2 8) (σ.2 9) n k 1 a j = false) ∨ (r = -1 ∧ ∀ j : Int, 0 ≤ j → j < σ.2 0 (σ.1 5) → GB (wd σ (σ.1 5)) (wd σ (σ.1 6)) (σ.2 8) (σ.2 9) n k 1 a j = false)) ∧ (M_X1_answerTo l δ).1 [.inr (.inr (some o)), .inl 1, .inl a, .inl (k : Int)] (mw w0 o σ, z) = some (.inl (some (.inl r)), mw w0 o τ', z) := by
  have hN := hI.1 (σ.1 5) (by have := hR.1; have := hR.2.1; omega) (by have := hR.1; have := hR.2.1; omega)
  have hl := lp_fst (h := 3) (e := 54) (D := (B_X1_answerTo_L3 l δ).1) (X := fun i => [some (.inr (.inr (some o))), some (.inl 1), some (.inl a), some (.inl (k : Int)), some (.inl i), none]) (N := (σ.2 0 (σ.1 5)).toNat) (p := fun i => GB (wd σ (σ.1 5)) (wd σ (σ.1 6)) (σ.2 8) (σ.2 9) n k 1 a i) (rv := fun i => .inl i) (P := fun s => ∃ τ, Kp σ τ ∧ s = (mw w0 o τ, z)) (by decide) ?_ ?_ ?_ (mw w0 o σ, z) ⟨σ, Kp.rf, rfl⟩
  · obtain ⟨s', ⟨τ, hk, rfl⟩, h⟩ := hl
    rcases h with ⟨i, h1, h2, h3, h4, h5⟩ | ⟨h1, h2⟩
    · refine ⟨τ, i, hk, Or.inl ⟨i, rfl, h1, by omega, h3, h4⟩, ?_⟩
      rw [N_X1_answerTo]; unfold B_X1_answerTo
      simp (disch := first | rfl | (simp only [wt_c, wt_0, vc_i, vc_l, vc_r] <;> decide) | omega | exact i32_r _ | exact b2i_r _ | exact b2i_01 _ | exact zAnd_r _ _ | exact zOr_r _ _ | exact zXor_r _ _ | exact zShl_r _ _ | exact zShr_r _ _ | exact zByte_r _ | exact zcmp_r _ _ | decide) only [Bool.decide_eq_true, Bool.decide_eq_false, ↓if_pos, ↓if_neg, ↓reduceIte, Nat.reduceEqDiff, Int.reduceLE, Int.reduceLT, Int.reduceEq, Int.reduceNe, Nat.reduceBEq, Int.reduceAdd, Int.reduceMul, Int.reduceSub, Int.reduceNeg, Nat.reduceAdd, not_false_eq_true, not_true_eq_false, decide_true, decide_false, Bool.not_true, Bool.not_false, Bool.true_and, Bool.false_and, Bool.and_true, Bool.and_false, Bool.true_or, Bool.false_or, Bool.or_true, Bool.or_false, Bool.not_not, decide_not, Decidable.not_not, ite_not, b2i_t, b2i_f, ne_eq, Bool.not_eq_true, Bool.not_eq_false, decide_eq_true_eq, decide_eq_false_iff_not, Bool.false_eq_true, Bool.true_eq_false, reduceCtorEq, if_true, if_false, ite_self, ite_b0, ite_b1, ite_0b, ite_1b, ite_bb, x_done, x_blk, x_lp, x_er, erL_0, erL_t, erL_f, kl_n, kl_i, kl_r, kl_l, bd_i, bd_r, bk_i, bk_e, bk_n, bk_r, bd_ite, bk_ite, lk_i, lk_e, lk_n, lk_r, lk_ite, ite_nx, b2i_i, b2i_n, b2i_0, b2i_1, b2i_e, bres_r, bres_ite, mres_v, mres_n, sF_1, sF_2, sA_1, sA_2, x_iconst, x_istore4, x_iload4, x_aload_n0, x_iload_n1, x_isub, m_call1, x_icmp_ge, x_iload_n2, m_call3, x_iload_n3, x_istore5, x_dup, m_get, fM_7, m_puti, x_iload5, x_if_eq, x_ireturn, x_iinc4, x_goto, h5]
    · refine ⟨τ, -1, hk, Or.inr ⟨rfl, fun j p1 p2 => h1 j p1 (by omega)⟩, ?_⟩
      rw [N_X1_answerTo]; unfold B_X1_answerTo
      simp (disch := first | rfl | (simp only [wt_c, wt_0, vc_i, vc_l, vc_r] <;> decide) | omega | exact i32_r _ | exact b2i_r _ | exact b2i_01 _ | exact zAnd_r _ _ | exact zOr_r _ _ | exact zXor_r _ _ | exact zShl_r _ _ | exact zShr_r _ _ | exact zByte_r _ | exact zcmp_r _ _ | decide) only [Bool.decide_eq_true, Bool.decide_eq_false, ↓if_pos, ↓if_neg, ↓reduceIte, Nat.reduceEqDiff, Int.reduceLE, Int.reduceLT, Int.reduceEq, Int.reduceNe, Nat.reduceBEq, Int.reduceAdd, Int.reduceMul, Int.reduceSub, Int.reduceNeg, Nat.reduceAdd, not_false_eq_true, not_true_eq_false, decide_true, decide_false, Bool.not_true, Bool.not_false, Bool.true_and, Bool.false_and, Bool.and_true, Bool.and_false, Bool.true_or, Bool.false_or, Bool.or_true, Bool.or_false, Bool.not_not, decide_not, Decidable.not_not, ite_not, b2i_t, b2i_f, ne_eq, Bool.not_eq_true, Bool.not_eq_false, decide_eq_true_eq, decide_eq_false_iff_not, Bool.false_eq_true, Bool.true_eq_false, reduceCtorEq, if_true, if_false, ite_self, ite_b0, ite_b1, ite_0b, ite_1b, ite_bb, x_done, x_blk, x_lp, x_er, erL_0, erL_t, erL_f, kl_n, kl_i, kl_r, kl_l, bd_i, bd_r, bk_i, bk_e, bk_n, bk_r, bd_ite, bk_ite, lk_i, lk_e, lk_n, lk_r, lk_ite, ite_nx, b2i_i, b2i_n, b2i_0, b2i_1, b2i_e, bres_r, bres_ite, mres_v, mres_n, sF_1, sF_2, sA_1, sA_2, x_iconst, x_istore4, x_iload4, x_aload_n0, x_iload_n1, x_isub, m_call1, x_icmp_ge, x_iload_n2, m_call3, x_iload_n3, x_istore5, x_dup, m_get, fM_7, m_puti, x_iload5, x_if_eq, x_ireturn, x_iinc4, x_goto, h2]
  · rintro i s h0 h1 ⟨τ, hk, rfl⟩ hp
    have w5 := hI.1 (σ.1 5) (by have := hR.1; omega) (by have := hR.1; omega)
    have w6 := hI.1 (σ.1 6) (by have := hR.2.1; omega) (by have := hR.2.1; omega)
    have e1 := hk.1
    have t5 : 0 ≤ τ.1 5 ∧ τ.1 5 < 8 := by rw [e1]; exact hR.1
    have t6 : 0 ≤ τ.1 6 ∧ τ.1 6 < 8 := by rw [e1]; exact hR.2.1
    have e0 := hk.2.1 0 (by decide) (by decide)
    have h7 : τ.1 7 = n := by rw [e1]; exact hn
    have hIa : WI (addS τ i a) := addS_WI (hk.WI hI)
    have hRa : RI (addS τ i a) ((n : Int) + 1) := addS_RI (hk.RI hn hR) h7 (by rw [e1, e0]; omega) (by rw [e1, e0]; omega)
    obtain ⟨τ', k1, ek⟩ := e_keeps (l := l) (δ := δ) (w0 := w0) (o := o) (z := z) hIa (n := n + 1) (by rw [addS_1, if_pos rfl, h7]; omega) hRa (k := (k : Int)) (by omega) (by omega) (by omega)
    have hv : (AL (wd (addS τ i a) ((addS τ i a).1 5)) (wd (addS τ i a) ((addS τ i a).1 6)) ((addS τ i a).2 8) ((addS τ i a).2 9) (n + 1) && KP (wd (addS τ i a) ((addS τ i a).1 5)) (wd (addS τ i a) ((addS τ i a).1 6)) (k : Int).toNat ((addS τ i a).2 8) ((addS τ i a).2 9) (n + 1)) = GB (wd σ (σ.1 5)) (wd σ (σ.1 6)) (σ.2 8) (σ.2 9) n k 1 a i := by
      rw [Int.toNat_natCast, AL_add hk hn, KP_add hk hn, AL_push, hAL, Bool.true_and]; simp [GB]
    rw [hv, hp] at ek
    have e7 : τ'.1 7 = (n : Int) + 1 := by rw [k1.1, addS_1, if_pos rfl, h7]
    refine ⟨_, ⟨sF τ' 7 n, addS_Kp hk k1 hn.symm, rfl⟩, ?_⟩
    rw [L_X1_answerTo_3]; unfold C_X1_answerTo_L3
    simp (disch := first | rfl | (simp only [wt_c, wt_0, vc_i, vc_l, vc_r] <;> decide) | omega | exact i32_r _ | exact b2i_r _ | exact b2i_01 _ | exact zAnd_r _ _ | exact zOr_r _ _ | exact zXor_r _ _ | exact zShl_r _ _ | exact zShr_r _ _ | exact zByte_r _ | exact zcmp_r _ _ | decide) only [Bool.decide_eq_true, Bool.decide_eq_false, ↓if_pos, ↓if_neg, ↓reduceIte, Nat.reduceEqDiff, Int.reduceLE, Int.reduceLT, Int.reduceEq, Int.reduceNe, Nat.reduceBEq, Int.reduceAdd, Int.reduceMul, Int.reduceSub, Int.reduceNeg, Nat.reduceAdd, not_false_eq_true, not_true_eq_false, decide_true, decide_false, Bool.not_true, Bool.not_false, Bool.true_and, Bool.false_and, Bool.and_true, Bool.and_false, Bool.true_or, Bool.false_or, Bool.or_true, Bool.or_false, Bool.not_not, decide_not, Decidable.not_not, ite_not, b2i_t, b2i_f, ne_eq, Bool.not_eq_true, Bool.not_eq_false, decide_eq_true_eq, decide_eq_false_iff_not, Bool.false_eq_true, Bool.true_eq_false, reduceCtorEq, if_true, if_false, ite_self, ite_b0, ite_b1, ite_0b, ite_1b, ite_bb, x_done, x_blk, x_lp, x_er, erL_0, erL_t, erL_f, kl_n, kl_i, kl_r, kl_l, bd_i, bd_r, bk_i, bk_e, bk_n, bk_r, bd_ite, bk_ite, lk_i, lk_e, lk_n, lk_r, lk_ite, ite_nx, b2i_i, b2i_n, b2i_0, b2i_1, b2i_e, bres_r, bres_ite, mres_v, mres_n, sF_1, sF_2, sA_1, sA_2, x_iconst, x_istore4, x_iload4, x_aload_n0, x_iload_n1, x_isub, m_call1, x_icmp_ge, x_iload_n2, m_call3, x_iload_n3, x_istore5, x_dup, m_get, fM_7, m_puti, x_iload5, x_if_eq, x_ireturn, x_iinc4, x_goto, h7, e1, e0, e_manyOf_0, e_manyOf_1, e_addPick_0, e_addPick_1, ek, e7, Int.add_sub_cancel]
  · rintro i s h0 h1 ⟨τ, hk, rfl⟩ hp
    have w5 := hI.1 (σ.1 5) (by have := hR.1; omega) (by have := hR.1; omega)
    have w6 := hI.1 (σ.1 6) (by have := hR.2.1; omega) (by have := hR.2.1; omega)
    have e1 := hk.1
    have t5 : 0 ≤ τ.1 5 ∧ τ.1 5 < 8 := by rw [e1]; exact hR.1
    have t6 : 0 ≤ τ.1 6 ∧ τ.1 6 < 8 := by rw [e1]; exact hR.2.1
    have e0 := hk.2.1 0 (by decide) (by decide)
    have h7 : τ.1 7 = n := by rw [e1]; exact hn
    have hIa : WI (addS τ i a) := addS_WI (hk.WI hI)
    have hRa : RI (addS τ i a) ((n : Int) + 1) := addS_RI (hk.RI hn hR) h7 (by rw [e1, e0]; omega) (by rw [e1, e0]; omega)
    obtain ⟨τ', k1, ek⟩ := e_keeps (l := l) (δ := δ) (w0 := w0) (o := o) (z := z) hIa (n := n + 1) (by rw [addS_1, if_pos rfl, h7]; omega) hRa (k := (k : Int)) (by omega) (by omega) (by omega)
    have hv : (AL (wd (addS τ i a) ((addS τ i a).1 5)) (wd (addS τ i a) ((addS τ i a).1 6)) ((addS τ i a).2 8) ((addS τ i a).2 9) (n + 1) && KP (wd (addS τ i a) ((addS τ i a).1 5)) (wd (addS τ i a) ((addS τ i a).1 6)) (k : Int).toNat ((addS τ i a).2 8) ((addS τ i a).2 9) (n + 1)) = GB (wd σ (σ.1 5)) (wd σ (σ.1 6)) (σ.2 8) (σ.2 9) n k 1 a i := by
      rw [Int.toNat_natCast, AL_add hk hn, KP_add hk hn, AL_push, hAL, Bool.true_and]; simp [GB]
    rw [hv, hp] at ek
    have e7 : τ'.1 7 = (n : Int) + 1 := by rw [k1.1, addS_1, if_pos rfl, h7]
    refine ⟨_, ⟨sF τ' 7 n, addS_Kp hk k1 hn.symm, rfl⟩, ?_⟩
    rw [L_X1_answerTo_3]; unfold C_X1_answerTo_L3
    simp (disch := first | rfl | (simp only [wt_c, wt_0, vc_i, vc_l, vc_r] <;> decide) | omega | exact i32_r _ | exact b2i_r _ | exact b2i_01 _ | exact zAnd_r _ _ | exact zOr_r _ _ | exact zXor_r _ _ | exact zShl_r _ _ | exact zShr_r _ _ | exact zByte_r _ | exact zcmp_r _ _ | decide) only [Bool.decide_eq_true, Bool.decide_eq_false, ↓if_pos, ↓if_neg, ↓reduceIte, Nat.reduceEqDiff, Int.reduceLE, Int.reduceLT, Int.reduceEq, Int.reduceNe, Nat.reduceBEq, Int.reduceAdd, Int.reduceMul, Int.reduceSub, Int.reduceNeg, Nat.reduceAdd, not_false_eq_true, not_true_eq_false, decide_true, decide_false, Bool.not_true, Bool.not_false, Bool.true_and, Bool.false_and, Bool.and_true, Bool.and_false, Bool.true_or, Bool.false_or, Bool.or_true, Bool.or_false, Bool.not_not, decide_not, Decidable.not_not, ite_not, b2i_t, b2i_f, ne_eq, Bool.not_eq_true, Bool.not_eq_false, decide_eq_true_eq, decide_eq_false_iff_not, Bool.false_eq_true, Bool.true_eq_false, reduceCtorEq, if_true, if_false, ite_self, ite_b0, ite_b1, ite_0b, ite_1b, ite_bb, x_done, x_blk, x_lp, x_er, erL_0, erL_t, erL_f, kl_n, kl_i, kl_r, kl_l, bd_i, bd_r, bk_i, bk_e, bk_n, bk_r, bd_ite, bk_ite, lk_i, lk_e, lk_n, lk_r, lk_ite, ite_nx, b2i_i, b2i_n, b2i_0, b2i_1, b2i_e, bres_r, bres_ite, mres_v, mres_n, sF_1, sF_2, sA_1, sA_2, x_iconst, x_istore4, x_iload4, x_aload_n0, x_iload_n1, x_isub, m_call1, x_icmp_ge, x_iload_n2, m_call3, x_iload_n3, x_istore5, x_dup, m_get, fM_7, m_puti, x_iload5, x_if_eq, x_ireturn, x_iinc4, x_goto, h7, e1, e0, e_manyOf_0, e_manyOf_1, e_addPick_0, e_addPick_1, ek, e7, Int.add_sub_cancel]
  · rintro s ⟨τ, hk, rfl⟩
    have w5 := hI.1 (σ.1 5) (by have := hR.1; omega) (by have := hR.1; omega)
    have w6 := hI.1 (σ.1 6) (by have := hR.2.1; omega) (by have := hR.2.1; omega)
    have e1 := hk.1
    have t5 : 0 ≤ τ.1 5 ∧ τ.1 5 < 8 := by rw [e1]; exact hR.1
    have t6 : 0 ≤ τ.1 6 ∧ τ.1 6 < 8 := by rw [e1]; exact hR.2.1
    have e0 := hk.2.1 0 (by decide) (by decide)
    rw [show (((σ.2 0 (σ.1 5)).toNat : Nat) : Int) = σ.2 0 (σ.1 5) by omega]
    rw [L_X1_answerTo_3]; unfold C_X1_answerTo_L3
    simp (disch := first | rfl | (simp only [wt_c, wt_0, vc_i, vc_l, vc_r] <;> decide) | omega | exact i32_r _ | exact b2i_r _ | exact b2i_01 _ | exact zAnd_r _ _ | exact zOr_r _ _ | exact zXor_r _ _ | exact zShl_r _ _ | exact zShr_r _ _ | exact zByte_r _ | exact zcmp_r _ _ | decide) only [Bool.decide_eq_true, Bool.decide_eq_false, ↓if_pos, ↓if_neg, ↓reduceIte, Nat.reduceEqDiff, Int.reduceLE, Int.reduceLT, Int.reduceEq, Int.reduceNe, Nat.reduceBEq, Int.reduceAdd, Int.reduceMul, Int.reduceSub, Int.reduceNeg, Nat.reduceAdd, not_false_eq_true, not_true_eq_false, decide_true, decide_false, Bool.not_true, Bool.not_false, Bool.true_and, Bool.false_and, Bool.and_true, Bool.and_false, Bool.true_or, Bool.false_or, Bool.or_true, Bool.or_false, Bool.not_not, decide_not, Decidable.not_not, ite_not, b2i_t, b2i_f, ne_eq, Bool.not_eq_true, Bool.not_eq_false, decide_eq_true_eq, decide_eq_false_iff_not, Bool.false_eq_true, Bool.true_eq_false, reduceCtorEq, if_true, if_false, ite_self, ite_b0, ite_b1, ite_0b, ite_1b, ite_bb, x_done, x_blk, x_lp, x_er, erL_0, erL_t, erL_f, kl_n, kl_i, kl_r, kl_l, bd_i, bd_r, bk_i, bk_e, bk_n, bk_r, bd_ite, bk_ite, lk_i, lk_e, lk_n, lk_r, lk_ite, ite_nx, b2i_i, b2i_n, b2i_0, b2i_1, b2i_e, bres_r, bres_ite, mres_v, mres_n, sF_1, sF_2, sA_1, sA_2, x_iconst, x_istore4, x_iload4, x_aload_n0, x_iload_n1, x_isub, m_call1, x_icmp_ge, x_iload_n2, m_call3, x_iload_n3, x_istore5, x_dup, m_get, fM_7, m_puti, x_iload5, x_if_eq, x_ireturn, x_iinc4, x_goto, e1, e0, e_manyOf_0, e_manyOf_1]
theorem el_winning0 {l : Launch} {δ : Dl} {w0 : Hp} {o : Nat} {σ : MS} {z : Nat × Nat} (hI : WI σ) {n : Nat} (hn : σ.1 7 = n) (hR : RI σ n) {k : Nat} (hk3 : k ≤ 3) (hm : n + 1 + k ≤ 5) (hAL : AL (wd σ (σ.1 5)) (wd σ (σ.1 6)) (σ.2 8) (σ.2 9) n = true) : ∀ τ, Kp σ τ → ∃ τ', Kp σ τ' ∧ ((∃ a : Int, 0 ≤ a ∧ a < σ.2 0 (σ.1 5) ∧ anyU (σ.2 0 (σ.1 6)).toNat (GB (wd σ (σ.1 5)) (wd σ (σ.1 6)) (σ.2 8) (σ.2 9) n k 0 a) = false ∧ (∀ j : Int, 0 ≤ j → j < a → anyU (σ.2 0 (σ.1 6)).toNat (GB (wd σ (σ.1 5)) (wd σ (σ.1 6)) (σ.2 8) (σ.2 9) n k 0 j) = true) ∧ lpD 9 (B_X1_winning_L9 l δ).1 [] [some (.inr (.inr (some o))), some (.inl ((k : Int) + 1)), some (.inl 0), some (.inl 0)] (mw w0 o τ, z) = some (.inr (.inr (.inl (some (.inl (a)), mw w0 o τ', z))))) ∨ ((∀ j : Int, 0 ≤ j → j < σ.2 0 (σ.1 5) → anyU (σ.2 0 (σ.1 6)).toNat (GB (wd σ (σ.1 5)) (wd σ (σ.1 6)) (σ.2 8) (σ.2 9) n k 0 j) = true) ∧ lpD 9 (B_X1_winning_L9 l δ).1 [] [some (.inr (.inr (some o))), some (.inl ((k : Int) + 1)), some (.inl 0), some (.inl 0)] (mw w0 o τ, z) = some (.inr (.inl (43, [], [some (.inr (.inr (some o))), some (.inl ((k : Int) + 1)), some (.inl 0), some (.inl (σ.2 0 (σ.1 5)))], mw w0 o τ', z))))) := by
  intro τ hk
  have hN := hI.1 (σ.1 5) (by have := hR.1; have := hR.2.1; omega) (by have := hR.1; have := hR.2.1; omega)
  have hM := hI.1 (σ.1 6) (by have := hR.1; have := hR.2.1; omega) (by have := hR.1; have := hR.2.1; omega)
  have hl := lp_fst (h := 9) (e := 43) (D := (B_X1_winning_L9 l δ).1) (X := fun i => [some (.inr (.inr (some o))), some (.inl ((k : Int) + 1)), some (.inl 0), some (.inl i)]) (N := (σ.2 0 (σ.1 5)).toNat) (p := fun i => !anyU (σ.2 0 (σ.1 6)).toNat (GB (wd σ (σ.1 5)) (wd σ (σ.1 6)) (σ.2 8) (σ.2 9) n k 0 i)) (rv := fun i => .inl (i)) (P := fun s => ∃ τ, Kp σ τ ∧ s = (mw w0 o τ, z)) (by decide) ?_ ?_ ?_ (mw w0 o τ, z) ⟨τ, hk, rfl⟩
  · obtain ⟨s', ⟨τ', hk', rfl⟩, h⟩ := hl
    rcases h with ⟨i, h1, h2, h3, h4, h5⟩ | ⟨h1, h2⟩
    · exact ⟨τ', hk', Or.inl ⟨i, h1, by omega, nb_t h3, fun j p1 p2 => nb_f (h4 j p1 p2), h5⟩⟩
    · rw [show (((σ.2 0 (σ.1 5)).toNat : Nat) : Int) = σ.2 0 (σ.1 5) by omega] at h2
      exact ⟨τ', hk', Or.inr ⟨fun j p1 p2 => nb_f (h1 j p1 (by omega)), h2⟩⟩
  · rintro i s h0 h1 ⟨τ, hk, rfl⟩ hp
    have w5 := hI.1 (σ.1 5) (by have := hR.1; omega) (by have := hR.1; omega)
    have w6 := hI.1 (σ.1 6) (by have := hR.2.1; omega) (by have := hR.2.1; omega)
    have e1 := hk.1
    have t5 : 0 ≤ τ.1 5 ∧ τ.1 5 < 8 := by rw [e1]; exact hR.1
    have t6 : 0 ≤ τ.1 6 ∧ τ.1 6 < 8 := by rw [e1]; exact hR.2.1
    have e0 := hk.2.1 0 (by decide) (by decide)
    have h7 : τ.1 7 = n := by rw [e1]; exact hn
    have q8 : ∀ j : Int, 0 ≤ j → j < n → τ.2 8 j = σ.2 8 j := fun j p1 p2 => (hk.2.2 j (by omega)).1
    have q9 : ∀ j : Int, 0 ≤ j → j < n → τ.2 9 j = σ.2 9 j := fun j p1 p2 => (hk.2.2 j (by omega)).2
    have hAL' : AL (wd τ (τ.1 5)) (wd τ (τ.1 6)) (τ.2 8) (τ.2 9) n = true := by rw [hk.wd, hk.wd, e1, AL_congr q8 q9]; exact hAL
    obtain ⟨τ', r, k1, k2, ea⟩ := e_answerTo0 (l := l) (δ := δ) (w0 := w0) (o := o) (z := z) (hk.WI hI) h7 (hk.RI hn hR) hk3 hm hAL' (a := i) (by rw [e1, e0]; omega)
    rw [hk.wd, hk.wd, e1, e0] at k2
    have eg : ∀ j, GB (wd σ (σ.1 5)) (wd σ (σ.1 6)) (τ.2 8) (τ.2 9) n k 0 i j = GB (wd σ (σ.1 5)) (wd σ (σ.1 6)) (σ.2 8) (σ.2 9) n k 0 i j := fun j => GB_congr q8 q9
    have hr : 0 ≤ r ∧ r ≤ 6 := by
      rcases k2 with ⟨b, rfl, b1, b2, -⟩ | ⟨rfl, b1⟩
      · omega
      · exfalso
        rw [anyU_f (fun j p1 p2 => by rw [← eg]; exact b1 j p1 (by omega))] at hp
        cases hp
    refine ⟨_, ⟨τ', hk.tr k1, rfl⟩, ?_⟩
    rw [L_X1_winning_9]; unfold C_X1_winning_L9
    simp (disch := first | rfl | (simp only [wt_c, wt_0, vc_i, vc_l, vc_r] <;> decide) | omega | exact i32_r _ | exact b2i_r _ | exact b2i_01 _ | exact zAnd_r _ _ | exact zOr_r _ _ | exact zXor_r _ _ | exact zShl_r _ _ | exact zShr_r _ _ | exact zByte_r _ | exact zcmp_r _ _ | decide) only [Bool.decide_eq_true, Bool.decide_eq_false, ↓if_pos, ↓if_neg, ↓reduceIte, Nat.reduceEqDiff, Int.reduceLE, Int.reduceLT, Int.reduceEq, Int.reduceNe, Nat.reduceBEq, Int.reduceAdd, Int.reduceMul, Int.reduceSub, Int.reduceNeg, Nat.reduceAdd, not_false_eq_true, not_true_eq_false, decide_true, decide_false, Bool.not_true, Bool.not_false, Bool.true_and, Bool.false_and, Bool.and_true, Bool.and_false, Bool.true_or, Bool.false_or, Bool.or_true, Bool.or_false, Bool.not_not, decide_not, Decidable.not_not, ite_not, b2i_t, b2i_f, ne_eq, Bool.not_eq_true, Bool.not_eq_false, decide_eq_true_eq, decide_eq_false_iff_not, Bool.false_eq_true, Bool.true_eq_false, reduceCtorEq, if_true, if_false, ite_self, ite_b0, ite_b1, ite_0b, ite_1b, ite_bb, x_done, x_blk, x_lp, x_er, erL_0, erL_t, erL_f, kl_n, kl_i, kl_r, kl_l, bd_i, bd_r, bk_i, bk_e, bk_n, bk_r, bd_ite, bk_ite, lk_i, lk_e, lk_n, lk_r, lk_ite, ite_nx, b2i_i, b2i_n, b2i_0, b2i_1, b2i_e, bres_r, bres_ite, mres_v, mres_n, sF_1, sF_2, sA_1, sA_2, x_iconst, x_istore_n2, x_iload_n2, x_icmp_ge, x_istore_n3, x_iload_n3, x_aload_n0, m_call1, x_iload_n1, x_isub, m_call3, x_if_ge, x_bipush, x_imul, x_iadd, x_ireturn, x_iinc3, x_goto, x_iinc2, e1, e0, e_manyOf_0, e_manyOf_1, Int.add_sub_cancel, ea]
  · rintro i s h0 h1 ⟨τ, hk, rfl⟩ hp
    have w5 := hI.1 (σ.1 5) (by have := hR.1; omega) (by have := hR.1; omega)
    have w6 := hI.1 (σ.1 6) (by have := hR.2.1; omega) (by have := hR.2.1; omega)
    have e1 := hk.1
    have t5 : 0 ≤ τ.1 5 ∧ τ.1 5 < 8 := by rw [e1]; exact hR.1
    have t6 : 0 ≤ τ.1 6 ∧ τ.1 6 < 8 := by rw [e1]; exact hR.2.1
    have e0 := hk.2.1 0 (by decide) (by decide)
    have h7 : τ.1 7 = n := by rw [e1]; exact hn
    have q8 : ∀ j : Int, 0 ≤ j → j < n → τ.2 8 j = σ.2 8 j := fun j p1 p2 => (hk.2.2 j (by omega)).1
    have q9 : ∀ j : Int, 0 ≤ j → j < n → τ.2 9 j = σ.2 9 j := fun j p1 p2 => (hk.2.2 j (by omega)).2
    have hAL' : AL (wd τ (τ.1 5)) (wd τ (τ.1 6)) (τ.2 8) (τ.2 9) n = true := by rw [hk.wd, hk.wd, e1, AL_congr q8 q9]; exact hAL
    obtain ⟨τ', r, k1, k2, ea⟩ := e_answerTo0 (l := l) (δ := δ) (w0 := w0) (o := o) (z := z) (hk.WI hI) h7 (hk.RI hn hR) hk3 hm hAL' (a := i) (by rw [e1, e0]; omega)
    rw [hk.wd, hk.wd, e1, e0] at k2
    have eg : ∀ j, GB (wd σ (σ.1 5)) (wd σ (σ.1 6)) (τ.2 8) (τ.2 9) n k 0 i j = GB (wd σ (σ.1 5)) (wd σ (σ.1 6)) (σ.2 8) (σ.2 9) n k 0 i j := fun j => GB_congr q8 q9
    have hr : r = -1 := by
      rcases k2 with ⟨b, rfl, b1, b2, b3, -⟩ | ⟨rfl, b1⟩
      · exfalso
        rw [anyU_t b1 (by omega) (by rw [← eg]; exact b3)] at hp
        cases hp
      · rfl
    subst hr
    refine ⟨_, ⟨τ', hk.tr k1, rfl⟩, ?_⟩
    rw [L_X1_winning_9]; unfold C_X1_winning_L9
    simp (disch := first | rfl | (simp only [wt_c, wt_0, vc_i, vc_l, vc_r] <;> decide) | omega | exact i32_r _ | exact b2i_r _ | exact b2i_01 _ | exact zAnd_r _ _ | exact zOr_r _ _ | exact zXor_r _ _ | exact zShl_r _ _ | exact zShr_r _ _ | exact zByte_r _ | exact zcmp_r _ _ | decide) only [Bool.decide_eq_true, Bool.decide_eq_false, ↓if_pos, ↓if_neg, ↓reduceIte, Nat.reduceEqDiff, Int.reduceLE, Int.reduceLT, Int.reduceEq, Int.reduceNe, Nat.reduceBEq, Int.reduceAdd, Int.reduceMul, Int.reduceSub, Int.reduceNeg, Nat.reduceAdd, not_false_eq_true, not_true_eq_false, decide_true, decide_false, Bool.not_true, Bool.not_false, Bool.true_and, Bool.false_and, Bool.and_true, Bool.and_false, Bool.true_or, Bool.false_or, Bool.or_true, Bool.or_false, Bool.not_not, decide_not, Decidable.not_not, ite_not, b2i_t, b2i_f, ne_eq, Bool.not_eq_true, Bool.not_eq_false, decide_eq_true_eq, decide_eq_false_iff_not, Bool.false_eq_true, Bool.true_eq_false, reduceCtorEq, if_true, if_false, ite_self, ite_b0, ite_b1, ite_0b, ite_1b, ite_bb, x_done, x_blk, x_lp, x_er, erL_0, erL_t, erL_f, kl_n, kl_i, kl_r, kl_l, bd_i, bd_r, bk_i, bk_e, bk_n, bk_r, bd_ite, bk_ite, lk_i, lk_e, lk_n, lk_r, lk_ite, ite_nx, b2i_i, b2i_n, b2i_0, b2i_1, b2i_e, bres_r, bres_ite, mres_v, mres_n, sF_1, sF_2, sA_1, sA_2, x_iconst, x_istore_n2, x_iload_n2, x_icmp_ge, x_istore_n3, x_iload_n3, x_aload_n0, m_call1, x_iload_n1, x_isub, m_call3, x_if_ge, x_bipush, x_imul, x_iadd, x_ireturn, x_iinc3, x_goto, x_iinc2, e1, e0, e_manyOf_0, e_manyOf_1, Int.add_sub_cancel, ea, Int.mul_zero, Int.zero_add]
  · rintro s ⟨τ, hk, rfl⟩
    have w5 := hI.1 (σ.1 5) (by have := hR.1; omega) (by have := hR.1; omega)
    have w6 := hI.1 (σ.1 6) (by have := hR.2.1; omega) (by have := hR.2.1; omega)
    have e1 := hk.1
    have t5 : 0 ≤ τ.1 5 ∧ τ.1 5 < 8 := by rw [e1]; exact hR.1
    have t6 : 0 ≤ τ.1 6 ∧ τ.1 6 < 8 := by rw [e1]; exact hR.2.1
    have e0 := hk.2.1 0 (by decide) (by decide)
    rw [show (((σ.2 0 (σ.1 5)).toNat : Nat) : Int) = σ.2 0 (σ.1 5) by omega]
    rw [L_X1_winning_9]; unfold C_X1_winning_L9
    simp (disch := first | rfl | (simp only [wt_c, wt_0, vc_i, vc_l, vc_r] <;> decide) | omega | exact i32_r _ | exact b2i_r _ | exact b2i_01 _ | exact zAnd_r _ _ | exact zOr_r _ _ | exact zXor_r _ _ | exact zShl_r _ _ | exact zShr_r _ _ | exact zByte_r _ | exact zcmp_r _ _ | decide) only [Bool.decide_eq_true, Bool.decide_eq_false, ↓if_pos, ↓if_neg, ↓reduceIte, Nat.reduceEqDiff, Int.reduceLE, Int.reduceLT, Int.reduceEq, Int.reduceNe, Nat.reduceBEq, Int.reduceAdd, Int.reduceMul, Int.reduceSub, Int.reduceNeg, Nat.reduceAdd, not_false_eq_true, not_true_eq_false, decide_true, decide_false, Bool.not_true, Bool.not_false, Bool.true_and, Bool.false_and, Bool.and_true, Bool.and_false, Bool.true_or, Bool.false_or, Bool.or_true, Bool.or_false, Bool.not_not, decide_not, Decidable.not_not, ite_not, b2i_t, b2i_f, ne_eq, Bool.not_eq_true, Bool.not_eq_false, decide_eq_true_eq, decide_eq_false_iff_not, Bool.false_eq_true, Bool.true_eq_false, reduceCtorEq, if_true, if_false, ite_self, ite_b0, ite_b1, ite_0b, ite_1b, ite_bb, x_done, x_blk, x_lp, x_er, erL_0, erL_t, erL_f, kl_n, kl_i, kl_r, kl_l, bd_i, bd_r, bk_i, bk_e, bk_n, bk_r, bd_ite, bk_ite, lk_i, lk_e, lk_n, lk_r, lk_ite, ite_nx, b2i_i, b2i_n, b2i_0, b2i_1, b2i_e, bres_r, bres_ite, mres_v, mres_n, sF_1, sF_2, sA_1, sA_2, x_iconst, x_istore_n2, x_iload_n2, x_icmp_ge, x_istore_n3, x_iload_n3, x_aload_n0, m_call1, x_iload_n1, x_isub, m_call3, x_if_ge, x_bipush, x_imul, x_iadd, x_ireturn, x_iinc3, x_goto, x_iinc2, e1, e0, e_manyOf_0, e_manyOf_1]
theorem el_winning1 {l : Launch} {δ : Dl} {w0 : Hp} {o : Nat} {σ : MS} {z : Nat × Nat} (hI : WI σ) {n : Nat} (hn : σ.1 7 = n) (hR : RI σ n) {k : Nat} (hk3 : k ≤ 3) (hm : n + 1 + k ≤ 5) (hAL : AL (wd σ (σ.1 5)) (wd σ (σ.1 6)) (σ.2 8) (σ.2 9) n = true) : ∀ τ, Kp σ τ → ∃ τ', Kp σ τ' ∧ ((∃ a : Int, 0 ≤ a ∧ a < σ.2 0 (σ.1 6) ∧ anyU (σ.2 0 (σ.1 5)).toNat (GB (wd σ (σ.1 5)) (wd σ (σ.1 6)) (σ.2 8) (σ.2 9) n k 1 a) = false ∧ (∀ j : Int, 0 ≤ j → j < a → anyU (σ.2 0 (σ.1 5)).toNat (GB (wd σ (σ.1 5)) (wd σ (σ.1 6)) (σ.2 8) (σ.2 9) n k 1 j) = true) ∧ lpD 9 (B_X1_winning_L9 l δ).1 [] [some (.inr (.inr (some o))), some (.inl ((k : Int) + 1)), some (.inl 1), some (.inl 0)] (mw w0 o τ, z) = some (.inr (.inr (.inl (some (.inl (10 + a)), mw w0 o τ', z))))) ∨ ((∀ j : Int, 0 ≤ j → j < σ.2 0 (σ.1 6) → anyU (σ.2 0 (σ.1 5)).toNat (GB (wd σ (σ.1 5)) (wd σ (σ.1 6)) (σ.2 8) (σ.2 9) n k 1 j) = true) ∧ lpD 9 (B_X1_winning_L9 l δ).1 [] [some (.inr (.inr (some o))), some (.inl ((k : Int) + 1)), some (.inl 1), some (.inl 0)] (mw w0 o τ, z) = some (.inr (.inl (43, [], [some (.inr (.inr (some o))), some (.inl ((k : Int) + 1)), some (.inl 1), some (.inl (σ.2 0 (σ.1 6)))], mw w0 o τ', z))))) := by
  intro τ hk
  have hN := hI.1 (σ.1 6) (by have := hR.1; have := hR.2.1; omega) (by have := hR.1; have := hR.2.1; omega)
  have hM := hI.1 (σ.1 5) (by have := hR.1; have := hR.2.1; omega) (by have := hR.1; have := hR.2.1; omega)
  have hl := lp_fst (h := 9) (e := 43) (D := (B_X1_winning_L9 l δ).1) (X := fun i => [some (.inr (.inr (some o))), some (.inl ((k : Int) + 1)), some (.inl 1), some (.inl i)]) (N := (σ.2 0 (σ.1 6)).toNat) (p := fun i => !anyU (σ.2 0 (σ.1 5)).toNat (GB (wd σ (σ.1 5)) (wd σ (σ.1 6)) (σ.2 8) (σ.2 9) n k 1 i)) (rv := fun i => .inl (10 + i)) (P := fun s => ∃ τ, Kp σ τ ∧ s = (mw w0 o τ, z)) (by decide) ?_ ?_ ?_ (mw w0 o τ, z) ⟨τ, hk, rfl⟩
  · obtain ⟨s', ⟨τ', hk', rfl⟩, h⟩ := hl
    rcases h with ⟨i, h1, h2, h3, h4, h5⟩ | ⟨h1, h2⟩
    · exact ⟨τ', hk', Or.inl ⟨i, h1, by omega, nb_t h3, fun j p1 p2 => nb_f (h4 j p1 p2), h5⟩⟩
    · rw [show (((σ.2 0 (σ.1 6)).toNat : Nat) : Int) = σ.2 0 (σ.1 6) by omega] at h2
      exact ⟨τ', hk', Or.inr ⟨fun j p1 p2 => nb_f (h1 j p1 (by omega)), h2⟩⟩
  · rintro i s h0 h1 ⟨τ, hk, rfl⟩ hp
    have w5 := hI.1 (σ.1 5) (by have := hR.1; omega) (by have := hR.1; omega)
    have w6 := hI.1 (σ.1 6) (by have := hR.2.1; omega) (by have := hR.2.1; omega)
    have e1 := hk.1
    have t5 : 0 ≤ τ.1 5 ∧ τ.1 5 < 8 := by rw [e1]; exact hR.1
    have t6 : 0 ≤ τ.1 6 ∧ τ.1 6 < 8 := by rw [e1]; exact hR.2.1
    have e0 := hk.2.1 0 (by decide) (by decide)
    have h7 : τ.1 7 = n := by rw [e1]; exact hn
    have q8 : ∀ j : Int, 0 ≤ j → j < n → τ.2 8 j = σ.2 8 j := fun j p1 p2 => (hk.2.2 j (by omega)).1
    have q9 : ∀ j : Int, 0 ≤ j → j < n → τ.2 9 j = σ.2 9 j := fun j p1 p2 => (hk.2.2 j (by omega)).2
    have hAL' : AL (wd τ (τ.1 5)) (wd τ (τ.1 6)) (τ.2 8) (τ.2 9) n = true := by rw [hk.wd, hk.wd, e1, AL_congr q8 q9]; exact hAL
    obtain ⟨τ', r, k1, k2, ea⟩ := e_answerTo1 (l := l) (δ := δ) (w0 := w0) (o := o) (z := z) (hk.WI hI) h7 (hk.RI hn hR) hk3 hm hAL' (a := i) (by rw [e1, e0]; omega)
    rw [hk.wd, hk.wd, e1, e0] at k2
    have eg : ∀ j, GB (wd σ (σ.1 5)) (wd σ (σ.1 6)) (τ.2 8) (τ.2 9) n k 1 i j = GB (wd σ (σ.1 5)) (wd σ (σ.1 6)) (σ.2 8) (σ.2 9) n k 1 i j := fun j => GB_congr q8 q9
    have hr : 0 ≤ r ∧ r ≤ 6 := by
      rcases k2 with ⟨b, rfl, b1, b2, -⟩ | ⟨rfl, b1⟩
      · omega
      · exfalso
        rw [anyU_f (fun j p1 p2 => by rw [← eg]; exact b1 j p1 (by omega))] at hp
        cases hp
    refine ⟨_, ⟨τ', hk.tr k1, rfl⟩, ?_⟩
    rw [L_X1_winning_9]; unfold C_X1_winning_L9
    simp (disch := first | rfl | (simp only [wt_c, wt_0, vc_i, vc_l, vc_r] <;> decide) | omega | exact i32_r _ | exact b2i_r _ | exact b2i_01 _ | exact zAnd_r _ _ | exact zOr_r _ _ | exact zXor_r _ _ | exact zShl_r _ _ | exact zShr_r _ _ | exact zByte_r _ | exact zcmp_r _ _ | decide) only [Bool.decide_eq_true, Bool.decide_eq_false, ↓if_pos, ↓if_neg, ↓reduceIte, Nat.reduceEqDiff, Int.reduceLE, Int.reduceLT, Int.reduceEq, Int.reduceNe, Nat.reduceBEq, Int.reduceAdd, Int.reduceMul, Int.reduceSub, Int.reduceNeg, Nat.reduceAdd, not_false_eq_true, not_true_eq_false, decide_true, decide_false, Bool.not_true, Bool.not_false, Bool.true_and, Bool.false_and, Bool.and_true, Bool.and_false, Bool.true_or, Bool.false_or, Bool.or_true, Bool.or_false, Bool.not_not, decide_not, Decidable.not_not, ite_not, b2i_t, b2i_f, ne_eq, Bool.not_eq_true, Bool.not_eq_false, decide_eq_true_eq, decide_eq_false_iff_not, Bool.false_eq_true, Bool.true_eq_false, reduceCtorEq, if_true, if_false, ite_self, ite_b0, ite_b1, ite_0b, ite_1b, ite_bb, x_done, x_blk, x_lp, x_er, erL_0, erL_t, erL_f, kl_n, kl_i, kl_r, kl_l, bd_i, bd_r, bk_i, bk_e, bk_n, bk_r, bd_ite, bk_ite, lk_i, lk_e, lk_n, lk_r, lk_ite, ite_nx, b2i_i, b2i_n, b2i_0, b2i_1, b2i_e, bres_r, bres_ite, mres_v, mres_n, sF_1, sF_2, sA_1, sA_2, x_iconst, x_istore_n2, x_iload_n2, x_icmp_ge, x_istore_n3, x_iload_n3, x_aload_n0, m_call1, x_iload_n1, x_isub, m_call3, x_if_ge, x_bipush, x_imul, x_iadd, x_ireturn, x_iinc3, x_goto, x_iinc2, e1, e0, e_manyOf_0, e_manyOf_1, Int.add_sub_cancel, ea]
  · rintro i s h0 h1 ⟨τ, hk, rfl⟩ hp
    have w5 := hI.1 (σ.1 5) (by have := hR.1; omega) (by have := hR.1; omega)
    have w6 := hI.1 (σ.1 6) (by have := hR.2.1; omega) (by have := hR.2.1; omega)
    have e1 := hk.1
    have t5 : 0 ≤ τ.1 5 ∧ τ.1 5 < 8 := by rw [e1]; exact hR.1
    have t6 : 0 ≤ τ.1 6 ∧ τ.1 6 < 8 := by rw [e1]; exact hR.2.1
    have e0 := hk.2.1 0 (by decide) (by decide)
    have h7 : τ.1 7 = n := by rw [e1]; exact hn
    have q8 : ∀ j : Int, 0 ≤ j → j < n → τ.2 8 j = σ.2 8 j := fun j p1 p2 => (hk.2.2 j (by omega)).1
    have q9 : ∀ j : Int, 0 ≤ j → j < n → τ.2 9 j = σ.2 9 j := fun j p1 p2 => (hk.2.2 j (by omega)).2
    have hAL' : AL (wd τ (τ.1 5)) (wd τ (τ.1 6)) (τ.2 8) (τ.2 9) n = true := by rw [hk.wd, hk.wd, e1, AL_congr q8 q9]; exact hAL
    obtain ⟨τ', r, k1, k2, ea⟩ := e_answerTo1 (l := l) (δ := δ) (w0 := w0) (o := o) (z := z) (hk.WI hI) h7 (hk.RI hn hR) hk3 hm hAL' (a := i) (by rw [e1, e0]; omega)
    rw [hk.wd, hk.wd, e1, e0] at k2
    have eg : ∀ j, GB (wd σ (σ.1 5)) (wd σ (σ.1 6)) (τ.2 8) (τ.2 9) n k 1 i j = GB (wd σ (σ.1 5)) (wd σ (σ.1 6)) (σ.2 8) (σ.2 9) n k 1 i j := fun j => GB_congr q8 q9
    have hr : r = -1 := by
      rcases k2 with ⟨b, rfl, b1, b2, b3, -⟩ | ⟨rfl, b1⟩
      · exfalso
        rw [anyU_t b1 (by omega) (by rw [← eg]; exact b3)] at hp
        cases hp
      · rfl
    subst hr
    refine ⟨_, ⟨τ', hk.tr k1, rfl⟩, ?_⟩
    rw [L_X1_winning_9]; unfold C_X1_winning_L9
    simp (disch := first | rfl | (simp only [wt_c, wt_0, vc_i, vc_l, vc_r] <;> decide) | omega | exact i32_r _ | exact b2i_r _ | exact b2i_01 _ | exact zAnd_r _ _ | exact zOr_r _ _ | exact zXor_r _ _ | exact zShl_r _ _ | exact zShr_r _ _ | exact zByte_r _ | exact zcmp_r _ _ | decide) only [Bool.decide_eq_true, Bool.decide_eq_false, ↓if_pos, ↓if_neg, ↓reduceIte, Nat.reduceEqDiff, Int.reduceLE, Int.reduceLT, Int.reduceEq, Int.reduceNe, Nat.reduceBEq, Int.reduceAdd, Int.reduceMul, Int.reduceSub, Int.reduceNeg, Nat.reduceAdd, not_false_eq_true, not_true_eq_false, decide_true, decide_false, Bool.not_true, Bool.not_false, Bool.true_and, Bool.false_and, Bool.and_true, Bool.and_false, Bool.true_or, Bool.false_or, Bool.or_true, Bool.or_false, Bool.not_not, decide_not, Decidable.not_not, ite_not, b2i_t, b2i_f, ne_eq, Bool.not_eq_true, Bool.not_eq_false, decide_eq_true_eq, decide_eq_false_iff_not, Bool.false_eq_true, Bool.true_eq_false, reduceCtorEq, if_true, if_false, ite_self, ite_b0, ite_b1, ite_0b, ite_1b, ite_bb, x_done, x_blk, x_lp, x_er, erL_0, erL_t, erL_f, kl_n, kl_i, kl_r, kl_l, bd_i, bd_r, bk_i, bk_e, bk_n, bk_r, bd_ite, bk_ite, lk_i, lk_e, lk_n, lk_r, lk_ite, ite_nx, b2i_i, b2i_n, b2i_0, b2i_1, b2i_e, bres_r, bres_ite, mres_v, mres_n, sF_1, sF_2, sA_1, sA_2, x_iconst, x_istore_n2, x_iload_n2, x_icmp_ge, x_istore_n3, x_iload_n3, x_aload_n0, m_call1, x_iload_n1, x_isub, m_call3, x_if_ge, x_bipush, x_imul, x_iadd, x_ireturn, x_iinc3, x_goto, x_iinc2, e1, e0, e_manyOf_0, e_manyOf_1, Int.add_sub_cancel, ea, Int.mul_zero, Int.zero_add]
  · rintro s ⟨τ, hk, rfl⟩
    have w5 := hI.1 (σ.1 5) (by have := hR.1; omega) (by have := hR.1; omega)
    have w6 := hI.1 (σ.1 6) (by have := hR.2.1; omega) (by have := hR.2.1; omega)
    have e1 := hk.1
    have t5 : 0 ≤ τ.1 5 ∧ τ.1 5 < 8 := by rw [e1]; exact hR.1
    have t6 : 0 ≤ τ.1 6 ∧ τ.1 6 < 8 := by rw [e1]; exact hR.2.1
    have e0 := hk.2.1 0 (by decide) (by decide)
    rw [show (((σ.2 0 (σ.1 6)).toNat : Nat) : Int) = σ.2 0 (σ.1 6) by omega]
    rw [L_X1_winning_9]; unfold C_X1_winning_L9
    simp (disch := first | rfl | (simp only [wt_c, wt_0, vc_i, vc_l, vc_r] <;> decide) | omega | exact i32_r _ | exact b2i_r _ | exact b2i_01 _ | exact zAnd_r _ _ | exact zOr_r _ _ | exact zXor_r _ _ | exact zShl_r _ _ | exact zShr_r _ _ | exact zByte_r _ | exact zcmp_r _ _ | decide) only [Bool.decide_eq_true, Bool.decide_eq_false, ↓if_pos, ↓if_neg, ↓reduceIte, Nat.reduceEqDiff, Int.reduceLE, Int.reduceLT, Int.reduceEq, Int.reduceNe, Nat.reduceBEq, Int.reduceAdd, Int.reduceMul, Int.reduceSub, Int.reduceNeg, Nat.reduceAdd, not_false_eq_true, not_true_eq_false, decide_true, decide_false, Bool.not_true, Bool.not_false, Bool.true_and, Bool.false_and, Bool.and_true, Bool.and_false, Bool.true_or, Bool.false_or, Bool.or_true, Bool.or_false, Bool.not_not, decide_not, Decidable.not_not, ite_not, b2i_t, b2i_f, ne_eq, Bool.not_eq_true, Bool.not_eq_false, decide_eq_true_eq, decide_eq_false_iff_not, Bool.false_eq_true, Bool.true_eq_false, reduceCtorEq, if_true, if_false, ite_self, ite_b0, ite_b1, ite_0b, ite_1b, ite_bb, x_done, x_blk, x_lp, x_er, erL_0, erL_t, erL_f, kl_n, kl_i, kl_r, kl_l, bd_i, bd_r, bk_i, bk_e, bk_n, bk_r, bd_ite, bk_ite, lk_i, lk_e, lk_n, lk_r, lk_ite, ite_nx, b2i_i, b2i_n, b2i_0, b2i_1, b2i_e, bres_r, bres_ite, mres_v, mres_n, sF_1, sF_2, sA_1, sA_2, x_iconst, x_istore_n2, x_iload_n2, x_icmp_ge, x_istore_n3, x_iload_n3, x_aload_n0, m_call1, x_iload_n1, x_isub, m_call3, x_if_ge, x_bipush, x_imul, x_iadd, x_ireturn, x_iinc3, x_goto, x_iinc2, e1, e0, e_manyOf_0, e_manyOf_1]
theorem el_best0 {l : Launch} {δ : Dl} {w0 : Hp} {o : Nat} {σ : MS} {z : Nat × Nat} (hI : WI σ) {n : Nat} (hn : σ.1 7 = n) (hR : RI σ n) {k : Nat} (h11 : σ.1 11 = (k : Int) + 1) (hk3 : k ≤ 3) (hm : n + 1 + k ≤ 5) (hAL : AL (wd σ (σ.1 5)) (wd σ (σ.1 6)) (σ.2 8) (σ.2 9) n = true) : ∀ τ, Kp σ τ → ∃ τ', Kp σ τ' ∧ ((∃ a : Int, 0 ≤ a ∧ a < σ.2 0 (σ.1 5) ∧ anyU (σ.2 0 (σ.1 6)).toNat (GB (wd σ (σ.1 5)) (wd σ (σ.1 6)) (σ.2 8) (σ.2 9) n k 0 a) = false ∧ (∀ j : Int, 0 ≤ j → j < a → anyU (σ.2 0 (σ.1 6)).toNat (GB (wd σ (σ.1 5)) (wd σ (σ.1 6)) (σ.2 8) (σ.2 9) n k 0 j) = true) ∧ lpD 70 (B_X1_best_L70 l δ).1 [] [some (.inr (.inr (some o))), some (.inl 0), some (.inl 0)] (mw w0 o τ, z) = some (.inr (.inr (.inl (some (.inl (a)), mw w0 o τ', z))))) ∨ ((∀ j : Int, 0 ≤ j → j < σ.2 0 (σ.1 5) → anyU (σ.2 0 (σ.1 6)).toNat (GB (wd σ (σ.1 5)) (wd σ (σ.1 6)) (σ.2 8) (σ.2 9) n k 0 j) = true) ∧ lpD 70 (B_X1_best_L70 l δ).1 [] [some (.inr (.inr (some o))), some (.inl 0), some (.inl 0)] (mw w0 o τ, z) = some (.inr (.inl (107, [], [some (.inr (.inr (some o))), some (.inl 0), some (.inl (σ.2 0 (σ.1 5)))], mw w0 o τ', z))))) := by
  intro τ hk
  have hN := hI.1 (σ.1 5) (by have := hR.1; have := hR.2.1; omega) (by have := hR.1; have := hR.2.1; omega)
  have hM := hI.1 (σ.1 6) (by have := hR.1; have := hR.2.1; omega) (by have := hR.1; have := hR.2.1; omega)
  have hl := lp_fst (h := 70) (e := 107) (D := (B_X1_best_L70 l δ).1) (X := fun i => [some (.inr (.inr (some o))), some (.inl 0), some (.inl i)]) (N := (σ.2 0 (σ.1 5)).toNat) (p := fun i => !anyU (σ.2 0 (σ.1 6)).toNat (GB (wd σ (σ.1 5)) (wd σ (σ.1 6)) (σ.2 8) (σ.2 9) n k 0 i)) (rv := fun i => .inl (i)) (P := fun s => ∃ τ, Kp σ τ ∧ s = (mw w0 o τ, z)) (by decide) ?_ ?_ ?_ (mw w0 o τ, z) ⟨τ, hk, rfl⟩
  · obtain ⟨s', ⟨τ', hk', rfl⟩, h⟩ := hl
    rcases h with ⟨i, h1, h2, h3, h4, h5⟩ | ⟨h1, h2⟩
    · exact ⟨τ', hk', Or.inl ⟨i, h1, by omega, nb_t h3, fun j p1 p2 => nb_f (h4 j p1 p2), h5⟩⟩
    · rw [show (((σ.2 0 (σ.1 5)).toNat : Nat) : Int) = σ.2 0 (σ.1 5) by omega] at h2
      exact ⟨τ', hk', Or.inr ⟨fun j p1 p2 => nb_f (h1 j p1 (by omega)), h2⟩⟩
  · rintro i s h0 h1 ⟨τ, hk, rfl⟩ hp
    have w5 := hI.1 (σ.1 5) (by have := hR.1; omega) (by have := hR.1; omega)
    have w6 := hI.1 (σ.1 6) (by have := hR.2.1; omega) (by have := hR.2.1; omega)
    have e1 := hk.1
    have t5 : 0 ≤ τ.1 5 ∧ τ.1 5 < 8 := by rw [e1]; exact hR.1
    have t6 : 0 ≤ τ.1 6 ∧ τ.1 6 < 8 := by rw [e1]; exact hR.2.1
    have e0 := hk.2.1 0 (by decide) (by decide)
    have t11 : τ.1 11 = (k : Int) + 1 := by rw [e1]; exact h11
    have h7 : τ.1 7 = n := by rw [e1]; exact hn
    have q8 : ∀ j : Int, 0 ≤ j → j < n → τ.2 8 j = σ.2 8 j := fun j p1 p2 => (hk.2.2 j (by omega)).1
    have q9 : ∀ j : Int, 0 ≤ j → j < n → τ.2 9 j = σ.2 9 j := fun j p1 p2 => (hk.2.2 j (by omega)).2
    have hAL' : AL (wd τ (τ.1 5)) (wd τ (τ.1 6)) (τ.2 8) (τ.2 9) n = true := by rw [hk.wd, hk.wd, e1, AL_congr q8 q9]; exact hAL
    obtain ⟨τ', r, k1, k2, ea⟩ := e_answerTo0 (l := l) (δ := δ) (w0 := w0) (o := o) (z := z) (hk.WI hI) h7 (hk.RI hn hR) hk3 hm hAL' (a := i) (by rw [e1, e0]; omega)
    rw [hk.wd, hk.wd, e1, e0] at k2
    have eg : ∀ j, GB (wd σ (σ.1 5)) (wd σ (σ.1 6)) (τ.2 8) (τ.2 9) n k 0 i j = GB (wd σ (σ.1 5)) (wd σ (σ.1 6)) (σ.2 8) (σ.2 9) n k 0 i j := fun j => GB_congr q8 q9
    have hr : 0 ≤ r ∧ r ≤ 6 := by
      rcases k2 with ⟨b, rfl, b1, b2, -⟩ | ⟨rfl, b1⟩
      · omega
      · exfalso
        rw [anyU_f (fun j p1 p2 => by rw [← eg]; exact b1 j p1 (by omega))] at hp
        cases hp
    refine ⟨_, ⟨τ', hk.tr k1, rfl⟩, ?_⟩
    rw [L_X1_best_70]; unfold C_X1_best_L70
    simp (disch := first | rfl | (simp only [wt_c, wt_0, vc_i, vc_l, vc_r] <;> decide) | omega | exact i32_r _ | exact b2i_r _ | exact b2i_01 _ | exact zAnd_r _ _ | exact zOr_r _ _ | exact zXor_r _ _ | exact zShl_r _ _ | exact zShr_r _ _ | exact zByte_r _ | exact zcmp_r _ _ | decide) only [Bool.decide_eq_true, Bool.decide_eq_false, ↓if_pos, ↓if_neg, ↓reduceIte, Nat.reduceEqDiff, Int.reduceLE, Int.reduceLT, Int.reduceEq, Int.reduceNe, Nat.reduceBEq, Int.reduceAdd, Int.reduceMul, Int.reduceSub, Int.reduceNeg, Nat.reduceAdd, not_false_eq_true, not_true_eq_false, decide_true, decide_false, Bool.not_true, Bool.not_false, Bool.true_and, Bool.false_and, Bool.and_true, Bool.and_false, Bool.true_or, Bool.false_or, Bool.or_true, Bool.or_false, Bool.not_not, decide_not, Decidable.not_not, ite_not, b2i_t, b2i_f, ne_eq, Bool.not_eq_true, Bool.not_eq_false, decide_eq_true_eq, decide_eq_false_iff_not, Bool.false_eq_true, Bool.true_eq_false, reduceCtorEq, if_true, if_false, ite_self, ite_b0, ite_b1, ite_0b, ite_1b, ite_bb, x_done, x_blk, x_lp, x_er, erL_0, erL_t, erL_f, kl_n, kl_i, kl_r, kl_l, bd_i, bd_r, bk_i, bk_e, bk_n, bk_r, bd_ite, bk_ite, lk_i, lk_e, lk_n, lk_r, lk_ite, ite_nx, b2i_i, b2i_n, b2i_0, b2i_1, b2i_e, bres_r, bres_ite, mres_v, mres_n, sF_1, sF_2, sA_1, sA_2, x_aload_n0, m_get, fM_10, x_iconst, x_icmp_eq, x_bipush, x_ireturn, m_call0, x_icmp_ne, fM_15, fM_16, fM_11, x_isub, m_call3, x_istore_n1, x_iload_n1, x_if_ge, x_goto, x_icmp_ge, x_istore_n2, x_iload_n2, m_call1, x_imul, x_iadd, x_iinc2, x_iinc1, t11, e1, e0, e_manyOf_0, e_manyOf_1, Int.add_sub_cancel, ea]
  · rintro i s h0 h1 ⟨τ, hk, rfl⟩ hp
    have w5 := hI.1 (σ.1 5) (by have := hR.1; omega) (by have := hR.1; omega)
    have w6 := hI.1 (σ.1 6) (by have := hR.2.1; omega) (by have := hR.2.1; omega)
    have e1 := hk.1
    have t5 : 0 ≤ τ.1 5 ∧ τ.1 5 < 8 := by rw [e1]; exact hR.1
    have t6 : 0 ≤ τ.1 6 ∧ τ.1 6 < 8 := by rw [e1]; exact hR.2.1
    have e0 := hk.2.1 0 (by decide) (by decide)
    have t11 : τ.1 11 = (k : Int) + 1 := by rw [e1]; exact h11
    have h7 : τ.1 7 = n := by rw [e1]; exact hn
    have q8 : ∀ j : Int, 0 ≤ j → j < n → τ.2 8 j = σ.2 8 j := fun j p1 p2 => (hk.2.2 j (by omega)).1
    have q9 : ∀ j : Int, 0 ≤ j → j < n → τ.2 9 j = σ.2 9 j := fun j p1 p2 => (hk.2.2 j (by omega)).2
    have hAL' : AL (wd τ (τ.1 5)) (wd τ (τ.1 6)) (τ.2 8) (τ.2 9) n = true := by rw [hk.wd, hk.wd, e1, AL_congr q8 q9]; exact hAL
    obtain ⟨τ', r, k1, k2, ea⟩ := e_answerTo0 (l := l) (δ := δ) (w0 := w0) (o := o) (z := z) (hk.WI hI) h7 (hk.RI hn hR) hk3 hm hAL' (a := i) (by rw [e1, e0]; omega)
    rw [hk.wd, hk.wd, e1, e0] at k2
    have eg : ∀ j, GB (wd σ (σ.1 5)) (wd σ (σ.1 6)) (τ.2 8) (τ.2 9) n k 0 i j = GB (wd σ (σ.1 5)) (wd σ (σ.1 6)) (σ.2 8) (σ.2 9) n k 0 i j := fun j => GB_congr q8 q9
    have hr : r = -1 := by
      rcases k2 with ⟨b, rfl, b1, b2, b3, -⟩ | ⟨rfl, b1⟩
      · exfalso
        rw [anyU_t b1 (by omega) (by rw [← eg]; exact b3)] at hp
        cases hp
      · rfl
    subst hr
    refine ⟨_, ⟨τ', hk.tr k1, rfl⟩, ?_⟩
    rw [L_X1_best_70]; unfold C_X1_best_L70
    simp (disch := first | rfl | (simp only [wt_c, wt_0, vc_i, vc_l, vc_r] <;> decide) | omega | exact i32_r _ | exact b2i_r _ | exact b2i_01 _ | exact zAnd_r _ _ | exact zOr_r _ _ | exact zXor_r _ _ | exact zShl_r _ _ | exact zShr_r _ _ | exact zByte_r _ | exact zcmp_r _ _ | decide) only [Bool.decide_eq_true, Bool.decide_eq_false, ↓if_pos, ↓if_neg, ↓reduceIte, Nat.reduceEqDiff, Int.reduceLE, Int.reduceLT, Int.reduceEq, Int.reduceNe, Nat.reduceBEq, Int.reduceAdd, Int.reduceMul, Int.reduceSub, Int.reduceNeg, Nat.reduceAdd, not_false_eq_true, not_true_eq_false, decide_true, decide_false, Bool.not_true, Bool.not_false, Bool.true_and, Bool.false_and, Bool.and_true, Bool.and_false, Bool.true_or, Bool.false_or, Bool.or_true, Bool.or_false, Bool.not_not, decide_not, Decidable.not_not, ite_not, b2i_t, b2i_f, ne_eq, Bool.not_eq_true, Bool.not_eq_false, decide_eq_true_eq, decide_eq_false_iff_not, Bool.false_eq_true, Bool.true_eq_false, reduceCtorEq, if_true, if_false, ite_self, ite_b0, ite_b1, ite_0b, ite_1b, ite_bb, x_done, x_blk, x_lp, x_er, erL_0, erL_t, erL_f, kl_n, kl_i, kl_r, kl_l, bd_i, bd_r, bk_i, bk_e, bk_n, bk_r, bd_ite, bk_ite, lk_i, lk_e, lk_n, lk_r, lk_ite, ite_nx, b2i_i, b2i_n, b2i_0, b2i_1, b2i_e, bres_r, bres_ite, mres_v, mres_n, sF_1, sF_2, sA_1, sA_2, x_aload_n0, m_get, fM_10, x_iconst, x_icmp_eq, x_bipush, x_ireturn, m_call0, x_icmp_ne, fM_15, fM_16, fM_11, x_isub, m_call3, x_istore_n1, x_iload_n1, x_if_ge, x_goto, x_icmp_ge, x_istore_n2, x_iload_n2, m_call1, x_imul, x_iadd, x_iinc2, x_iinc1, t11, e1, e0, e_manyOf_0, e_manyOf_1, Int.add_sub_cancel, ea, Int.mul_zero, Int.zero_add]
  · rintro s ⟨τ, hk, rfl⟩
    have w5 := hI.1 (σ.1 5) (by have := hR.1; omega) (by have := hR.1; omega)
    have w6 := hI.1 (σ.1 6) (by have := hR.2.1; omega) (by have := hR.2.1; omega)
    have e1 := hk.1
    have t5 : 0 ≤ τ.1 5 ∧ τ.1 5 < 8 := by rw [e1]; exact hR.1
    have t6 : 0 ≤ τ.1 6 ∧ τ.1 6 < 8 := by rw [e1]; exact hR.2.1
    have e0 := hk.2.1 0 (by decide) (by decide)
    have t11 : τ.1 11 = (k : Int) + 1 := by rw [e1]; exact h11
    rw [show (((σ.2 0 (σ.1 5)).toNat : Nat) : Int) = σ.2 0 (σ.1 5) by omega]
    rw [L_X1_best_70]; unfold C_X1_best_L70
    simp (disch := first | rfl | (simp only [wt_c, wt_0, vc_i, vc_l, vc_r] <;> decide) | omega | exact i32_r _ | exact b2i_r _ | exact b2i_01 _ | exact zAnd_r _ _ | exact zOr_r _ _ | exact zXor_r _ _ | exact zShl_r _ _ | exact zShr_r _ _ | exact zByte_r _ | exact zcmp_r _ _ | decide) only [Bool.decide_eq_true, Bool.decide_eq_false, ↓if_pos, ↓if_neg, ↓reduceIte, Nat.reduceEqDiff, Int.reduceLE, Int.reduceLT, Int.reduceEq, Int.reduceNe, Nat.reduceBEq, Int.reduceAdd, Int.reduceMul, Int.reduceSub, Int.reduceNeg, Nat.reduceAdd, not_false_eq_true, not_true_eq_false, decide_true, decide_false, Bool.not_true, Bool.not_false, Bool.true_and, Bool.false_and, Bool.and_true, Bool.and_false, Bool.true_or, Bool.false_or, Bool.or_true, Bool.or_false, Bool.not_not, decide_not, Decidable.not_not, ite_not, b2i_t, b2i_f, ne_eq, Bool.not_eq_true, Bool.not_eq_false, decide_eq_true_eq, decide_eq_false_iff_not, Bool.false_eq_true, Bool.true_eq_false, reduceCtorEq, if_true, if_false, ite_self, ite_b0, ite_b1, ite_0b, ite_1b, ite_bb, x_done, x_blk, x_lp, x_er, erL_0, erL_t, erL_f, kl_n, kl_i, kl_r, kl_l, bd_i, bd_r, bk_i, bk_e, bk_n, bk_r, bd_ite, bk_ite, lk_i, lk_e, lk_n, lk_r, lk_ite, ite_nx, b2i_i, b2i_n, b2i_0, b2i_1, b2i_e, bres_r, bres_ite, mres_v, mres_n, sF_1, sF_2, sA_1, sA_2, x_aload_n0, m_get, fM_10, x_iconst, x_icmp_eq, x_bipush, x_ireturn, m_call0, x_icmp_ne, fM_15, fM_16, fM_11, x_isub, m_call3, x_istore_n1, x_iload_n1, x_if_ge, x_goto, x_icmp_ge, x_istore_n2, x_iload_n2, m_call1, x_imul, x_iadd, x_iinc2, x_iinc1, t11, e1, e0, e_manyOf_0, e_manyOf_1]
theorem el_best1 {l : Launch} {δ : Dl} {w0 : Hp} {o : Nat} {σ : MS} {z : Nat × Nat} (hI : WI σ) {n : Nat} (hn : σ.1 7 = n) (hR : RI σ n) {k : Nat} (h11 : σ.1 11 = (k : Int) + 1) (hk3 : k ≤ 3) (hm : n + 1 + k ≤ 5) (hAL : AL (wd σ (σ.1 5)) (wd σ (σ.1 6)) (σ.2 8) (σ.2 9) n = true) : ∀ τ, Kp σ τ → ∃ τ', Kp σ τ' ∧ ((∃ a : Int, 0 ≤ a ∧ a < σ.2 0 (σ.1 6) ∧ anyU (σ.2 0 (σ.1 5)).toNat (GB (wd σ (σ.1 5)) (wd σ (σ.1 6)) (σ.2 8) (σ.2 9) n k 1 a) = false ∧ (∀ j : Int, 0 ≤ j → j < a → anyU (σ.2 0 (σ.1 5)).toNat (GB (wd σ (σ.1 5)) (wd σ (σ.1 6)) (σ.2 8) (σ.2 9) n k 1 j) = true) ∧ lpD 70 (B_X1_best_L70 l δ).1 [] [some (.inr (.inr (some o))), some (.inl 1), some (.inl 0)] (mw w0 o τ, z) = some (.inr (.inr (.inl (some (.inl (10 + a)), mw w0 o τ', z))))) ∨ ((∀ j : Int, 0 ≤ j → j < σ.2 0 (σ.1 6) → anyU (σ.2 0 (σ.1 5)).toNat (GB (wd σ (σ.1 5)) (wd σ (σ.1 6)) (σ.2 8) (σ.2 9) n k 1 j) = true) ∧ lpD 70 (B_X1_best_L70 l δ).1 [] [some (.inr (.inr (some o))), some (.inl 1), some (.inl 0)] (mw w0 o τ, z) = some (.inr (.inl (107, [], [some (.inr (.inr (some o))), some (.inl 1), some (.inl (σ.2 0 (σ.1 6)))], mw w0 o τ', z))))) := by
  intro τ hk
  have hN := hI.1 (σ.1 6) (by have := hR.1; have := hR.2.1; omega) (by have := hR.1; have := hR.2.1; omega)
  have hM := hI.1 (σ.1 5) (by have := hR.1; have := hR.2.1; omega) (by have := hR.1; have := hR.2.1; omega)
  have hl := lp_fst (h := 70) (e := 107) (D := (B_X1_best_L70 l δ).1) (X := fun i => [some (.inr (.inr (some o))), some (.inl 1), some (.inl i)]) (N := (σ.2 0 (σ.1 6)).toNat) (p := fun i => !anyU (σ.2 0 (σ.1 5)).toNat (GB (wd σ (σ.1 5)) (wd σ (σ.1 6)) (σ.2 8) (σ.2 9) n k 1 i)) (rv := fun i => .inl (10 + i)) (P := fun s => ∃ τ, Kp σ τ ∧ s = (mw w0 o τ, z)) (by decide) ?_ ?_ ?_ (mw w0 o τ, z) ⟨τ, hk, rfl⟩
  · obtain ⟨s', ⟨τ', hk', rfl⟩, h⟩ := hl
    rcases h with ⟨i, h1, h2, h3, h4, h5⟩ | ⟨h1, h2⟩
    · exact ⟨τ', hk', Or.inl ⟨i, h1, by omega, nb_t h3, fun j p1 p2 => nb_f (h4 j p1 p2), h5⟩⟩
    · rw [show (((σ.2 0 (σ.1 6)).toNat : Nat) : Int) = σ.2 0 (σ.1 6) by omega] at h2
      exact ⟨τ', hk', Or.inr ⟨fun j p1 p2 => nb_f (h1 j p1 (by omega)), h2⟩⟩
  · rintro i s h0 h1 ⟨τ, hk, rfl⟩ hp
    have w5 := hI.1 (σ.1 5) (by have := hR.1; omega) (by have := hR.1; omega)
    have w6 := hI.1 (σ.1 6) (by have := hR.2.1; omega) (by have := hR.2.1; omega)
    have e1 := hk.1
    have t5 : 0 ≤ τ.1 5 ∧ τ.1 5 < 8 := by rw [e1]; exact hR.1
    have t6 : 0 ≤ τ.1 6 ∧ τ.1 6 < 8 := by rw [e1]; exact hR.2.1
    have e0 := hk.2.1 0 (by decide) (by decide)
    have t11 : τ.1 11 = (k : Int) + 1 := by rw [e1]; exact h11
    have h7 : τ.1 7 = n := by rw [e1]; exact hn
    have q8 : ∀ j : Int, 0 ≤ j → j < n → τ.2 8 j = σ.2 8 j := fun j p1 p2 => (hk.2.2 j (by omega)).1
    have q9 : ∀ j : Int, 0 ≤ j → j < n → τ.2 9 j = σ.2 9 j := fun j p1 p2 => (hk.2.2 j (by omega)).2
    have hAL' : AL (wd τ (τ.1 5)) (wd τ (τ.1 6)) (τ.2 8) (τ.2 9) n = true := by rw [hk.wd, hk.wd, e1, AL_congr q8 q9]; exact hAL
    obtain ⟨τ', r, k1, k2, ea⟩ := e_answerTo1 (l := l) (δ := δ) (w0 := w0) (o := o) (z := z) (hk.WI hI) h7 (hk.RI hn hR) hk3 hm hAL' (a := i) (by rw [e1, e0]; omega)
    rw [hk.wd, hk.wd, e1, e0] at k2
    have eg : ∀ j, GB (wd σ (σ.1 5)) (wd σ (σ.1 6)) (τ.2 8) (τ.2 9) n k 1 i j = GB (wd σ (σ.1 5)) (wd σ (σ.1 6)) (σ.2 8) (σ.2 9) n k 1 i j := fun j => GB_congr q8 q9
    have hr : 0 ≤ r ∧ r ≤ 6 := by
      rcases k2 with ⟨b, rfl, b1, b2, -⟩ | ⟨rfl, b1⟩
      · omega
      · exfalso
        rw [anyU_f (fun j p1 p2 => by rw [← eg]; exact b1 j p1 (by omega))] at hp
        cases hp
    refine ⟨_, ⟨τ', hk.tr k1, rfl⟩, ?_⟩
    rw [L_X1_best_70]; unfold C_X1_best_L70
    simp (disch := first | rfl | (simp only [wt_c, wt_0, vc_i, vc_l, vc_r] <;> decide) | omega | exact i32_r _ | exact b2i_r _ | exact b2i_01 _ | exact zAnd_r _ _ | exact zOr_r _ _ | exact zXor_r _ _ | exact zShl_r _ _ | exact zShr_r _ _ | exact zByte_r _ | exact zcmp_r _ _ | decide) only [Bool.decide_eq_true, Bool.decide_eq_false, ↓if_pos, ↓if_neg, ↓reduceIte, Nat.reduceEqDiff, Int.reduceLE, Int.reduceLT, Int.reduceEq, Int.reduceNe, Nat.reduceBEq, Int.reduceAdd, Int.reduceMul, Int.reduceSub, Int.reduceNeg, Nat.reduceAdd, not_false_eq_true, not_true_eq_false, decide_true, decide_false, Bool.not_true, Bool.not_false, Bool.true_and, Bool.false_and, Bool.and_true, Bool.and_false, Bool.true_or, Bool.false_or, Bool.or_true, Bool.or_false, Bool.not_not, decide_not, Decidable.not_not, ite_not, b2i_t, b2i_f, ne_eq, Bool.not_eq_true, Bool.not_eq_false, decide_eq_true_eq, decide_eq_false_iff_not, Bool.false_eq_true, Bool.true_eq_false, reduceCtorEq, if_true, if_false, ite_self, ite_b0, ite_b1, ite_0b, ite_1b, ite_bb, x_done, x_blk, x_lp, x_er, erL_0, erL_t, erL_f, kl_n, kl_i, kl_r, kl_l, bd_i, bd_r, bk_i, bk_e, bk_n, bk_r, bd_ite, bk_ite, lk_i, lk_e, lk_n, lk_r, lk_ite, ite_nx, b2i_i, b2i_n, b2i_0, b2i_1, b2i_e, bres_r, bres_ite, mres_v, mres_n, sF_1, sF_2, sA_1, sA_2, x_aload_n0, m_get, fM_10, x_iconst, x_icmp_eq, x_bipush, x_ireturn, m_call0, x_icmp_ne, fM_15, fM_16, fM_11, x_isub, m_call3, x_istore_n1, x_iload_n1, x_if_ge, x_goto, x_icmp_ge, x_istore_n2, x_iload_n2, m_call1, x_imul, x_iadd, x_iinc2, x_iinc1, t11, e1, e0, e_manyOf_0, e_manyOf_1, Int.add_sub_cancel, ea]
  · rintro i s h0 h1 ⟨τ, hk, rfl⟩ hp
    have w5 := hI.1 (σ.1 5) (by have := hR.1; omega) (by have := hR.1; omega)
    have w6 := hI.1 (σ.1 6) (by have := hR.2.1; omega) (by have := hR.2.1; omega)
    have e1 := hk.1
    have t5 : 0 ≤ τ.1 5 ∧ τ.1 5 < 8 := by rw [e1]; exact hR.1
    have t6 : 0 ≤ τ.1 6 ∧ τ.1 6 < 8 := by rw [e1]; exact hR.2.1
    have e0 := hk.2.1 0 (by decide) (by decide)
    have t11 : τ.1 11 = (k : Int) + 1 := by rw [e1]; exact h11
    have h7 : τ.1 7 = n := by rw [e1]; exact hn
    have q8 : ∀ j : Int, 0 ≤ j → j < n → τ.2 8 j = σ.2 8 j := fun j p1 p2 => (hk.2.2 j (by omega)).1
    have q9 : ∀ j : Int, 0 ≤ j → j < n → τ.2 9 j = σ.2 9 j := fun j p1 p2 => (hk.2.2 j (by omega)).2
    have hAL' : AL (wd τ (τ.1 5)) (wd τ (τ.1 6)) (τ.2 8) (τ.2 9) n = true := by rw [hk.wd, hk.wd, e1, AL_congr q8 q9]; exact hAL
    obtain ⟨τ', r, k1, k2, ea⟩ := e_answerTo1 (l := l) (δ := δ) (w0 := w0) (o := o) (z := z) (hk.WI hI) h7 (hk.RI hn hR) hk3 hm hAL' (a := i) (by rw [e1, e0]; omega)
    rw [hk.wd, hk.wd, e1, e0] at k2
    have eg : ∀ j, GB (wd σ (σ.1 5)) (wd σ (σ.1 6)) (τ.2 8) (τ.2 9) n k 1 i j = GB (wd σ (σ.1 5)) (wd σ (σ.1 6)) (σ.2 8) (σ.2 9) n k 1 i j := fun j => GB_congr q8 q9
    have hr : r = -1 := by
      rcases k2 with ⟨b, rfl, b1, b2, b3, -⟩ | ⟨rfl, b1⟩
      · exfalso
        rw [anyU_t b1 (by omega) (by rw [← eg]; exact b3)] at hp
        cases hp
      · rfl
    subst hr
    refine ⟨_, ⟨τ', hk.tr k1, rfl⟩, ?_⟩
    rw [L_X1_best_70]; unfold C_X1_best_L70
    simp (disch := first | rfl | (simp only [wt_c, wt_0, vc_i, vc_l, vc_r] <;> decide) | omega | exact i32_r _ | exact b2i_r _ | exact b2i_01 _ | exact zAnd_r _ _ | exact zOr_r _ _ | exact zXor_r _ _ | exact zShl_r _ _ | exact zShr_r _ _ | exact zByte_r _ | exact zcmp_r _ _ | decide) only [Bool.decide_eq_true, Bool.decide_eq_false, ↓if_pos, ↓if_neg, ↓reduceIte, Nat.reduceEqDiff, Int.reduceLE, Int.reduceLT, Int.reduceEq, Int.reduceNe, Nat.reduceBEq, Int.reduceAdd, Int.reduceMul, Int.reduceSub, Int.reduceNeg, Nat.reduceAdd, not_false_eq_true, not_true_eq_false, decide_true, decide_false, Bool.not_true, Bool.not_false, Bool.true_and, Bool.false_and, Bool.and_true, Bool.and_false, Bool.true_or, Bool.false_or, Bool.or_true, Bool.or_false, Bool.not_not, decide_not, Decidable.not_not, ite_not, b2i_t, b2i_f, ne_eq, Bool.not_eq_true, Bool.not_eq_false, decide_eq_true_eq, decide_eq_false_iff_not, Bool.false_eq_true, Bool.true_eq_false, reduceCtorEq, if_true, if_false, ite_self, ite_b0, ite_b1, ite_0b, ite_1b, ite_bb, x_done, x_blk, x_lp, x_er, erL_0, erL_t, erL_f, kl_n, kl_i, kl_r, kl_l, bd_i, bd_r, bk_i, bk_e, bk_n, bk_r, bd_ite, bk_ite, lk_i, lk_e, lk_n, lk_r, lk_ite, ite_nx, b2i_i, b2i_n, b2i_0, b2i_1, b2i_e, bres_r, bres_ite, mres_v, mres_n, sF_1, sF_2, sA_1, sA_2, x_aload_n0, m_get, fM_10, x_iconst, x_icmp_eq, x_bipush, x_ireturn, m_call0, x_icmp_ne, fM_15, fM_16, fM_11, x_isub, m_call3, x_istore_n1, x_iload_n1, x_if_ge, x_goto, x_icmp_ge, x_istore_n2, x_iload_n2, m_call1, x_imul, x_iadd, x_iinc2, x_iinc1, t11, e1, e0, e_manyOf_0, e_manyOf_1, Int.add_sub_cancel, ea, Int.mul_zero, Int.zero_add]
  · rintro s ⟨τ, hk, rfl⟩
    have w5 := hI.1 (σ.1 5) (by have := hR.1; omega) (by have := hR.1; omega)
    have w6 := hI.1 (σ.1 6) (by have := hR.2.1; omega) (by have := hR.2.1; omega)
    have e1 := hk.1
    have t5 : 0 ≤ τ.1 5 ∧ τ.1 5 < 8 := by rw [e1]; exact hR.1
    have t6 : 0 ≤ τ.1 6 ∧ τ.1 6 < 8 := by rw [e1]; exact hR.2.1
    have e0 := hk.2.1 0 (by decide) (by decide)
    have t11 : τ.1 11 = (k : Int) + 1 := by rw [e1]; exact h11
    rw [show (((σ.2 0 (σ.1 6)).toNat : Nat) : Int) = σ.2 0 (σ.1 6) by omega]
    rw [L_X1_best_70]; unfold C_X1_best_L70
    simp (disch := first | rfl | (simp only [wt_c, wt_0, vc_i, vc_l, vc_r] <;> decide) | omega | exact i32_r _ | exact b2i_r _ | exact b2i_01 _ | exact zAnd_r _ _ | exact zOr_r _ _ | exact zXor_r _ _ | exact zShl_r _ _ | exact zShr_r _ _ | exact zByte_r _ | exact zcmp_r _ _ | decide) only [Bool.decide_eq_true, Bool.decide_eq_false, ↓if_pos, ↓if_neg, ↓reduceIte, Nat.reduceEqDiff, Int.reduceLE, Int.reduceLT, Int.reduceEq, Int.reduceNe, Nat.reduceBEq, Int.reduceAdd, Int.reduceMul, Int.reduceSub, Int.reduceNeg, Nat.reduceAdd, not_false_eq_true, not_true_eq_false, decide_true, decide_false, Bool.not_true, Bool.not_false, Bool.true_and, Bool.false_and, Bool.and_true, Bool.and_false, Bool.true_or, Bool.false_or, Bool.or_true, Bool.or_false, Bool.not_not, decide_not, Decidable.not_not, ite_not, b2i_t, b2i_f, ne_eq, Bool.not_eq_true, Bool.not_eq_false, decide_eq_true_eq, decide_eq_false_iff_not, Bool.false_eq_true, Bool.true_eq_false, reduceCtorEq, if_true, if_false, ite_self, ite_b0, ite_b1, ite_0b, ite_1b, ite_bb, x_done, x_blk, x_lp, x_er, erL_0, erL_t, erL_f, kl_n, kl_i, kl_r, kl_l, bd_i, bd_r, bk_i, bk_e, bk_n, bk_r, bd_ite, bk_ite, lk_i, lk_e, lk_n, lk_r, lk_ite, ite_nx, b2i_i, b2i_n, b2i_0, b2i_1, b2i_e, bres_r, bres_ite, mres_v, mres_n, sF_1, sF_2, sA_1, sA_2, x_aload_n0, m_get, fM_10, x_iconst, x_icmp_eq, x_bipush, x_ireturn, m_call0, x_icmp_ne, fM_15, fM_16, fM_11, x_isub, m_call3, x_istore_n1, x_iload_n1, x_if_ge, x_goto, x_icmp_ge, x_istore_n2, x_iload_n2, m_call1, x_imul, x_iadd, x_iinc2, x_iinc1, t11, e1, e0, e_manyOf_0, e_manyOf_1]
