/-! ===== the reference: copies of worlds ===== -/
set_option maxRecDepth 100000
theorem fil_s0 {g h : Int → Int} {i x : Int} (hi : 0 ≤ i) (hx : x = h i) : (fun q => if q = i then x else fil g 0 i h q) = fil g 0 (i + 1) h := by
  have := fil_s (g := g) (lo := 0) hi hx
  rwa [Int.zero_add] at this
def cpS (σ : MS) (w i : Int) : MS := sAr (sAr σ 3 (fil (σ.2 3) 0 i (fun a => σ.2 1 (6 * w + a)))) 4 (fil (σ.2 4) 0 i (fun a => σ.2 2 (6 * w + a)))
theorem cpS_k {σ : MS} {w i : Int} {k : Nat} (h1 : k ≠ 3) (h2 : k ≠ 4) : (cpS σ w i).2 k = σ.2 k := by
  funext q
  unfold cpS
  rw [sAr_2, if_neg h2, sAr_2, if_neg h1]
theorem cpS_3 {σ : MS} {w i : Int} : (cpS σ w i).2 3 = fil (σ.2 3) 0 i (fun a => σ.2 1 (6 * w + a)) := nrfl rfl
theorem cpS_4 {σ : MS} {w i : Int} : (cpS σ w i).2 4 = fil (σ.2 4) 0 i (fun a => σ.2 2 (6 * w + a)) := nrfl rfl
theorem cpS_1 {σ : MS} {w i : Int} : (cpS σ w i).1 = σ.1 := nrfl rfl
theorem cpS_00 {σ : MS} {w i : Int} : (cpS σ w i).2 0 = σ.2 0 := nrfl rfl
theorem cpS_01 {σ : MS} {w i : Int} : (cpS σ w i).2 1 = σ.2 1 := nrfl rfl
theorem cpS_02 {σ : MS} {w i : Int} : (cpS σ w i).2 2 = σ.2 2 := nrfl rfl
theorem cpS_s {σ : MS} {w i : Int} (hi : 0 ≤ i) : sA (sA (cpS σ w i) 3 i (σ.2 1 (6 * w + i))) 4 i (σ.2 2 (6 * w + i)) = cpS σ w (i + 1) := by
  unfold cpS
  rw [sA_sAr' (by decide), sA_sAr, sA_sAr, fil_s0 (h := fun a => σ.2 1 (6 * w + a)) hi rfl, fil_s0 (h := fun a => σ.2 2 (6 * w + a)) hi rfl]
theorem tl_copyWorld {l : Launch} {δ : Dl} {w0 : Hp} {o : Nat} {σ : MS} {z : Nat × Nat} {w t : Int} (h0 : 0 ≤ w ∧ w ≤ 7) (k : Nat) : ∀ i : Int, 0 ≤ i → i + k = 6 → lpD 2 (B_X1_copyWorld_L2 l δ).1 [] [some (.inr (.inr (some o))), some (.inl (w)), some (.inl (t)), some (.inl (i))] (mw w0 o (cpS σ w i), z) = some (.inr (.inl (48, [], [some (.inr (.inr (some o))), some (.inl (w)), some (.inl (t)), some (.inl (6))], mw w0 o (cpS σ w 6), z))) := by
  induction k with
  | zero =>
    intro i h hi
    have : i = 6 := by omega
    subst this
    rw [lpD_eq, L_X1_copyWorld_2]; unfold C_X1_copyWorld_L2
    simp (disch := first | rfl | (simp only [wt_c, wt_0, vc_i, vc_l, vc_r] <;> decide) | omega | exact i32_r _ | exact b2i_r _ | exact b2i_01 _ | exact zAnd_r _ _ | exact zOr_r _ _ | exact zXor_r _ _ | exact zShl_r _ _ | exact zShr_r _ _ | exact zByte_r _ | exact zcmp_r _ _ | decide) only [Bool.decide_eq_true, Bool.decide_eq_false, ↓if_pos, ↓if_neg, ↓reduceIte, Nat.reduceEqDiff, Int.reduceLE, Int.reduceLT, Int.reduceEq, Int.reduceNe, Nat.reduceBEq, Int.reduceAdd, Int.reduceMul, Int.reduceSub, Int.reduceNeg, Nat.reduceAdd, not_false_eq_true, not_true_eq_false, decide_true, decide_false, Bool.not_true, Bool.not_false, Bool.true_and, Bool.false_and, Bool.and_true, Bool.and_false, Bool.true_or, Bool.false_or, Bool.or_true, Bool.or_false, Bool.not_not, decide_not, Decidable.not_not, ite_not, b2i_t, b2i_f, ne_eq, Bool.not_eq_true, Bool.not_eq_false, decide_eq_true_eq, decide_eq_false_iff_not, Bool.false_eq_true, Bool.true_eq_false, reduceCtorEq, if_true, if_false, ite_self, ite_b0, ite_b1, ite_0b, ite_1b, ite_bb, x_done, x_blk, x_lp, x_er, erL_0, erL_t, erL_f, kl_n, kl_i, kl_r, kl_l, bd_i, bd_r, bk_i, bk_e, bk_n, bk_r, bd_ite, bk_ite, lk_i, lk_e, lk_n, lk_r, lk_ite, ite_nx, b2i_i, b2i_n, b2i_0, b2i_1, b2i_e, bres_r, bres_ite, mres_v, mres_n, sF_1, sF_2, sA_1, sA_2, x_iconst, x_istore_n3, x_iload_n3, x_bipush, x_icmp_ge, x_aload_n0, m_get, fM_3, fM_1, x_iload_n1, x_imul, x_iadd, fM_4, fM_2, x_iinc3, x_goto, x_iload_n2, fM_0, m_call2, x_return, m_ld0, m_st0, m_ld1, m_st1, m_ld2, m_st2, m_ld3, m_st3, m_ld4, m_st4]
  | succ k ih =>
    intro i h hi
    rw [lpD_eq, L_X1_copyWorld_2]; unfold C_X1_copyWorld_L2
    simp (disch := first | rfl | (simp only [wt_c, wt_0, vc_i, vc_l, vc_r] <;> decide) | omega | exact i32_r _ | exact b2i_r _ | exact b2i_01 _ | exact zAnd_r _ _ | exact zOr_r _ _ | exact zXor_r _ _ | exact zShl_r _ _ | exact zShr_r _ _ | exact zByte_r _ | exact zcmp_r _ _ | decide) only [Bool.decide_eq_true, Bool.decide_eq_false, ↓if_pos, ↓if_neg, ↓reduceIte, Nat.reduceEqDiff, Int.reduceLE, Int.reduceLT, Int.reduceEq, Int.reduceNe, Nat.reduceBEq, Int.reduceAdd, Int.reduceMul, Int.reduceSub, Int.reduceNeg, Nat.reduceAdd, not_false_eq_true, not_true_eq_false, decide_true, decide_false, Bool.not_true, Bool.not_false, Bool.true_and, Bool.false_and, Bool.and_true, Bool.and_false, Bool.true_or, Bool.false_or, Bool.or_true, Bool.or_false, Bool.not_not, decide_not, Decidable.not_not, ite_not, b2i_t, b2i_f, ne_eq, Bool.not_eq_true, Bool.not_eq_false, decide_eq_true_eq, decide_eq_false_iff_not, Bool.false_eq_true, Bool.true_eq_false, reduceCtorEq, if_true, if_false, ite_self, ite_b0, ite_b1, ite_0b, ite_1b, ite_bb, x_done, x_blk, x_lp, x_er, erL_0, erL_t, erL_f, kl_n, kl_i, kl_r, kl_l, bd_i, bd_r, bk_i, bk_e, bk_n, bk_r, bd_ite, bk_ite, lk_i, lk_e, lk_n, lk_r, lk_ite, ite_nx, b2i_i, b2i_n, b2i_0, b2i_1, b2i_e, bres_r, bres_ite, mres_v, mres_n, sF_1, sF_2, sA_1, sA_2, x_iconst, x_istore_n3, x_iload_n3, x_bipush, x_icmp_ge, x_aload_n0, m_get, fM_3, fM_1, x_iload_n1, x_imul, x_iadd, fM_4, fM_2, x_iinc3, x_goto, x_iload_n2, fM_0, m_call2, x_return, m_ld0, m_st0, m_ld1, m_st1, m_ld2, m_st2, m_ld3, m_st3, m_ld4, m_st4, cpS_01, cpS_02]
    rw [cpS_s h]
    exact ih (i + 1) (by omega) (by omega)
/-- a world without what is outside of it -/
def cutW (A : Wd) : Wd := (A.1, fun a => if a < A.1 then A.2.1 a else 0, fun a b => if a < A.1 then A.2.2 a b else false)
theorem e_copyWorld {l : Launch} {δ : Dl} {w0 : Hp} {o : Nat} {σ : MS} {z : Nat × Nat} (hI : WI σ) (hZ : WZ σ) {w t : Int} (h0 : 0 ≤ w ∧ w ≤ 7) (h1 : 0 ≤ t ∧ t ≤ 7) : ∃ τ, Lays σ τ t (cutW (wd σ w)) ∧ WI τ ∧ WZ τ ∧ (M_X1_copyWorld l δ).1 [.inr (.inr (some o)), .inl w, .inl t] (mw w0 o σ, z) = some (.inl none, mw w0 o τ, z) := by
  have hw := hI.1 w (by omega) (by omega)
  have hl := tl_copyWorld (l := l) (δ := δ) (w0 := w0) (o := o) (σ := σ) (z := z) (t := t) h0 6 0 (by omega) (by omega)
  have e : cpS σ w 0 = σ := by
    unfold cpS
    rw [fil_0, fil_0]
    exact MS.ext (fun _ => rfl) (fun j q => by simp only [sAr_2]; split <;> simp_all)
  rw [e] at hl
  have v3 : ∀ a, 0 ≤ a → a < 6 → (cpS σ w 6).2 3 a = σ.2 1 (6 * w + a) := fun a p1 p2 => by
    rw [cpS_3]
    have := fil_in (g := σ.2 3) (lo := 0) (h := fun a => σ.2 1 (6 * w + a)) p1 p2
    rwa [Int.zero_add] at this
  have v4 : ∀ a, 0 ≤ a → a < 6 → (cpS σ w 6).2 4 a = σ.2 2 (6 * w + a) := fun a p1 p2 => by
    rw [cpS_4]
    have := fil_in (g := σ.2 4) (lo := 0) (h := fun a => σ.2 2 (6 * w + a)) p1 p2
    rwa [Int.zero_add] at this
  obtain ⟨L1, L2, L3⟩ := lays_of (σ := σ) (τ := cpS σ w 6) (v := t) (n := σ.2 0 w) h1 hw rfl (fun k p1 p2 => cpS_k p1 p2) (fun a p1 p2 => by
    rw [v3 a p1 (by omega), v4 a p1 (by omega)]
    have := hI.2 (6 * w + a) (by omega) (by omega)
    exact ⟨this.1, this.2, (hZ w a (by omega) (by omega) p1 (by omega)).2⟩)
  refine ⟨_, ?_, L2 hI, L3 hZ, ?_⟩
  · obtain ⟨a1, a2, a3, a4, a5, a6⟩ := L1
    refine ⟨a1, a2, a3, a4, a5, fun a p1 p2 => ?_⟩
    obtain ⟨q1, q2⟩ := a6 a p1 p2
    refine ⟨q1.trans ?_, fun b p3 p4 => (q2 b p3 p4).trans ?_⟩
    · show (if a < σ.2 0 w then (cpS σ w 6).2 3 a else 0) = if a < σ.2 0 w then σ.2 1 (6 * w + a) else 0
      rw [v3 a p1 p2]
    · show (if a < σ.2 0 w then tb ((cpS σ w 6).2 4 a) b else false) = if a < σ.2 0 w then tb (σ.2 2 (6 * w + a)) b else false
      rw [v4 a p1 p2]
  · rw [N_X1_copyWorld]; unfold B_X1_copyWorld
    simp (disch := first | rfl | (simp only [wt_c, wt_0, vc_i, vc_l, vc_r] <;> decide) | omega | exact i32_r _ | exact b2i_r _ | exact b2i_01 _ | exact zAnd_r _ _ | exact zOr_r _ _ | exact zXor_r _ _ | exact zShl_r _ _ | exact zShr_r _ _ | exact zByte_r _ | exact zcmp_r _ _ | decide) only [Bool.decide_eq_true, Bool.decide_eq_false, ↓if_pos, ↓if_neg, ↓reduceIte, Nat.reduceEqDiff, Int.reduceLE, Int.reduceLT, Int.reduceEq, Int.reduceNe, Nat.reduceBEq, Int.reduceAdd, Int.reduceMul, Int.reduceSub, Int.reduceNeg, Nat.reduceAdd, not_false_eq_true, not_true_eq_false, decide_true, decide_false, Bool.not_true, Bool.not_false, Bool.true_and, Bool.false_and, Bool.and_true, Bool.and_false, Bool.true_or, Bool.false_or, Bool.or_true, Bool.or_false, Bool.not_not, decide_not, Decidable.not_not, ite_not, b2i_t, b2i_f, ne_eq, Bool.not_eq_true, Bool.not_eq_false, decide_eq_true_eq, decide_eq_false_iff_not, Bool.false_eq_true, Bool.true_eq_false, reduceCtorEq, if_true, if_false, ite_self, ite_b0, ite_b1, ite_0b, ite_1b, ite_bb, x_done, x_blk, x_lp, x_er, erL_0, erL_t, erL_f, kl_n, kl_i, kl_r, kl_l, bd_i, bd_r, bk_i, bk_e, bk_n, bk_r, bd_ite, bk_ite, lk_i, lk_e, lk_n, lk_r, lk_ite, ite_nx, b2i_i, b2i_n, b2i_0, b2i_1, b2i_e, bres_r, bres_ite, mres_v, mres_n, sF_1, sF_2, sA_1, sA_2, x_iconst, x_istore_n3, x_iload_n3, x_bipush, x_icmp_ge, x_aload_n0, m_get, fM_3, fM_1, x_iload_n1, x_imul, x_iadd, fM_4, fM_2, x_iinc3, x_goto, x_iload_n2, fM_0, m_call2, x_return, m_ld0, m_st0, m_ld1, m_st1, m_ld2, m_st2, m_ld3, m_st3, m_ld4, m_st4]
    rw [hl]
    simp (disch := first | rfl | (simp only [wt_c, wt_0, vc_i, vc_l, vc_r] <;> decide) | omega | exact i32_r _ | exact b2i_r _ | exact b2i_01 _ | exact zAnd_r _ _ | exact zOr_r _ _ | exact zXor_r _ _ | exact zShl_r _ _ | exact zShr_r _ _ | exact zByte_r _ | exact zcmp_r _ _ | decide) only [Bool.decide_eq_true, Bool.decide_eq_false, ↓if_pos, ↓if_neg, ↓reduceIte, Nat.reduceEqDiff, Int.reduceLE, Int.reduceLT, Int.reduceEq, Int.reduceNe, Nat.reduceBEq, Int.reduceAdd, Int.reduceMul, Int.reduceSub, Int.reduceNeg, Nat.reduceAdd, not_false_eq_true, not_true_eq_false, decide_true, decide_false, Bool.not_true, Bool.not_false, Bool.true_and, Bool.false_and, Bool.and_true, Bool.and_false, Bool.true_or, Bool.false_or, Bool.or_true, Bool.or_false, Bool.not_not, decide_not, Decidable.not_not, ite_not, b2i_t, b2i_f, ne_eq, Bool.not_eq_true, Bool.not_eq_false, decide_eq_true_eq, decide_eq_false_iff_not, Bool.false_eq_true, Bool.true_eq_false, reduceCtorEq, if_true, if_false, ite_self, ite_b0, ite_b1, ite_0b, ite_1b, ite_bb, x_done, x_blk, x_lp, x_er, erL_0, erL_t, erL_f, kl_n, kl_i, kl_r, kl_l, bd_i, bd_r, bk_i, bk_e, bk_n, bk_r, bd_ite, bk_ite, lk_i, lk_e, lk_n, lk_r, lk_ite, ite_nx, b2i_i, b2i_n, b2i_0, b2i_1, b2i_e, bres_r, bres_ite, mres_v, mres_n, sF_1, sF_2, sA_1, sA_2, x_iconst, x_istore_n3, x_iload_n3, x_bipush, x_icmp_ge, x_aload_n0, m_get, fM_3, fM_1, x_iload_n1, x_imul, x_iadd, fM_4, fM_2, x_iinc3, x_goto, x_iload_n2, fM_0, m_call2, x_return, m_ld0, m_st0, m_ld1, m_st1, m_ld2, m_st2, m_ld3, m_st3, m_ld4, m_st4, cpS_00, e_lay]
/-- world -/
theorem e_worldL {l : Launch} {δ : Dl} {w0 : Hp} {o : Nat} {σ : MS} {z : Nat × Nat} (hI : WI σ) (hZ : WZ σ) {w n : Int} (h0 : 0 ≤ w ∧ w ≤ 5) (h1 : 1 ≤ n ∧ n ≤ 6) : ∃ τ, Lays σ τ w (n, fun _ => 0, fun _ _ => false) ∧ WI τ ∧ WZ τ ∧ (M_X1_world l δ).1 [.inr (.inr (some o)), .inl w, .inl n] (mw w0 o σ, z) = some (.inl (some (.inl n)), mw w0 o τ, z) := by
  have e : woS (sA σ 0 w n) w 6 = sAr (sAr (layS (sA (sAr (sAr σ 3 (fun _ => 0)) 4 (fun _ => 0)) 0 w n) w n 6) 3 (σ.2 3)) 4 (σ.2 4) := by
    refine MS.ext (fun _ => rfl) (fun k i => ?_)
    unfold woS layS
    simp only [sAr_2, sA_2, sAr_1, sA_1]
    by_cases k4 : k = 4
    · subst k4; simp
    by_cases k3 : k = 3
    · subst k3; simp
    by_cases k2 : k = 2
    · subst k2; simp; rfl
    by_cases k1 : k = 1
    · subst k1; simp; rfl
    simp [k1, k2, k3, k4]
  obtain ⟨L1, L2, L3⟩ := lays_of (σ := σ) (τ := sAr (sAr σ 3 (fun _ => 0)) 4 (fun _ => 0)) (v := w) (n := n) (by omega) (by omega) rfl (fun k p1 p2 => by funext q; rw [sAr_2, if_neg p2, sAr_2, if_neg p1]) (fun a p1 p2 => ⟨show 0 ≤ (0 : Int) ∧ (0 : Int) ≤ 3 by decide, show 0 ≤ (0 : Int) ∧ (0 : Int) ≤ 63 by decide, fun b p3 p4 => tb_0 ⟨by omega, p4⟩⟩)
  refine ⟨_, ?_, ?_, ?_, e_world h0 h1⟩
  · rw [e]
    obtain ⟨a1, a2, a3, a4, a5, a6⟩ := L1
    refine ⟨a1, fun k hk => ?_, a3, a4, a5, fun a p1 p2 => ?_⟩
    · funext q
      rw [sAr_2, if_neg (by omega), sAr_2, if_neg (by omega), a2 k hk]
    · obtain ⟨q1, q2⟩ := a6 a p1 p2
      refine ⟨q1.trans ?_, fun b p3 p4 => (q2 b p3 p4).trans ?_⟩
      · dsimp only; split <;> rfl
      · dsimp only
        split
        · exact tb_0 ⟨p3, p4⟩
        · rfl
  · rw [e]; exact WI_of rfl rfl rfl (L2 hI)
  · rw [e]; exact L3 hZ
