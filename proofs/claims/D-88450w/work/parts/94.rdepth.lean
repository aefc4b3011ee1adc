/-! ===== the reference: depthOf ===== -/
set_option maxRecDepth 100000
/-- is node i a quantifier that is not ended at k -/
def qN (K N : Int → Int) (b i k : Int) : Int := if (K (b + i) = 2 ∨ K (b + i) = 3) ∧ k < N (b + i) then 1 else 0
/-- how many of the n nodes from lo on -/
def cQ (K N : Int → Int) (b lo : Int) (n : Nat) (k : Int) : Int := sumU n (fun j => qN K N b (lo + j) k)
theorem sumU_add {f : Int → Int} {a : Nat} : ∀ b : Nat, sumU (a + b) f = sumU a f + sumU b (fun j => f ((a : Int) + j))
  | 0 => by show sumU a f = sumU a f + 0; omega
  | b + 1 => by
    show sumU (a + b) f + f ((a + b : Nat) : Int) = sumU a f + (sumU b (fun j => f ((a : Int) + j)) + f ((a : Int) + b))
    rw [sumU_add b, show ((a + b : Nat) : Int) = (a : Int) + b by omega]
    omega
theorem cQ_add {K N : Int → Int} {b lo k : Int} {m n : Nat} : cQ K N b lo (m + n) k = cQ K N b lo m k + cQ K N b (lo + m) n k := by
  unfold cQ
  rw [sumU_add]
  congr 1
  refine sumU_congr fun j _ _ => ?_
  rw [show lo + ((m : Int) + j) = lo + m + j by omega]
theorem cQ_r {K N : Int → Int} {b lo k : Int} {n : Nat} : 0 ≤ cQ K N b lo n k ∧ cQ K N b lo n k ≤ n * 1 := sumU_r fun i _ _ => by unfold qN; split <;> omega
theorem cQ_1 {K N : Int → Int} {b lo k : Int} : cQ K N b lo 1 k = qN K N b lo k := by
  show 0 + qN K N b (lo + ((0 : Nat) : Int)) k = _
  rw [show lo + ((0 : Nat) : Int) = lo by omega]
  omega
theorem cQ_f {K O T N : Int → Int} {b : Int} {f : Fo} {bb : Bool} {q : Int} (h : Fo.wf f bb q) : ∀ p : Int, TA K O T N b f p → (∀ k : Int, p ≤ k → k < p + Fo.sz f → cQ K N b p (k + 1 - p).toNat k ≤ Fo.dp f) ∧ (1 ≤ Fo.sz f → ∃ k : Int, p ≤ k ∧ k < p + Fo.sz f ∧ cQ K N b p (k + 1 - p).toNat k = Fo.dp f) ∧ ∀ k : Int, p + Fo.sz f ≤ k → cQ K N b p (Fo.sz f) k = 0 := by
  have node : ∀ (f : Fo) (p : Int) (v e : Nat), N (b + p) = p + 1 + Fo.sz f → (∀ k : Int, k < p + 1 + Fo.sz f → qN K N b p k = e) → (∀ k : Int, p + 1 + Fo.sz f ≤ k → qN K N b p k = 0) → 1 ≤ Fo.sz f → ((∀ k : Int, p + 1 ≤ k → k < p + 1 + Fo.sz f → cQ K N b (p + 1) (k + 1 - (p + 1)).toNat k ≤ v) ∧ (1 ≤ Fo.sz f → ∃ k : Int, p + 1 ≤ k ∧ k < p + 1 + Fo.sz f ∧ cQ K N b (p + 1) (k + 1 - (p + 1)).toNat k = v) ∧ ∀ k : Int, p + 1 + Fo.sz f ≤ k → cQ K N b (p + 1) (Fo.sz f) k = 0) → (∀ k : Int, p ≤ k → k < p + (Fo.sz f + 1 : Nat) → cQ K N b p (k + 1 - p).toNat k ≤ (v + e : Nat)) ∧ (1 ≤ Fo.sz f + 1 → ∃ k : Int, p ≤ k ∧ k < p + (Fo.sz f + 1 : Nat) ∧ cQ K N b p (k + 1 - p).toNat k = (v + e : Nat)) ∧ ∀ k : Int, p + (Fo.sz f + 1 : Nat) ≤ k → cQ K N b p (Fo.sz f + 1) k = 0 := by
    rintro f p v e hN h1 h2 hs ⟨i1, i2, i3⟩
    refine ⟨fun k k1 k2 => ?_, fun _ => ?_, fun k k1 => ?_⟩
    · by_cases hk : k = p
      · subst hk
        rw [show (k + 1 - k).toNat = 1 by omega, cQ_1, h1 k (by omega)]
        omega
      · rw [show (k + 1 - p).toNat = 1 + (k + 1 - (p + 1)).toNat by omega, cQ_add, cQ_1, h1 k (by omega), show p + ((1 : Nat) : Int) = p + 1 by omega]
        have := i1 k (by omega) (by omega)
        omega
    · obtain ⟨k, k1, k2, k3⟩ := i2 hs
      refine ⟨k, by omega, by omega, ?_⟩
      rw [show (k + 1 - p).toNat = 1 + (k + 1 - (p + 1)).toNat by omega, cQ_add, cQ_1, h1 k (by omega), show p + ((1 : Nat) : Int) = p + 1 by omega, k3]
      omega
    · rw [show Fo.sz f + 1 = 1 + Fo.sz f by omega, cQ_add, cQ_1, h2 k (by omega), show p + ((1 : Nat) : Int) = p + 1 by omega, i3 k (by omega)]
      rfl
  induction f, bb, q, h using wf_ind with
  | atom kd m n q h =>
    intro p hT
    rw [TA_atom h] at hT
    have hr := okA_r h
    have z0 : ∀ k, qN K N b p k = 0 := fun k => by unfold qN; rw [if_neg (by rw [hT.1]; omega)]
    rw [sz_atom h]
    refine ⟨fun k k1 k2 => ?_, fun _ => ⟨p, by omega, by omega, ?_⟩, fun k k1 => ?_⟩
    · rw [show (k + 1 - p).toNat = 1 by omega, cQ_1, z0]; omega
    · rw [show (p + 1 - p).toNat = 1 by omega, cQ_1, z0]; rfl
    · rw [cQ_1, z0]
  | not f q h ih =>
    intro p hT
    rw [TA_not] at hT
    rw [sz_not, dp_not]
    exact node f p (Fo.dp f) 0 hT.2.2.2.1 (fun k _ => by unfold qN; rw [if_neg (by rw [hT.1]; omega)]; rfl) (fun k _ => by unfold qN; rw [if_neg (by rw [hT.1]; omega)]) (sz_pos h) (ih (p + 1) hT.2.2.2.2)
  | each a f q hq h ih =>
    intro p hT
    rw [TA_each] at hT
    rw [sz_each, dp_each]
    have := kdQ_r a
    exact node f p (Fo.dp f) 1 hT.2.2.2.1 (fun k hk => by unfold qN; rw [if_pos (by rw [hT.1, hT.2.2.2.1]; omega)]; rfl) (fun k hk => by unfold qN; rw [if_neg (by rw [hT.2.2.2.1]; omega)]) (sz_pos h) (ih (p + 1) hT.2.2.2.2)
  | many a f q h2 h ih =>
    intro p hT
    rw [TA_many] at hT
    rw [sz_many, dp_many]
    have := kdM_r a
    have sp : 1 ≤ Fo.sz f := by
      rcases wf_r h with rfl | ⟨g, u, rfl, hg, hu⟩
      · rw [len_nil] at h2; omega
      · rw [sz_cons]; have := sz_pos hg; omega
    exact node f p (Fo.dp f) 0 hT.2.2.2.1 (fun k _ => by unfold qN; rw [if_neg (by rw [hT.1]; omega)]; rfl) (fun k _ => by unfold qN; rw [if_neg (by rw [hT.1]; omega)]) sp (ih (p + 1) hT.2.2.2.2)
  | nil q =>
    intro p hT
    rw [sz_nil]
    exact ⟨fun k k1 k2 => by omega, fun h => by omega, fun k k1 => rfl⟩
  | cons g t q hg ht i1 i2 =>
    intro p hT
    rw [TA_cons] at hT
    obtain ⟨a1, a2, a3⟩ := i1 p hT.1
    obtain ⟨b1, b2, b3⟩ := i2 (p + Fo.sz g) hT.2
    have gp := sz_pos hg
    rw [sz_cons, dp_cons]
    have sp : ∀ k : Int, p + Fo.sz g ≤ k → cQ K N b p (k + 1 - p).toNat k = cQ K N b (p + Fo.sz g) (k + 1 - (p + Fo.sz g)).toNat k := fun k hk => by
      rw [show (k + 1 - p).toNat = Fo.sz g + (k + 1 - (p + Fo.sz g)).toNat by omega, cQ_add, a3 k hk]
      omega
    refine ⟨fun k k1 k2 => ?_, fun _ => ?_, fun k k1 => ?_⟩
    · by_cases hk : k < p + Fo.sz g
      · have := a1 k k1 hk; omega
      · rw [sp k (by omega)]
        have := b1 k (by omega) (by omega)
        omega
    · by_cases hd : Fo.dp t ≤ Fo.dp g
      · obtain ⟨k, c1, c2, c3⟩ := a2 gp
        exact ⟨k, c1, by omega, by rw [c3]; omega⟩
      · have tp : 1 ≤ Fo.sz t := by
          rcases wf_r ht with rfl | ⟨g', u, rfl, hg', hu⟩
          · rw [dp_nil] at hd; omega
          · rw [sz_cons]; have := sz_pos hg'; omega
        obtain ⟨k, c1, c2, c3⟩ := b2 tp
        exact ⟨k, by omega, by omega, by rw [sp k c1, c3]; omega⟩
    · rw [cQ_add, a3 k (by omega), b3 k (by omega)]
      rfl
theorem TA_n {K O T N : Int → Int} {b : Int} {f : Fo} {bb : Bool} {q : Int} (h : Fo.wf f bb q) : ∀ p : Int, TA K O T N b f p → ∀ i : Int, 0 ≤ i → i < Fo.sz f → p < N (b + (p + i)) ∧ N (b + (p + i)) ≤ p + Fo.sz f := by
  induction f, bb, q, h using wf_ind with
  | atom k m n q h =>
    intro p hT i h1 h2
    rw [TA_atom h] at hT
    rw [sz_atom h] at h2 ⊢
    rw [show p + i = p by omega, hT.2.2.2]
    omega
  | not f q h ih =>
    intro p hT i h1 h2
    rw [TA_not] at hT
    rw [sz_not] at h2 ⊢
    by_cases e : i = 0
    · rw [show p + i = p by omega, hT.2.2.2.1]; omega
    · have := ih (p + 1) hT.2.2.2.2 (i - 1) (by omega) (by omega)
      rw [show p + 1 + (i - 1) = p + i by omega] at this
      omega
  | each a f q hq h ih =>
    intro p hT i h1 h2
    rw [TA_each] at hT
    rw [sz_each] at h2 ⊢
    by_cases e : i = 0
    · rw [show p + i = p by omega, hT.2.2.2.1]; omega
    · have := ih (p + 1) hT.2.2.2.2 (i - 1) (by omega) (by omega)
      rw [show p + 1 + (i - 1) = p + i by omega] at this
      omega
  | many a f q h2' h ih =>
    intro p hT i h1 h2
    rw [TA_many] at hT
    rw [sz_many] at h2 ⊢
    by_cases e : i = 0
    · rw [show p + i = p by omega, hT.2.2.2.1]; omega
    · have := ih (p + 1) hT.2.2.2.2 (i - 1) (by omega) (by omega)
      rw [show p + 1 + (i - 1) = p + i by omega] at this
      omega
  | nil q => intro p hT i h1 h2; rw [sz_nil] at h2; omega
  | cons g t q hg ht i1 i2 =>
    intro p hT i h1 h2
    rw [TA_cons] at hT
    rw [sz_cons] at h2 ⊢
    by_cases e : i < Fo.sz g
    · have := i1 p hT.1 i h1 e
      omega
    · have := i2 (p + Fo.sz g) hT.2 (i - Fo.sz g) (by omega) (by omega)
      rw [show p + (Fo.sz g : Int) + (i - Fo.sz g) = p + i by omega] at this
      omega
theorem e_depthOf {l : Launch} {δ : Dl} {w0 : Hp} {o : Nat} {σ : MS} {z : Nat × Nat} {s : Int} {f : Fo} (hs : 0 ≤ s ∧ s < 20) (hf : Fo.wf f false 0) (hF : TAs σ s f 0) (sf : Fo.sz f ≤ 600) (m1 : σ.2 18 s = Fo.sz f) : (M_X1_depthOf l δ).1 [.inr (.inr (some o)), .inl s] (mw w0 o σ, z) = some (.inl (some (.inl (Fo.dp f : Int))), mw w0 o σ, z) := by
  obtain ⟨c1, c2, -⟩ := cQ_f hf 0 hF
  have dl := dpv_le hf
  have hN : ∀ i : Int, 0 ≤ i → i < Fo.sz f → 0 ≤ σ.2 22 (600 * s + i) ∧ σ.2 22 (600 * s + i) ≤ 600 := fun i h1 h2 => by
    have := TA_n hf 0 hF i h1 h2
    rw [Int.zero_add] at this
    omega
  have inner : ∀ k mo : Int, 0 ≤ k → k < Fo.sz f → lpD 28 (B_X1_depthOf_L28 l δ).1 [] [some (.inr (.inr (some o))), some (.inl s), some (.inl (600 * s)), some (.inl mo), some (.inl k), some (.inl 0), some (.inl 0)] (mw w0 o σ, z) = some (.inr (.inl (91, [], [some (.inr (.inr (some o))), some (.inl s), some (.inl (600 * s)), some (.inl mo), some (.inl k), some (.inl (cQ (σ.2 19) (σ.2 22) (600 * s) 0 (k + 1 - 0).toNat k)), some (.inl (k + 1))], mw w0 o σ, z))) := by
    intro k mo k0 k1
    have hl := lp_for (h := 28) (e := 91) (D := (B_X1_depthOf_L28 l δ).1) (α := Unit) (N := k + 1) (X := fun i _ => [some (.inr (.inr (some o))), some (.inl s), some (.inl (600 * s)), some (.inl mo), some (.inl k), some (.inl (cQ (σ.2 19) (σ.2 22) (600 * s) 0 i.toNat k)), some (.inl i)]) (C := fun j _ s => s = (mw w0 o σ, z)) (by decide) ?_ ?_ (by omega) () (mw w0 o σ, z) rfl
    · obtain ⟨-, s', rfl, h⟩ := hl
      rw [show k + 1 - 0 = k + 1 by omega]
      exact h
    · rintro i - s' i0 i1 rfl
      refine ⟨(), _, rfl, ?_⟩
      have r1 := TA_r hf hF sf (i := i) ⟨i0, by omega⟩
      have r2 := hN i i0 (by omega)
      have r3 := cQ_r (K := σ.2 19) (N := σ.2 22) (b := 600 * s) (lo := 0) (k := k) (n := i.toNat)
      rw [show cQ (σ.2 19) (σ.2 22) (600 * s) 0 (i + 1).toNat k = cQ (σ.2 19) (σ.2 22) (600 * s) 0 i.toNat k + qN (σ.2 19) (σ.2 22) (600 * s) i k by unfold cQ; rw [sumU_s i0, Int.zero_add]]
      unfold qN
      rw [L_X1_depthOf_28]; unfold C_X1_depthOf_L28
      by_cases h2 : σ.2 19 (600 * s + i) = 2
      · by_cases he : k < σ.2 22 (600 * s + i)
        · rw [if_pos ⟨Or.inl h2, he⟩]
          simp (disch := first | rfl | (simp only [wt_c, wt_0, vc_i, vc_l, vc_r] <;> decide) | omega | exact i32_r _ | exact b2i_r _ | exact b2i_01 _ | exact zAnd_r _ _ | exact zOr_r _ _ | exact zXor_r _ _ | exact zShl_r _ _ | exact zShr_r _ _ | exact zByte_r _ | exact zcmp_r _ _ | decide) only [Bool.decide_eq_true, Bool.decide_eq_false, ↓if_pos, ↓if_neg, ↓reduceIte, Nat.reduceEqDiff, Int.reduceLE, Int.reduceLT, Int.reduceEq, Int.reduceNe, Nat.reduceBEq, Int.reduceAdd, Int.reduceMul, Int.reduceSub, Int.reduceNeg, Nat.reduceAdd, not_false_eq_true, not_true_eq_false, decide_true, decide_false, Bool.not_true, Bool.not_false, Bool.true_and, Bool.false_and, Bool.and_true, Bool.and_false, Bool.true_or, Bool.false_or, Bool.or_true, Bool.or_false, Bool.not_not, decide_not, Decidable.not_not, ite_not, b2i_t, b2i_f, ne_eq, Bool.not_eq_true, Bool.not_eq_false, decide_eq_true_eq, decide_eq_false_iff_not, Bool.false_eq_true, Bool.true_eq_false, reduceCtorEq, if_true, if_false, ite_self, ite_b0, ite_b1, ite_0b, ite_1b, ite_bb, x_done, x_blk, x_lp, x_er, erL_0, erL_t, erL_f, kl_n, kl_i, kl_r, kl_l, bd_i, bd_r, bk_i, bk_e, bk_n, bk_r, bd_ite, bk_ite, lk_i, lk_e, lk_n, lk_r, lk_ite, ite_nx, b2i_i, b2i_n, b2i_0, b2i_1, b2i_e, bres_r, bres_ite, mres_v, mres_n, sF_1, sF_2, sA_1, sA_2, x_sipush, x_iload_n1, x_imul, x_istore_n2, x_iconst, x_istore_n3, x_istore4, x_iload4, x_aload_n0, m_get, fM_18, x_icmp_ge, x_istore5, x_istore6, x_iload6, x_icmp_gt, x_iload5, fM_19, x_iload_n2, x_iadd, x_icmp_eq, x_icmp_ne, fM_22, x_icmp_le, x_goto, x_iinc6, x_iload_n3, x_iinc4, x_ireturn, m_ld18, m_ld19, m_ld22, h2, Int.add_zero]
        · rw [if_neg (fun q => he q.2)]
          simp (disch := first | rfl | (simp only [wt_c, wt_0, vc_i, vc_l, vc_r] <;> decide) | omega | exact i32_r _ | exact b2i_r _ | exact b2i_01 _ | exact zAnd_r _ _ | exact zOr_r _ _ | exact zXor_r _ _ | exact zShl_r _ _ | exact zShr_r _ _ | exact zByte_r _ | exact zcmp_r _ _ | decide) only [Bool.decide_eq_true, Bool.decide_eq_false, ↓if_pos, ↓if_neg, ↓reduceIte, Nat.reduceEqDiff, Int.reduceLE, Int.reduceLT, Int.reduceEq, Int.reduceNe, Nat.reduceBEq, Int.reduceAdd, Int.reduceMul, Int.reduceSub, Int.reduceNeg, Nat.reduceAdd, not_false_eq_true, not_true_eq_false, decide_true, decide_false, Bool.not_true, Bool.not_false, Bool.true_and, Bool.false_and, Bool.and_true, Bool.and_false, Bool.true_or, Bool.false_or, Bool.or_true, Bool.or_false, Bool.not_not, decide_not, Decidable.not_not, ite_not, b2i_t, b2i_f, ne_eq, Bool.not_eq_true, Bool.not_eq_false, decide_eq_true_eq, decide_eq_false_iff_not, Bool.false_eq_true, Bool.true_eq_false, reduceCtorEq, if_true, if_false, ite_self, ite_b0, ite_b1, ite_0b, ite_1b, ite_bb, x_done, x_blk, x_lp, x_er, erL_0, erL_t, erL_f, kl_n, kl_i, kl_r, kl_l, bd_i, bd_r, bk_i, bk_e, bk_n, bk_r, bd_ite, bk_ite, lk_i, lk_e, lk_n, lk_r, lk_ite, ite_nx, b2i_i, b2i_n, b2i_0, b2i_1, b2i_e, bres_r, bres_ite, mres_v, mres_n, sF_1, sF_2, sA_1, sA_2, x_sipush, x_iload_n1, x_imul, x_istore_n2, x_iconst, x_istore_n3, x_istore4, x_iload4, x_aload_n0, m_get, fM_18, x_icmp_ge, x_istore5, x_istore6, x_iload6, x_icmp_gt, x_iload5, fM_19, x_iload_n2, x_iadd, x_icmp_eq, x_icmp_ne, fM_22, x_icmp_le, x_goto, x_iinc6, x_iload_n3, x_iinc4, x_ireturn, m_ld18, m_ld19, m_ld22, h2, Int.add_zero]
      · by_cases h3 : σ.2 19 (600 * s + i) = 3
        · by_cases he : k < σ.2 22 (600 * s + i)
          · rw [if_pos ⟨Or.inr h3, he⟩]
            simp (disch := first | rfl | (simp only [wt_c, wt_0, vc_i, vc_l, vc_r] <;> decide) | omega | exact i32_r _ | exact b2i_r _ | exact b2i_01 _ | exact zAnd_r _ _ | exact zOr_r _ _ | exact zXor_r _ _ | exact zShl_r _ _ | exact zShr_r _ _ | exact zByte_r _ | exact zcmp_r _ _ | decide) only [Bool.decide_eq_true, Bool.decide_eq_false, ↓if_pos, ↓if_neg, ↓reduceIte, Nat.reduceEqDiff, Int.reduceLE, Int.reduceLT, Int.reduceEq, Int.reduceNe, Nat.reduceBEq, Int.reduceAdd, Int.reduceMul, Int.reduceSub, Int.reduceNeg, Nat.reduceAdd, not_false_eq_true, not_true_eq_false, decide_true, decide_false, Bool.not_true, Bool.not_false, Bool.true_and, Bool.false_and, Bool.and_true, Bool.and_false, Bool.true_or, Bool.false_or, Bool.or_true, Bool.or_false, Bool.not_not, decide_not, Decidable.not_not, ite_not, b2i_t, b2i_f, ne_eq, Bool.not_eq_true, Bool.not_eq_false, decide_eq_true_eq, decide_eq_false_iff_not, Bool.false_eq_true, Bool.true_eq_false, reduceCtorEq, if_true, if_false, ite_self, ite_b0, ite_b1, ite_0b, ite_1b, ite_bb, x_done, x_blk, x_lp, x_er, erL_0, erL_t, erL_f, kl_n, kl_i, kl_r, kl_l, bd_i, bd_r, bk_i, bk_e, bk_n, bk_r, bd_ite, bk_ite, lk_i, lk_e, lk_n, lk_r, lk_ite, ite_nx, b2i_i, b2i_n, b2i_0, b2i_1, b2i_e, bres_r, bres_ite, mres_v, mres_n, sF_1, sF_2, sA_1, sA_2, x_sipush, x_iload_n1, x_imul, x_istore_n2, x_iconst, x_istore_n3, x_istore4, x_iload4, x_aload_n0, m_get, fM_18, x_icmp_ge, x_istore5, x_istore6, x_iload6, x_icmp_gt, x_iload5, fM_19, x_iload_n2, x_iadd, x_icmp_eq, x_icmp_ne, fM_22, x_icmp_le, x_goto, x_iinc6, x_iload_n3, x_iinc4, x_ireturn, m_ld18, m_ld19, m_ld22, h3, Int.add_zero]
          · rw [if_neg (fun q => he q.2)]
            simp (disch := first | rfl | (simp only [wt_c, wt_0, vc_i, vc_l, vc_r] <;> decide) | omega | exact i32_r _ | exact b2i_r _ | exact b2i_01 _ | exact zAnd_r _ _ | exact zOr_r _ _ | exact zXor_r _ _ | exact zShl_r _ _ | exact zShr_r _ _ | exact zByte_r _ | exact zcmp_r _ _ | decide) only [Bool.decide_eq_true, Bool.decide_eq_false, ↓if_pos, ↓if_neg, ↓reduceIte, Nat.reduceEqDiff, Int.reduceLE, Int.reduceLT, Int.reduceEq, Int.reduceNe, Nat.reduceBEq, Int.reduceAdd, Int.reduceMul, Int.reduceSub, Int.reduceNeg, Nat.reduceAdd, not_false_eq_true, not_true_eq_false, decide_true, decide_false, Bool.not_true, Bool.not_false, Bool.true_and, Bool.false_and, Bool.and_true, Bool.and_false, Bool.true_or, Bool.false_or, Bool.or_true, Bool.or_false, Bool.not_not, decide_not, Decidable.not_not, ite_not, b2i_t, b2i_f, ne_eq, Bool.not_eq_true, Bool.not_eq_false, decide_eq_true_eq, decide_eq_false_iff_not, Bool.false_eq_true, Bool.true_eq_false, reduceCtorEq, if_true, if_false, ite_self, ite_b0, ite_b1, ite_0b, ite_1b, ite_bb, x_done, x_blk, x_lp, x_er, erL_0, erL_t, erL_f, kl_n, kl_i, kl_r, kl_l, bd_i, bd_r, bk_i, bk_e, bk_n, bk_r, bd_ite, bk_ite, lk_i, lk_e, lk_n, lk_r, lk_ite, ite_nx, b2i_i, b2i_n, b2i_0, b2i_1, b2i_e, bres_r, bres_ite, mres_v, mres_n, sF_1, sF_2, sA_1, sA_2, x_sipush, x_iload_n1, x_imul, x_istore_n2, x_iconst, x_istore_n3, x_istore4, x_iload4, x_aload_n0, m_get, fM_18, x_icmp_ge, x_istore5, x_istore6, x_iload6, x_icmp_gt, x_iload5, fM_19, x_iload_n2, x_iadd, x_icmp_eq, x_icmp_ne, fM_22, x_icmp_le, x_goto, x_iinc6, x_iload_n3, x_iinc4, x_ireturn, m_ld18, m_ld19, m_ld22, h3, Int.add_zero]
        · rw [if_neg (fun q => by omega)]
          simp (disch := first | rfl | (simp only [wt_c, wt_0, vc_i, vc_l, vc_r] <;> decide) | omega | exact i32_r _ | exact b2i_r _ | exact b2i_01 _ | exact zAnd_r _ _ | exact zOr_r _ _ | exact zXor_r _ _ | exact zShl_r _ _ | exact zShr_r _ _ | exact zByte_r _ | exact zcmp_r _ _ | decide) only [Bool.decide_eq_true, Bool.decide_eq_false, ↓if_pos, ↓if_neg, ↓reduceIte, Nat.reduceEqDiff, Int.reduceLE, Int.reduceLT, Int.reduceEq, Int.reduceNe, Nat.reduceBEq, Int.reduceAdd, Int.reduceMul, Int.reduceSub, Int.reduceNeg, Nat.reduceAdd, not_false_eq_true, not_true_eq_false, decide_true, decide_false, Bool.not_true, Bool.not_false, Bool.true_and, Bool.false_and, Bool.and_true, Bool.and_false, Bool.true_or, Bool.false_or, Bool.or_true, Bool.or_false, Bool.not_not, decide_not, Decidable.not_not, ite_not, b2i_t, b2i_f, ne_eq, Bool.not_eq_true, Bool.not_eq_false, decide_eq_true_eq, decide_eq_false_iff_not, Bool.false_eq_true, Bool.true_eq_false, reduceCtorEq, if_true, if_false, ite_self, ite_b0, ite_b1, ite_0b, ite_1b, ite_bb, x_done, x_blk, x_lp, x_er, erL_0, erL_t, erL_f, kl_n, kl_i, kl_r, kl_l, bd_i, bd_r, bk_i, bk_e, bk_n, bk_r, bd_ite, bk_ite, lk_i, lk_e, lk_n, lk_r, lk_ite, ite_nx, b2i_i, b2i_n, b2i_0, b2i_1, b2i_e, bres_r, bres_ite, mres_v, mres_n, sF_1, sF_2, sA_1, sA_2, x_sipush, x_iload_n1, x_imul, x_istore_n2, x_iconst, x_istore_n3, x_istore4, x_iload4, x_aload_n0, m_get, fM_18, x_icmp_ge, x_istore5, x_istore6, x_iload6, x_icmp_gt, x_iload5, fM_19, x_iload_n2, x_iadd, x_icmp_eq, x_icmp_ne, fM_22, x_icmp_le, x_goto, x_iinc6, x_iload_n3, x_iinc4, x_ireturn, m_ld18, m_ld19, m_ld22, Int.add_zero]
    · rintro - s' rfl
      rw [L_X1_depthOf_28]; unfold C_X1_depthOf_L28
      simp (disch := first | rfl | (simp only [wt_c, wt_0, vc_i, vc_l, vc_r] <;> decide) | omega | exact i32_r _ | exact b2i_r _ | exact b2i_01 _ | exact zAnd_r _ _ | exact zOr_r _ _ | exact zXor_r _ _ | exact zShl_r _ _ | exact zShr_r _ _ | exact zByte_r _ | exact zcmp_r _ _ | decide) only [Bool.decide_eq_true, Bool.decide_eq_false, ↓if_pos, ↓if_neg, ↓reduceIte, Nat.reduceEqDiff, Int.reduceLE, Int.reduceLT, Int.reduceEq, Int.reduceNe, Nat.reduceBEq, Int.reduceAdd, Int.reduceMul, Int.reduceSub, Int.reduceNeg, Nat.reduceAdd, not_false_eq_true, not_true_eq_false, decide_true, decide_false, Bool.not_true, Bool.not_false, Bool.true_and, Bool.false_and, Bool.and_true, Bool.and_false, Bool.true_or, Bool.false_or, Bool.or_true, Bool.or_false, Bool.not_not, decide_not, Decidable.not_not, ite_not, b2i_t, b2i_f, ne_eq, Bool.not_eq_true, Bool.not_eq_false, decide_eq_true_eq, decide_eq_false_iff_not, Bool.false_eq_true, Bool.true_eq_false, reduceCtorEq, if_true, if_false, ite_self, ite_b0, ite_b1, ite_0b, ite_1b, ite_bb, x_done, x_blk, x_lp, x_er, erL_0, erL_t, erL_f, kl_n, kl_i, kl_r, kl_l, bd_i, bd_r, bk_i, bk_e, bk_n, bk_r, bd_ite, bk_ite, lk_i, lk_e, lk_n, lk_r, lk_ite, ite_nx, b2i_i, b2i_n, b2i_0, b2i_1, b2i_e, bres_r, bres_ite, mres_v, mres_n, sF_1, sF_2, sA_1, sA_2, x_sipush, x_iload_n1, x_imul, x_istore_n2, x_iconst, x_istore_n3, x_istore4, x_iload4, x_aload_n0, m_get, fM_18, x_icmp_ge, x_istore5, x_istore6, x_iload6, x_icmp_gt, x_iload5, fM_19, x_iload_n2, x_iadd, x_icmp_eq, x_icmp_ne, fM_22, x_icmp_le, x_goto, x_iinc6, x_iload_n3, x_iinc4, x_ireturn, m_ld18, m_ld19, m_ld22]
  have hl := lp_for (h := 11) (e := 110) (D := (B_X1_depthOf_L11 l δ).1) (α := Int) (N := (Fo.sz f : Int)) (X := fun i a => [some (.inr (.inr (some o))), some (.inl s), some (.inl (600 * s)), some (.inl a), some (.inl i), none, none]) (C := fun i a s' => s' = (mw w0 o σ, z) ∧ (0 ≤ a ∧ a ≤ Fo.dp f) ∧ ∀ k : Int, 0 ≤ k → k < i → cQ (σ.2 19) (σ.2 22) (600 * s) 0 (k + 1 - 0).toNat k ≤ a) (by decide) ?_ ?_ (by omega) 0 (mw w0 o σ, z) ⟨rfl, by omega, fun k h1 h2 => by omega⟩
  · obtain ⟨a, s', ⟨rfl, h1, h2⟩, h⟩ := hl
    obtain ⟨k, k1, k2, k3⟩ := c2 (sz_pos hf)
    have := h2 k k1 (by omega)
    have ea : a = Fo.dp f := by omega
    subst ea
    rw [N_X1_depthOf]; unfold B_X1_depthOf
    simp (disch := first | rfl | (simp only [wt_c, wt_0, vc_i, vc_l, vc_r] <;> decide) | omega | exact i32_r _ | exact b2i_r _ | exact b2i_01 _ | exact zAnd_r _ _ | exact zOr_r _ _ | exact zXor_r _ _ | exact zShl_r _ _ | exact zShr_r _ _ | exact zByte_r _ | exact zcmp_r _ _ | decide) only [Bool.decide_eq_true, Bool.decide_eq_false, ↓if_pos, ↓if_neg, ↓reduceIte, Nat.reduceEqDiff, Int.reduceLE, Int.reduceLT, Int.reduceEq, Int.reduceNe, Nat.reduceBEq, Int.reduceAdd, Int.reduceMul, Int.reduceSub, Int.reduceNeg, Nat.reduceAdd, not_false_eq_true, not_true_eq_false, decide_true, decide_false, Bool.not_true, Bool.not_false, Bool.true_and, Bool.false_and, Bool.and_true, Bool.and_false, Bool.true_or, Bool.false_or, Bool.or_true, Bool.or_false, Bool.not_not, decide_not, Decidable.not_not, ite_not, b2i_t, b2i_f, ne_eq, Bool.not_eq_true, Bool.not_eq_false, decide_eq_true_eq, decide_eq_false_iff_not, Bool.false_eq_true, Bool.true_eq_false, reduceCtorEq, if_true, if_false, ite_self, ite_b0, ite_b1, ite_0b, ite_1b, ite_bb, x_done, x_blk, x_lp, x_er, erL_0, erL_t, erL_f, kl_n, kl_i, kl_r, kl_l, bd_i, bd_r, bk_i, bk_e, bk_n, bk_r, bd_ite, bk_ite, lk_i, lk_e, lk_n, lk_r, lk_ite, ite_nx, b2i_i, b2i_n, b2i_0, b2i_1, b2i_e, bres_r, bres_ite, mres_v, mres_n, sF_1, sF_2, sA_1, sA_2, x_sipush, x_iload_n1, x_imul, x_istore_n2, x_iconst, x_istore_n3, x_istore4, x_iload4, x_aload_n0, m_get, fM_18, x_icmp_ge, x_istore5, x_istore6, x_iload6, x_icmp_gt, x_iload5, fM_19, x_iload_n2, x_iadd, x_icmp_eq, x_icmp_ne, fM_22, x_icmp_le, x_goto, x_iinc6, x_iload_n3, x_iinc4, x_ireturn, m_ld18, m_ld19, m_ld22, h]
  · rintro i a s' i0 i1 ⟨rfl, h1, h2⟩
    have cb := c1 i i0 (by omega)
    have cr := cQ_r (K := σ.2 19) (N := σ.2 22) (b := 600 * s) (lo := 0) (k := i) (n := (i + 1 - 0).toNat)
    have hin := inner i a i0 i1
    by_cases hg : a < cQ (σ.2 19) (σ.2 22) (600 * s) 0 (i + 1 - 0).toNat i
    · refine ⟨cQ (σ.2 19) (σ.2 22) (600 * s) 0 (i + 1 - 0).toNat i, _, ⟨rfl, by omega, fun k k1 k2 => ?_⟩, ?_⟩
      · by_cases e : k = i
        · subst e; omega
        · have := h2 k k1 (by omega); omega
      · rw [L_X1_depthOf_11]; unfold C_X1_depthOf_L11
        simp (disch := first | rfl | (simp only [wt_c, wt_0, vc_i, vc_l, vc_r] <;> decide) | omega | exact i32_r _ | exact b2i_r _ | exact b2i_01 _ | exact zAnd_r _ _ | exact zOr_r _ _ | exact zXor_r _ _ | exact zShl_r _ _ | exact zShr_r _ _ | exact zByte_r _ | exact zcmp_r _ _ | decide) only [Bool.decide_eq_true, Bool.decide_eq_false, ↓if_pos, ↓if_neg, ↓reduceIte, Nat.reduceEqDiff, Int.reduceLE, Int.reduceLT, Int.reduceEq, Int.reduceNe, Nat.reduceBEq, Int.reduceAdd, Int.reduceMul, Int.reduceSub, Int.reduceNeg, Nat.reduceAdd, not_false_eq_true, not_true_eq_false, decide_true, decide_false, Bool.not_true, Bool.not_false, Bool.true_and, Bool.false_and, Bool.and_true, Bool.and_false, Bool.true_or, Bool.false_or, Bool.or_true, Bool.or_false, Bool.not_not, decide_not, Decidable.not_not, ite_not, b2i_t, b2i_f, ne_eq, Bool.not_eq_true, Bool.not_eq_false, decide_eq_true_eq, decide_eq_false_iff_not, Bool.false_eq_true, Bool.true_eq_false, reduceCtorEq, if_true, if_false, ite_self, ite_b0, ite_b1, ite_0b, ite_1b, ite_bb, x_done, x_blk, x_lp, x_er, erL_0, erL_t, erL_f, kl_n, kl_i, kl_r, kl_l, bd_i, bd_r, bk_i, bk_e, bk_n, bk_r, bd_ite, bk_ite, lk_i, lk_e, lk_n, lk_r, lk_ite, ite_nx, b2i_i, b2i_n, b2i_0, b2i_1, b2i_e, bres_r, bres_ite, mres_v, mres_n, sF_1, sF_2, sA_1, sA_2, x_sipush, x_iload_n1, x_imul, x_istore_n2, x_iconst, x_istore_n3, x_istore4, x_iload4, x_aload_n0, m_get, fM_18, x_icmp_ge, x_istore5, x_istore6, x_iload6, x_icmp_gt, x_iload5, fM_19, x_iload_n2, x_iadd, x_icmp_eq, x_icmp_ne, fM_22, x_icmp_le, x_goto, x_iinc6, x_iload_n3, x_iinc4, x_ireturn, m_ld18, m_ld19, m_ld22, m1, hin]
    · refine ⟨a, _, ⟨rfl, h1, fun k k1 k2 => ?_⟩, ?_⟩
      · by_cases e : k = i
        · subst e; omega
        · exact h2 k k1 (by omega)
      · rw [L_X1_depthOf_11]; unfold C_X1_depthOf_L11
        simp (disch := first | rfl | (simp only [wt_c, wt_0, vc_i, vc_l, vc_r] <;> decide) | omega | exact i32_r _ | exact b2i_r _ | exact b2i_01 _ | exact zAnd_r _ _ | exact zOr_r _ _ | exact zXor_r _ _ | exact zShl_r _ _ | exact zShr_r _ _ | exact zByte_r _ | exact zcmp_r _ _ | decide) only [Bool.decide_eq_true, Bool.decide_eq_false, ↓if_pos, ↓if_neg, ↓reduceIte, Nat.reduceEqDiff, Int.reduceLE, Int.reduceLT, Int.reduceEq, Int.reduceNe, Nat.reduceBEq, Int.reduceAdd, Int.reduceMul, Int.reduceSub, Int.reduceNeg, Nat.reduceAdd, not_false_eq_true, not_true_eq_false, decide_true, decide_false, Bool.not_true, Bool.not_false, Bool.true_and, Bool.false_and, Bool.and_true, Bool.and_false, Bool.true_or, Bool.false_or, Bool.or_true, Bool.or_false, Bool.not_not, decide_not, Decidable.not_not, ite_not, b2i_t, b2i_f, ne_eq, Bool.not_eq_true, Bool.not_eq_false, decide_eq_true_eq, decide_eq_false_iff_not, Bool.false_eq_true, Bool.true_eq_false, reduceCtorEq, if_true, if_false, ite_self, ite_b0, ite_b1, ite_0b, ite_1b, ite_bb, x_done, x_blk, x_lp, x_er, erL_0, erL_t, erL_f, kl_n, kl_i, kl_r, kl_l, bd_i, bd_r, bk_i, bk_e, bk_n, bk_r, bd_ite, bk_ite, lk_i, lk_e, lk_n, lk_r, lk_ite, ite_nx, b2i_i, b2i_n, b2i_0, b2i_1, b2i_e, bres_r, bres_ite, mres_v, mres_n, sF_1, sF_2, sA_1, sA_2, x_sipush, x_iload_n1, x_imul, x_istore_n2, x_iconst, x_istore_n3, x_istore4, x_iload4, x_aload_n0, m_get, fM_18, x_icmp_ge, x_istore5, x_istore6, x_iload6, x_icmp_gt, x_iload5, fM_19, x_iload_n2, x_iadd, x_icmp_eq, x_icmp_ne, fM_22, x_icmp_le, x_goto, x_iinc6, x_iload_n3, x_iinc4, x_ireturn, m_ld18, m_ld19, m_ld22, m1, hin]
  · rintro a s' ⟨rfl, h1, h2⟩
    rw [L_X1_depthOf_11]; unfold C_X1_depthOf_L11
    simp (disch := first | rfl | (simp only [wt_c, wt_0, vc_i, vc_l, vc_r] <;> decide) | omega | exact i32_r _ | exact b2i_r _ | exact b2i_01 _ | exact zAnd_r _ _ | exact zOr_r _ _ | exact zXor_r _ _ | exact zShl_r _ _ | exact zShr_r _ _ | exact zByte_r _ | exact zcmp_r _ _ | decide) only [Bool.decide_eq_true, Bool.decide_eq_false, ↓if_pos, ↓if_neg, ↓reduceIte, Nat.reduceEqDiff, Int.reduceLE, Int.reduceLT, Int.reduceEq, Int.reduceNe, Nat.reduceBEq, Int.reduceAdd, Int.reduceMul, Int.reduceSub, Int.reduceNeg, Nat.reduceAdd, not_false_eq_true, not_true_eq_false, decide_true, decide_false, Bool.not_true, Bool.not_false, Bool.true_and, Bool.false_and, Bool.and_true, Bool.and_false, Bool.true_or, Bool.false_or, Bool.or_true, Bool.or_false, Bool.not_not, decide_not, Decidable.not_not, ite_not, b2i_t, b2i_f, ne_eq, Bool.not_eq_true, Bool.not_eq_false, decide_eq_true_eq, decide_eq_false_iff_not, Bool.false_eq_true, Bool.true_eq_false, reduceCtorEq, if_true, if_false, ite_self, ite_b0, ite_b1, ite_0b, ite_1b, ite_bb, x_done, x_blk, x_lp, x_er, erL_0, erL_t, erL_f, kl_n, kl_i, kl_r, kl_l, bd_i, bd_r, bk_i, bk_e, bk_n, bk_r, bd_ite, bk_ite, lk_i, lk_e, lk_n, lk_r, lk_ite, ite_nx, b2i_i, b2i_n, b2i_0, b2i_1, b2i_e, bres_r, bres_ite, mres_v, mres_n, sF_1, sF_2, sA_1, sA_2, x_sipush, x_iload_n1, x_imul, x_istore_n2, x_iconst, x_istore_n3, x_istore4, x_iload4, x_aload_n0, m_get, fM_18, x_icmp_ge, x_istore5, x_istore6, x_iload6, x_icmp_gt, x_iload5, fM_19, x_iload_n2, x_iadd, x_icmp_eq, x_icmp_ne, fM_22, x_icmp_le, x_goto, x_iinc6, x_iload_n3, x_iinc4, x_ireturn, m_ld18, m_ld19, m_ld22, m1]
