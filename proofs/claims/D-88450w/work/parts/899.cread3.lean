/-! ===== the component: how a Reader reads ===== -/
set_option maxRecDepth 100000
theorem RS.keep {w w' : Hp} {ro ta ll : Nat} {T : Int → Int} {n p d q : Int} {L : Int → Int} (h : RS w ro ta ll T n p d q L) (h1 : w' ro = w ro) (h2 : w' ta = w ta) (h3 : w' ll = w ll) : RS w' ro ta ll T n p d q L := by
  obtain ⟨F, TT, LL, k1, k2, k3, k4, k5, k6, k7, k8, k9, k10, k11⟩ := h
  exact ⟨F, TT, LL, h1.trans k1, k2, k3, k4, k5, k6, k7, h2.trans k8, k9, h3.trans k10, k11⟩
theorem RS.ob {w : Hp} {ro ta ll : Nat} {T : Int → Int} {n p d q : Int} {L : Int → Int} (h : RS w ro ta ll T n p d q L) : ∃ F, w ro = some (.inr (4, F)) ∧ F 2 = .inl p ∧ F 3 = .inl d ∧ F 4 = .inl q ∧ F 5 = .inr (.inr (some ll)) := by
  obtain ⟨F, TT, LL, k1, k2, k3, k4, k5, k6, k7, -⟩ := h
  exact ⟨F, k1, k4, k5, k6, k7⟩
theorem RS.at {w : Hp} {ro ta ll : Nat} {T : Int → Int} {n p d q : Int} {L : Int → Int} (h : RS w ro ta ll T n p d q L) {F : Nat → V} (hF : w ro = some (.inr (4, F))) (p' : Int) : RS (wup w ro (.inr (4, fup F 2 (.inl p')))) ro ta ll T n p' d q L := by
  have h0 := h
  obtain ⟨F', TT, LL, k1, k2, k3, k4, k5, k6, k7, -⟩ := h
  rw [hF] at k1
  cases k1
  exact h0.up p' d ⟨F, hF, rfl, rfl, rfl, by rw [fup_n (by decide)]; exact k5, rfl, rfl⟩
theorem RS.dp {w : Hp} {ro ta ll : Nat} {T : Int → Int} {n p d q : Int} {L : Int → Int} (h : RS w ro ta ll T n p d q L) {F : Nat → V} (hF : w ro = some (.inr (4, F))) (d' : Int) : RS (wup w ro (.inr (4, fup F 3 (.inl d')))) ro ta ll T n p d' q L := by
  have h0 := h
  obtain ⟨F', TT, LL, k1, k2, k3, k4, k5, k6, k7, -⟩ := h
  rw [hF] at k1
  cases k1
  exact h0.up p d' ⟨F, hF, rfl, rfl, by rw [fup_n (by decide)]; exact k4, rfl, rfl, rfl⟩
theorem FR.cls {w : Hp} {Z : Nat → Prop} {f : Fo} {q : Int} {E : Int → V} {i : Int} {p : Nat} (h : FR w Z f E i p) (hf : Fo.wf f false q) : ∃ ci F, w p = some (.inr (ci, F)) ∧ ci < 17 := by
  rcases wf_f hf with ⟨k', m', n', rfl, h'⟩ | ⟨g, rfl, h'⟩ | ⟨a, g, rfl, hq', h'⟩ | ⟨a, l', rfl, h2', h'⟩
  · rw [FR_atom h'] at h; obtain ⟨-, F, h1, -⟩ := h; exact ⟨5, F, h1, by omega⟩
  · rw [FR_not] at h; obtain ⟨-, F, q, h1, -⟩ := h; exact ⟨7, F, h1, by omega⟩
  · rw [FR_each] at h; obtain ⟨-, F, q, h1, -⟩ := h; exact ⟨8, F, h1, by omega⟩
  · rw [FR_many] at h; obtain ⟨-, F, la, e, c, E', h1, -⟩ := h; exact ⟨9, F, h1, by omega⟩
/-- what a reading of a part or a formula ends with -/
def RdR (w : Hp) (z m ro ta ll : Nat) (T : Int → Int) (n p d q : Int) (L : Int → Int) (x : Option (Rs × St)) : PR → Prop
  | .inl e => ∃ w' z' m' o F, x = some (.inr o, w', z', m') ∧ w' o = some (.inr (6, F)) ∧ F 6 = .inl e ∧ (∀ a, a < z → a ≠ ro → a ≠ ll → w' a = w a) ∧ z ≤ z' ∧ (z' : Int) ≤ z + 4 * (e - p + 1) ∧ (m' : Int) ≤ m + 64 * (e - p + 1)
  | .inr (f, y) => ∃ w' z' m' r, x = some (.inl (some (.inr (.inr (some r)))), w', z', m') ∧ RS w' ro ta ll T n y d q L ∧ FR w' (fun a => z ≤ a ∧ a < z') f (fun _ => .inl 0) 0 r ∧ (z ≤ r ∧ r < z') ∧ (∀ a, a < z → a ≠ ro → a ≠ ll → w' a = w a) ∧ (z' : Int) ≤ z + 4 * (y - p) ∧ (m' : Int) ≤ m + 64 * (y - p)
/-- what the loop over parts ends with -/
def RdL (δ : Dl) (w : Hp) (z m ro ta ll la e B : Nat) (E : Int → V) (k : Nat) (s : Bool) (T : Int → Int) (n p d q : Int) (L : Int → Int) (x : Option Ou) : PR → Prop
  | .inl er => ∃ w' z' m' o F Lc', x = some (.inr (.inr (.inr (o, Lc', w', z', m')))) ∧ w' o = some (.inr (6, F)) ∧ F 6 = .inl er ∧ (∀ a, a < z → a ≠ ro → a ≠ ll → a ≠ la → a ≠ e → w' a = w a) ∧ z ≤ z' ∧ (z' : Int) ≤ z + 4 * (er - p + 1) ∧ (m' : Int) + B ≤ m + 64 * (er - p + 1) + 8 * k + 40
  | .inr (f, y) => ∃ w' z' m' e' E' B', x = some (.inr (.inl (72, [], [some (.inr (.inr (some ro))), none, some (.inl (Fo.sgM s)), some (.inr (.inr (some la)))], w', z', m'))) ∧ RS w' ro ta ll T n y d q L ∧ LSt δ w' la e' z' E' (k + Fo.len f) B' ∧ (e' = e ∨ z ≤ e') ∧ (∀ i : Int, 0 ≤ i → i < k → E' i = E i) ∧ FR w' (fun a => z ≤ a ∧ a < z' ∧ a ≠ e') f E' k 0 ∧ (∀ a, a < z → a ≠ ro → a ≠ ll → a ≠ la → a ≠ e → w' a = w a) ∧ z ≤ z' ∧ (z' : Int) + 3 * Fo.len f ≤ z + 4 * (y - p) ∧ (m' : Int) + B + 64 * Fo.len f ≤ m + B' + 64 * (y - p)
/-- what is known where something is read -/
def RdI (δ : Dl) (T : Int → Int) (n p d q : Int) (L : Int → Int) (z ro ta ll : Nat) : Prop := RsI T n p d q ∧ Lok L q ∧ (ro < z ∧ ta < z ∧ ll < z) ∧ δ.2.2 0 < z
theorem thr_R {w w1 : Hp} {z m z1 m1 ro ta ll : Nat} {T : Int → Int} {n p d q er : Int} {L : Int → Int} {x : Option (Rs × St)} (h : Thr w1 z1 m1 er x) (hk : ∀ a, a < z → a ≠ ro → a ≠ ll → w1 a = w a) (hz : z ≤ z1) (hb : (z1 : Int) + 1 ≤ z + 4 * (er - p + 1)) (hm : (m1 : Int) + 7 ≤ m + 64 * (er - p + 1)) : RdR w z m ro ta ll T n p d q L x (.inl er) := by
  obtain ⟨w', F, h1, h2, h3, h4⟩ := h
  exact ⟨w', z1 + 1, m1 + 7, z1, F, h1, h2, h3, fun a a1 a2 a3 => by rw [h4 a (by omega), hk a a1 a2 a3], by omega, by omega, by omega⟩
theorem lk268 {v : Int} (h : ¬ (v = 84 ∨ v = 70 ∨ v = 65 ∨ v = 66 ∨ v = 69 ∨ v = 61 ∨ v = 45 ∨ v = 40 ∨ v = 64 ∨ v = 63)) : ((6 : Nat) : Int) + Op.lookupswitch.offset (#[(40, 195), (45, 167), (61, 137), (63, 246), (64, 246), (65, 112), (66, 112), (69, 137), (70, 90), (84, 90)] : Array (Int × Int)).toList 262 v = ((268 : Nat) : Int) := by
  show (6 : Int) + (if (40 : Int) = v then 195 else if (45 : Int) = v then 167 else if (61 : Int) = v then 137 else if (63 : Int) = v then 246 else if (64 : Int) = v then 246 else if (65 : Int) = v then 112 else if (66 : Int) = v then 112 else if (69 : Int) = v then 137 else if (70 : Int) = v then 90 else if (84 : Int) = v then 90 else 262) = 268
  rw [if_neg (by omega), if_neg (by omega), if_neg (by omega), if_neg (by omega), if_neg (by omega), if_neg (by omega), if_neg (by omega), if_neg (by omega), if_neg (by omega), if_neg (by omega)]
  rfl
theorem c_rd {l : Launch} {δ : Dl} {ro ta ll : Nat} {T : Int → Int} {n : Int} {md : Nat} {s : Bool} {p d q : Int} {L : Int → Int} {r : PR} (h : PP T n md s p d q L r) : ∀ (N : Nat) (w : Hp) (z m : Nat), RdI δ T n p d q L z ro ta ll → RS w ro ta ll T n p d q L → (md = 0 → 2 * (12 - d) + 2 ≤ N → RdR w z m ro ta ll T n p d q L ((R_rea l δ N).1.1 [.inr (.inr (some ro))] (w, z, m)) r) ∧ (md = 1 → 2 * (12 - d) + 3 ≤ N → RdR w z m ro ta ll T n p d q L ((R_rea l δ N).2.2.1 [.inr (.inr (some ro))] (w, z, m)) r) ∧ (md = 2 → 2 * (12 - d) + 2 ≤ N → skp T n p = p → ∀ (la e : Nat) (E : Int → V) (k B : Nat), LSt δ w la e z E k B → 1 ≤ k → (k : Int) + (n - p) ≤ 20000 → RdL δ w z m ro ta ll la e B E k s T n p d q L (lpD 40 (B_X4_formula_L40 l δ N (R_rea l δ N)).1 [] [some (.inr (.inr (some ro))), none, some (.inl (Fo.sgM s)), some (.inr (.inr (some la)))] (w, z, m)) r) := by
  induction h using PP.ind with
  | @bad s p d q L h =>
    intro N w z m hRI hR
    refine ⟨fun _ hN => ?_, fun z => absurd z (by decide), fun z => absurd z (by decide)⟩
    obtain ⟨hI, hL, hz, hδ⟩ := hRI
    have hp := hI.2.1
    have n800 := hI.2.2.1
    have hd0 := hI.2.2.2.1
    have hq0 := hI.2.2.2.2
    have sb := skp_b (T := T) hp.2
    obtain ⟨M, rfl⟩ : ∃ M, N = M + 1 := ⟨N - 1, by omega⟩
    obtain ⟨w1, k1, k2, k3⟩ := c_look (l := l) (δ := δ) (zz := (z, m)) hI hR
    obtain ⟨F0, g0, -⟩ := hR.ob
    obtain ⟨F1, g1, g2, g3, g4, g5⟩ := k2.ob
    have lr := lkv_r (n := n) (a := skp T n p) hI.1 (by omega)
    have hn : ¬ (lkv T n (skp T n p) = 84 ∨ lkv T n (skp T n p) = 70 ∨ lkv T n (skp T n p) = 65 ∨ lkv T n (skp T n p) = 66 ∨ lkv T n (skp T n p) = 69 ∨ lkv T n (skp T n p) = 61 ∨ lkv T n (skp T n p) = 45 ∨ lkv T n (skp T n p) = 40 ∨ lkv T n (skp T n p) = 64 ∨ lkv T n (skp T n p) = 63) := fun q => h (by
      have key : ∀ c : Int, (0 ≤ c ∧ c ≤ 127) → lkv T n (skp T n p) = c → chr T n (skp T n p) = c := fun c hc e => (lkv_e hI.1 (by omega) hc).mp e
      rcases q with e | e | e | e | e | e | e | e | e | e
      · exact Or.inl (key _ (by decide) e)
      · exact Or.inr (Or.inl (key _ (by decide) e))
      · exact Or.inr (Or.inr (Or.inl (key _ (by decide) e)))
      · exact Or.inr (Or.inr (Or.inr (Or.inl (key _ (by decide) e))))
      · exact Or.inr (Or.inr (Or.inr (Or.inr (Or.inl (key _ (by decide) e)))))
      · exact Or.inr (Or.inr (Or.inr (Or.inr (Or.inr (Or.inl (key _ (by decide) e))))))
      · exact Or.inr (Or.inr (Or.inr (Or.inr (Or.inr (Or.inr (Or.inl (key _ (by decide) e)))))))
      · exact Or.inr (Or.inr (Or.inr (Or.inr (Or.inr (Or.inr (Or.inr (Or.inl (key _ (by decide) e))))))))
      · exact Or.inr (Or.inr (Or.inr (Or.inr (Or.inr (Or.inr (Or.inr (Or.inr (Or.inl (key _ (by decide) e)))))))))
      · exact Or.inr (Or.inr (Or.inr (Or.inr (Or.inr (Or.inr (Or.inr (Or.inr (Or.inr (key _ (by decide) e))))))))))
    obtain ⟨w2, F2, e1, e2, e3, e4⟩ := c_wrong (l := l) (δ := δ) (w := wup w1 z (.inr (6, f0_6))) (x := z) (i := skp T n p) (zz := (z + 1, m + 7)) wup_s
    refine ⟨w2, z + 1, m + 7, z, F2, ?_, e2, e3, fun a a1 a2 a3 => by rw [e4 a (by omega), wup_n (by omega), k3 a a2], by omega, by omega, by omega⟩
    rw [N_X4_part]; unfold B_X4_part
    simp (disch := first | rfl | exact okv_i | exact okv_o | exact okv_a | exact b_ft _ | (simp only [wt_c, wt_0, vc_i, vc_l, vc_r] <;> decide) | omega | exact i32_r _ | exact b2i_r _ | exact b2i_01 _ | exact zAnd_r _ _ | exact zOr_r _ _ | exact zXor_r _ _ | exact zShl_r _ _ | exact zShr_r _ _ | exact zByte_r _ | exact zcmp_r _ _ | decide) only [Bool.decide_eq_true, Bool.decide_eq_false, ↓if_pos, ↓if_neg, ↓reduceIte, Nat.reduceEqDiff, Int.reduceLE, Int.reduceLT, Int.reduceEq, Int.reduceNe, Nat.reduceBEq, Int.reduceAdd, Int.reduceMul, Int.reduceSub, Int.reduceNeg, Nat.reduceAdd, not_false_eq_true, not_true_eq_false, decide_true, decide_false, Bool.not_true, Bool.not_false, Bool.true_and, Bool.false_and, Bool.and_true, Bool.and_false, Bool.true_or, Bool.false_or, Bool.or_true, Bool.or_false, Bool.not_not, decide_not, Decidable.not_not, ite_not, b2i_t, b2i_f, ne_eq, Bool.not_eq_true, Bool.not_eq_false, decide_eq_true_eq, decide_eq_false_iff_not, Bool.false_eq_true, Bool.true_eq_false, reduceCtorEq, if_true, if_false, ite_self, ite_b0, ite_b1, ite_0b, ite_1b, ite_bb, x_done, x_blk, x_lp, x_er, erL_0, erL_t, erL_f, kl_n, kl_i, kl_r, kl_l, bd_i, bd_r, bk_i, bk_e, bk_n, bk_r, bd_ite, bk_ite, lk_i, lk_e, lk_n, lk_r, lk_ite, ite_nx, b2i_i, b2i_n, b2i_0, b2i_1, b2i_e, bres_r, bres_ite, mres_v, mres_n, sF_1, sF_2, sA_1, sA_2, zcmp_lt, zcmp_gt, zcmp_le, zcmp_ge, zcmp_eq, List.lookup_cons, List.lookup_nil, mresX_v, mresX_n, mresX_t, bd_t, bres_t, y_rO, y_dO, y_dA, yO_o, yO_n, dR_e, rOx_s, rOx_n, dAx_s, dAx_n, wup_s, wup_n, fup_s, fup_n, beq_self_eq_true, Nat.reduceBEq, Nat.reduceLT, Nat.reduceSub, x_aload_n0, x_callG1, x_istore_n1, x_iload_n1, x_dup, y_get, yGet_o, yLk_s, x_iconst, x_iadd, y_put, y_putF, yPut_o, yPk_s, x_new, x_i2c, x_callG4, x_areturn, x_istore_n2, x_iload_n2, x_callG2, x_astore_n3, x_isub, x_aload_n3, x_astore4, x_bipush, x_icmp_ne, x_goto, x_aload4, x_athrow, g0, k1, g1, g2, x_lookup 268 (show -2147483648 ≤ lkv T n (skp T n p) ∧ lkv T n (skp T n p) ≤ 2147483647 by omega) (lk268 hn), e1]
  | @con s p d q L k hc hk =>
    intro N w z m hRI hR
    refine ⟨fun _ hN => ?_, fun z => absurd z (by decide), fun z => absurd z (by decide)⟩
    obtain ⟨hI, hL, hz, hδ⟩ := hRI
    have hp := hI.2.1
    have n800 := hI.2.2.1
    have hd0 := hI.2.2.2.1
    have hq0 := hI.2.2.2.2
    have sb := skp_b (T := T) hp.2
    obtain ⟨M, rfl⟩ : ∃ M, N = M + 1 := ⟨N - 1, by omega⟩
    obtain ⟨w1, k1, k2, k3⟩ := c_look (l := l) (δ := δ) (zz := (z, m)) hI hR
    obtain ⟨F0, g0, -⟩ := hR.ob
    obtain ⟨F1, g1, g2, g3, g4, g5⟩ := k2.ob
    rcases hk with rfl | rfl
    · rw [(lkv_e (c := 84) hI.1 (by omega) (by omega)).mpr hc] at k1
      have lt := chr_lt (T := T) (n := n) (a := skp T n p) (by rw [hc]; exact (by decide : (0 : Int) < Fo.sgA 10))
      have hR2 := k2.at g1 (skp T n p + 1)
      have hI2 : RsI T n (skp T n p + 1) d q := ⟨hI.1, ⟨by omega, by omega⟩, n800, hd0, hq0⟩
      have fr2 : ∀ a, a ≠ ro → wup w1 ro (.inr (4, fup F1 2 (.inl (skp T n p + 1)))) a = w a := fun a ha => by rw [wup_n ha, k3 a ha]
      obtain ⟨w3, F3, i1, i2, i3, i4, i5, i6⟩ := c_atomI (l := l) (δ := δ) (w := wup (wup w1 ro (.inr (4, fup F1 2 (.inl (skp T n p + 1))))) z (.inr (5, f0_5))) (r := z) (k := 84) (vm := 0) (vn := 0) (zz := (z + 1, m + 3)) wup_s (by decide)
      refine ⟨w3, z + 1, m + 3, z, ?_, hR2.keep (by rw [i6 ro (by omega), wup_n (by omega)]) (by rw [i6 ta (by omega), wup_n (by omega)]) (by rw [i6 ll (by omega), wup_n (by omega)]), ?_, ⟨by omega, by omega⟩, fun a a1 a2 a3 => by rw [i6 a (by omega), wup_n (by omega), fr2 a a2], by omega, by omega⟩
      · rw [N_X4_part]; unfold B_X4_part
        simp (disch := first | rfl | exact okv_i | exact okv_o | exact okv_a | exact b_ft _ | (simp only [wt_c, wt_0, vc_i, vc_l, vc_r] <;> decide) | omega | exact i32_r _ | exact b2i_r _ | exact b2i_01 _ | exact zAnd_r _ _ | exact zOr_r _ _ | exact zXor_r _ _ | exact zShl_r _ _ | exact zShr_r _ _ | exact zByte_r _ | exact zcmp_r _ _ | decide) only [Bool.decide_eq_true, Bool.decide_eq_false, ↓if_pos, ↓if_neg, ↓reduceIte, Nat.reduceEqDiff, Int.reduceLE, Int.reduceLT, Int.reduceEq, Int.reduceNe, Nat.reduceBEq, Int.reduceAdd, Int.reduceMul, Int.reduceSub, Int.reduceNeg, Nat.reduceAdd, not_false_eq_true, not_true_eq_false, decide_true, decide_false, Bool.not_true, Bool.not_false, Bool.true_and, Bool.false_and, Bool.and_true, Bool.and_false, Bool.true_or, Bool.false_or, Bool.or_true, Bool.or_false, Bool.not_not, decide_not, Decidable.not_not, ite_not, b2i_t, b2i_f, ne_eq, Bool.not_eq_true, Bool.not_eq_false, decide_eq_true_eq, decide_eq_false_iff_not, Bool.false_eq_true, Bool.true_eq_false, reduceCtorEq, if_true, if_false, ite_self, ite_b0, ite_b1, ite_0b, ite_1b, ite_bb, x_done, x_blk, x_lp, x_er, erL_0, erL_t, erL_f, kl_n, kl_i, kl_r, kl_l, bd_i, bd_r, bk_i, bk_e, bk_n, bk_r, bd_ite, bk_ite, lk_i, lk_e, lk_n, lk_r, lk_ite, ite_nx, b2i_i, b2i_n, b2i_0, b2i_1, b2i_e, bres_r, bres_ite, mres_v, mres_n, sF_1, sF_2, sA_1, sA_2, zcmp_lt, zcmp_gt, zcmp_le, zcmp_ge, zcmp_eq, List.lookup_cons, List.lookup_nil, mresX_v, mresX_n, mresX_t, bd_t, bres_t, y_rO, y_dO, y_dA, yO_o, yO_n, dR_e, rOx_s, rOx_n, dAx_s, dAx_n, wup_s, wup_n, fup_s, fup_n, beq_self_eq_true, Nat.reduceBEq, Nat.reduceLT, Nat.reduceSub, x_aload_n0, x_callG1, x_istore_n1, x_iload_n1, x_dup, y_get, yGet_o, yLk_s, x_iconst, x_iadd, y_put, y_putF, yPut_o, yPk_s, x_new, x_i2c, x_callG4, x_areturn, x_istore_n2, x_iload_n2, x_callG2, x_astore_n3, x_isub, x_aload_n3, x_astore4, x_bipush, x_icmp_ne, x_goto, x_aload4, x_athrow, g0, k1, g1, g2, x_lookup 96 (show -2147483648 ≤ (84 : Int) ∧ (84 : Int) ≤ 2147483647 by decide) (show ((6 : Nat) : Int) + Op.lookupswitch.offset (#[(40, 195), (45, 167), (61, 137), (63, 246), (64, 246), (65, 112), (66, 112), (69, 137), (70, 90), (84, 90)] : Array (Int × Int)).toList 262 84 = ((96 : Nat) : Int) by decide), i1]
      · rw [FR_atom (q := q) (Or.inl ⟨by omega, rfl, rfl⟩)]
        exact ⟨⟨by omega, by omega⟩, F3, i2, i3, i4, i5⟩
    · rw [(lkv_e (c := 70) hI.1 (by omega) (by omega)).mpr hc] at k1
      have lt := chr_lt (T := T) (n := n) (a := skp T n p) (by rw [hc]; exact (by decide : (0 : Int) < Fo.sgA 11))
      have hR2 := k2.at g1 (skp T n p + 1)
      have hI2 : RsI T n (skp T n p + 1) d q := ⟨hI.1, ⟨by omega, by omega⟩, n800, hd0, hq0⟩
      have fr2 : ∀ a, a ≠ ro → wup w1 ro (.inr (4, fup F1 2 (.inl (skp T n p + 1)))) a = w a := fun a ha => by rw [wup_n ha, k3 a ha]
      obtain ⟨w3, F3, i1, i2, i3, i4, i5, i6⟩ := c_atomI (l := l) (δ := δ) (w := wup (wup w1 ro (.inr (4, fup F1 2 (.inl (skp T n p + 1))))) z (.inr (5, f0_5))) (r := z) (k := 70) (vm := 0) (vn := 0) (zz := (z + 1, m + 3)) wup_s (by decide)
      refine ⟨w3, z + 1, m + 3, z, ?_, hR2.keep (by rw [i6 ro (by omega), wup_n (by omega)]) (by rw [i6 ta (by omega), wup_n (by omega)]) (by rw [i6 ll (by omega), wup_n (by omega)]), ?_, ⟨by omega, by omega⟩, fun a a1 a2 a3 => by rw [i6 a (by omega), wup_n (by omega), fr2 a a2], by omega, by omega⟩
      · rw [N_X4_part]; unfold B_X4_part
        simp (disch := first | rfl | exact okv_i | exact okv_o | exact okv_a | exact b_ft _ | (simp only [wt_c, wt_0, vc_i, vc_l, vc_r] <;> decide) | omega | exact i32_r _ | exact b2i_r _ | exact b2i_01 _ | exact zAnd_r _ _ | exact zOr_r _ _ | exact zXor_r _ _ | exact zShl_r _ _ | exact zShr_r _ _ | exact zByte_r _ | exact zcmp_r _ _ | decide) only [Bool.decide_eq_true, Bool.decide_eq_false, ↓if_pos, ↓if_neg, ↓reduceIte, Nat.reduceEqDiff, Int.reduceLE, Int.reduceLT, Int.reduceEq, Int.reduceNe, Nat.reduceBEq, Int.reduceAdd, Int.reduceMul, Int.reduceSub, Int.reduceNeg, Nat.reduceAdd, not_false_eq_true, not_true_eq_false, decide_true, decide_false, Bool.not_true, Bool.not_false, Bool.true_and, Bool.false_and, Bool.and_true, Bool.and_false, Bool.true_or, Bool.false_or, Bool.or_true, Bool.or_false, Bool.not_not, decide_not, Decidable.not_not, ite_not, b2i_t, b2i_f, ne_eq, Bool.not_eq_true, Bool.not_eq_false, decide_eq_true_eq, decide_eq_false_iff_not, Bool.false_eq_true, Bool.true_eq_false, reduceCtorEq, if_true, if_false, ite_self, ite_b0, ite_b1, ite_0b, ite_1b, ite_bb, x_done, x_blk, x_lp, x_er, erL_0, erL_t, erL_f, kl_n, kl_i, kl_r, kl_l, bd_i, bd_r, bk_i, bk_e, bk_n, bk_r, bd_ite, bk_ite, lk_i, lk_e, lk_n, lk_r, lk_ite, ite_nx, b2i_i, b2i_n, b2i_0, b2i_1, b2i_e, bres_r, bres_ite, mres_v, mres_n, sF_1, sF_2, sA_1, sA_2, zcmp_lt, zcmp_gt, zcmp_le, zcmp_ge, zcmp_eq, List.lookup_cons, List.lookup_nil, mresX_v, mresX_n, mresX_t, bd_t, bres_t, y_rO, y_dO, y_dA, yO_o, yO_n, dR_e, rOx_s, rOx_n, dAx_s, dAx_n, wup_s, wup_n, fup_s, fup_n, beq_self_eq_true, Nat.reduceBEq, Nat.reduceLT, Nat.reduceSub, x_aload_n0, x_callG1, x_istore_n1, x_iload_n1, x_dup, y_get, yGet_o, yLk_s, x_iconst, x_iadd, y_put, y_putF, yPut_o, yPk_s, x_new, x_i2c, x_callG4, x_areturn, x_istore_n2, x_iload_n2, x_callG2, x_astore_n3, x_isub, x_aload_n3, x_astore4, x_bipush, x_icmp_ne, x_goto, x_aload4, x_athrow, g0, k1, g1, g2, x_lookup 96 (show -2147483648 ≤ (70 : Int) ∧ (70 : Int) ≤ 2147483647 by decide) (show ((6 : Nat) : Int) + Op.lookupswitch.offset (#[(40, 195), (45, 167), (61, 137), (63, 246), (64, 246), (65, 112), (66, 112), (69, 137), (70, 90), (84, 90)] : Array (Int × Int)).toList 262 70 = ((96 : Nat) : Int) by decide), i1]
      · rw [FR_atom (q := q) (Or.inl ⟨by omega, rfl, rfl⟩)]
        exact ⟨⟨by omega, by omega⟩, F3, i2, i3, i4, i5⟩
  | @un0 s p d q L k hc hk hf =>
    intro N w z m hRI hR
    refine ⟨fun _ hN => ?_, fun z => absurd z (by decide), fun z => absurd z (by decide)⟩
    obtain ⟨hI, hL, hz, hδ⟩ := hRI
    have hp := hI.2.1
    have n800 := hI.2.2.1
    have hd0 := hI.2.2.2.1
    have hq0 := hI.2.2.2.2
    have sb := skp_b (T := T) hp.2
    obtain ⟨M, rfl⟩ : ∃ M, N = M + 1 := ⟨N - 1, by omega⟩
    obtain ⟨w1, k1, k2, k3⟩ := c_look (l := l) (δ := δ) (zz := (z, m)) hI hR
    obtain ⟨F0, g0, -⟩ := hR.ob
    obtain ⟨F1, g1, g2, g3, g4, g5⟩ := k2.ob
    rcases hk with rfl | rfl
    · rw [(lkv_e (c := 65) hI.1 (by omega) (by omega)).mpr hc] at k1
      have lt := chr_lt (T := T) (n := n) (a := skp T n p) (by rw [hc]; exact (by decide : (0 : Int) < Fo.sgA 6))
      have hR2 := k2.at g1 (skp T n p + 1)
      have hI2 : RsI T n (skp T n p + 1) d q := ⟨hI.1, ⟨by omega, by omega⟩, n800, hd0, hq0⟩
      have fr2 : ∀ a, a ≠ ro → wup w1 ro (.inr (4, fup F1 2 (.inl (skp T n p + 1)))) a = w a := fun a ha => by rw [wup_n ha, k3 a ha]
      have sb2 := skp_b (T := T) (n := n) (a := skp T n p + 1) (by omega)
      have hR3 : RS (wup (wup w1 ro (.inr (4, fup F1 2 (.inl (skp T n p + 1))))) z (.inr (5, f0_5))) ro ta ll T n (skp T n p + 1) d q L := hR2.keep (wup_n (by omega)) (wup_n (by omega)) (wup_n (by omega))
      obtain ⟨w3, ⟨w4, F4, e1, e2, e3, e4⟩, e5⟩ := c_var0 (l := l) (δ := δ) (z := z + 1) (m := m + 3) hI2 hL hR3 (by omega) hf
      obtain ⟨F3, q3, -⟩ := hR3.ob
      refine thr_R (w1 := w3) (z1 := z + 1) (m1 := m + 3) ⟨w4, F4, ?_, e2, e3, e4⟩ (fun a a1 a2 a3 => by rw [e5 a a2, wup_n (by omega), fr2 a a2]) (by omega) (by omega) (by omega)
      rw [N_X4_part]; unfold B_X4_part
      simp (disch := first | rfl | exact okv_i | exact okv_o | exact okv_a | exact b_ft _ | (simp only [wt_c, wt_0, vc_i, vc_l, vc_r] <;> decide) | omega | exact i32_r _ | exact b2i_r _ | exact b2i_01 _ | exact zAnd_r _ _ | exact zOr_r _ _ | exact zXor_r _ _ | exact zShl_r _ _ | exact zShr_r _ _ | exact zByte_r _ | exact zcmp_r _ _ | decide) only [Bool.decide_eq_true, Bool.decide_eq_false, ↓if_pos, ↓if_neg, ↓reduceIte, Nat.reduceEqDiff, Int.reduceLE, Int.reduceLT, Int.reduceEq, Int.reduceNe, Nat.reduceBEq, Int.reduceAdd, Int.reduceMul, Int.reduceSub, Int.reduceNeg, Nat.reduceAdd, not_false_eq_true, not_true_eq_false, decide_true, decide_false, Bool.not_true, Bool.not_false, Bool.true_and, Bool.false_and, Bool.and_true, Bool.and_false, Bool.true_or, Bool.false_or, Bool.or_true, Bool.or_false, Bool.not_not, decide_not, Decidable.not_not, ite_not, b2i_t, b2i_f, ne_eq, Bool.not_eq_true, Bool.not_eq_false, decide_eq_true_eq, decide_eq_false_iff_not, Bool.false_eq_true, Bool.true_eq_false, reduceCtorEq, if_true, if_false, ite_self, ite_b0, ite_b1, ite_0b, ite_1b, ite_bb, x_done, x_blk, x_lp, x_er, erL_0, erL_t, erL_f, kl_n, kl_i, kl_r, kl_l, bd_i, bd_r, bk_i, bk_e, bk_n, bk_r, bd_ite, bk_ite, lk_i, lk_e, lk_n, lk_r, lk_ite, ite_nx, b2i_i, b2i_n, b2i_0, b2i_1, b2i_e, bres_r, bres_ite, mres_v, mres_n, sF_1, sF_2, sA_1, sA_2, zcmp_lt, zcmp_gt, zcmp_le, zcmp_ge, zcmp_eq, List.lookup_cons, List.lookup_nil, mresX_v, mresX_n, mresX_t, bd_t, bres_t, y_rO, y_dO, y_dA, yO_o, yO_n, dR_e, rOx_s, rOx_n, dAx_s, dAx_n, wup_s, wup_n, fup_s, fup_n, beq_self_eq_true, Nat.reduceBEq, Nat.reduceLT, Nat.reduceSub, x_aload_n0, x_callG1, x_istore_n1, x_iload_n1, x_dup, y_get, yGet_o, yLk_s, x_iconst, x_iadd, y_put, y_putF, yPut_o, yPk_s, x_new, x_i2c, x_callG4, x_areturn, x_istore_n2, x_iload_n2, x_callG2, x_astore_n3, x_isub, x_aload_n3, x_astore4, x_bipush, x_icmp_ne, x_goto, x_aload4, x_athrow, g0, k1, g1, g2, q3, x_lookup 118 (show -2147483648 ≤ (65 : Int) ∧ (65 : Int) ≤ 2147483647 by decide) (show ((6 : Nat) : Int) + Op.lookupswitch.offset (#[(40, 195), (45, 167), (61, 137), (63, 246), (64, 246), (65, 112), (66, 112), (69, 137), (70, 90), (84, 90)] : Array (Int × Int)).toList 262 65 = ((118 : Nat) : Int) by decide), e1]
    · rw [(lkv_e (c := 66) hI.1 (by omega) (by omega)).mpr hc] at k1
      have lt := chr_lt (T := T) (n := n) (a := skp T n p) (by rw [hc]; exact (by decide : (0 : Int) < Fo.sgA 7))
      have hR2 := k2.at g1 (skp T n p + 1)
      have hI2 : RsI T n (skp T n p + 1) d q := ⟨hI.1, ⟨by omega, by omega⟩, n800, hd0, hq0⟩
      have fr2 : ∀ a, a ≠ ro → wup w1 ro (.inr (4, fup F1 2 (.inl (skp T n p + 1)))) a = w a := fun a ha => by rw [wup_n ha, k3 a ha]
      have sb2 := skp_b (T := T) (n := n) (a := skp T n p + 1) (by omega)
      have hR3 : RS (wup (wup w1 ro (.inr (4, fup F1 2 (.inl (skp T n p + 1))))) z (.inr (5, f0_5))) ro ta ll T n (skp T n p + 1) d q L := hR2.keep (wup_n (by omega)) (wup_n (by omega)) (wup_n (by omega))
      obtain ⟨w3, ⟨w4, F4, e1, e2, e3, e4⟩, e5⟩ := c_var0 (l := l) (δ := δ) (z := z + 1) (m := m + 3) hI2 hL hR3 (by omega) hf
      obtain ⟨F3, q3, -⟩ := hR3.ob
      refine thr_R (w1 := w3) (z1 := z + 1) (m1 := m + 3) ⟨w4, F4, ?_, e2, e3, e4⟩ (fun a a1 a2 a3 => by rw [e5 a a2, wup_n (by omega), fr2 a a2]) (by omega) (by omega) (by omega)
      rw [N_X4_part]; unfold B_X4_part
      simp (disch := first | rfl | exact okv_i | exact okv_o | exact okv_a | exact b_ft _ | (simp only [wt_c, wt_0, vc_i, vc_l, vc_r] <;> decide) | omega | exact i32_r _ | exact b2i_r _ | exact b2i_01 _ | exact zAnd_r _ _ | exact zOr_r _ _ | exact zXor_r _ _ | exact zShl_r _ _ | exact zShr_r _ _ | exact zByte_r _ | exact zcmp_r _ _ | decide) only [Bool.decide_eq_true, Bool.decide_eq_false, ↓if_pos, ↓if_neg, ↓reduceIte, Nat.reduceEqDiff, Int.reduceLE, Int.reduceLT, Int.reduceEq, Int.reduceNe, Nat.reduceBEq, Int.reduceAdd, Int.reduceMul, Int.reduceSub, Int.reduceNeg, Nat.reduceAdd, not_false_eq_true, not_true_eq_false, decide_true, decide_false, Bool.not_true, Bool.not_false, Bool.true_and, Bool.false_and, Bool.and_true, Bool.and_false, Bool.true_or, Bool.false_or, Bool.or_true, Bool.or_false, Bool.not_not, decide_not, Decidable.not_not, ite_not, b2i_t, b2i_f, ne_eq, Bool.not_eq_true, Bool.not_eq_false, decide_eq_true_eq, decide_eq_false_iff_not, Bool.false_eq_true, Bool.true_eq_false, reduceCtorEq, if_true, if_false, ite_self, ite_b0, ite_b1, ite_0b, ite_1b, ite_bb, x_done, x_blk, x_lp, x_er, erL_0, erL_t, erL_f, kl_n, kl_i, kl_r, kl_l, bd_i, bd_r, bk_i, bk_e, bk_n, bk_r, bd_ite, bk_ite, lk_i, lk_e, lk_n, lk_r, lk_ite, ite_nx, b2i_i, b2i_n, b2i_0, b2i_1, b2i_e, bres_r, bres_ite, mres_v, mres_n, sF_1, sF_2, sA_1, sA_2, zcmp_lt, zcmp_gt, zcmp_le, zcmp_ge, zcmp_eq, List.lookup_cons, List.lookup_nil, mresX_v, mresX_n, mresX_t, bd_t, bres_t, y_rO, y_dO, y_dA, yO_o, yO_n, dR_e, rOx_s, rOx_n, dAx_s, dAx_n, wup_s, wup_n, fup_s, fup_n, beq_self_eq_true, Nat.reduceBEq, Nat.reduceLT, Nat.reduceSub, x_aload_n0, x_callG1, x_istore_n1, x_iload_n1, x_dup, y_get, yGet_o, yLk_s, x_iconst, x_iadd, y_put, y_putF, yPut_o, yPk_s, x_new, x_i2c, x_callG4, x_areturn, x_istore_n2, x_iload_n2, x_callG2, x_astore_n3, x_isub, x_aload_n3, x_astore4, x_bipush, x_icmp_ne, x_goto, x_aload4, x_athrow, g0, k1, g1, g2, q3, x_lookup 118 (show -2147483648 ≤ (66 : Int) ∧ (66 : Int) ≤ 2147483647 by decide) (show ((6 : Nat) : Int) + Op.lookupswitch.offset (#[(40, 195), (45, 167), (61, 137), (63, 246), (64, 246), (65, 112), (66, 112), (69, 137), (70, 90), (84, 90)] : Array (Int × Int)).toList 262 66 = ((118 : Nat) : Int) by decide), e1]
  | @un1 s p d q L k v hc hk hf hm =>
    intro N w z m hRI hR
    refine ⟨fun _ hN => ?_, fun z => absurd z (by decide), fun z => absurd z (by decide)⟩
    obtain ⟨hI, hL, hz, hδ⟩ := hRI
    have hp := hI.2.1
    have n800 := hI.2.2.1
    have hd0 := hI.2.2.2.1
    have hq0 := hI.2.2.2.2
    have sb := skp_b (T := T) hp.2
    obtain ⟨M, rfl⟩ : ∃ M, N = M + 1 := ⟨N - 1, by omega⟩
    obtain ⟨w1, k1, k2, k3⟩ := c_look (l := l) (δ := δ) (zz := (z, m)) hI hR
    obtain ⟨F0, g0, -⟩ := hR.ob
    obtain ⟨F1, g1, g2, g3, g4, g5⟩ := k2.ob
    rcases hk with rfl | rfl
    · rw [(lkv_e (c := 65) hI.1 (by omega) (by omega)).mpr hc] at k1
      have lt := chr_lt (T := T) (n := n) (a := skp T n p) (by rw [hc]; exact (by decide : (0 : Int) < Fo.sgA 6))
      have hR2 := k2.at g1 (skp T n p + 1)
      have hI2 : RsI T n (skp T n p + 1) d q := ⟨hI.1, ⟨by omega, by omega⟩, n800, hd0, hq0⟩
      have fr2 : ∀ a, a ≠ ro → wup w1 ro (.inr (4, fup F1 2 (.inl (skp T n p + 1)))) a = w a := fun a ha => by rw [wup_n ha, k3 a ha]
      have sb2 := skp_b (T := T) (n := n) (a := skp T n p + 1) (by omega)
      have hR3 : RS (wup (wup w1 ro (.inr (4, fup F1 2 (.inl (skp T n p + 1))))) z (.inr (5, f0_5))) ro ta ll T n (skp T n p + 1) d q L := hR2.keep (wup_n (by omega)) (wup_n (by omega)) (wup_n (by omega))
      have hb := fnd_n hL (show 1 ≤ fnd L (chr T n (skp T n (skp T n p + 1))) q.toNat by omega)
      obtain ⟨w3, e1, e2, e3⟩ := c_var1 (l := l) (δ := δ) (zz := (z + 1, m + 3)) hI2 hL hR3 hf hm
      obtain ⟨F3, q3, -⟩ := hR3.ob
      obtain ⟨w4, F4, i1, i2, i3, i4, i5, i6⟩ := c_atomI (l := l) (δ := δ) (w := w3) (r := z) (k := 65) (vm := v) (vn := 0) (zz := (z + 1, m + 3)) (by rw [e3 z (by omega), wup_s]) (by decide)
      refine ⟨w4, z + 1, m + 3, z, ?_, e2.keep (i6 ro (by omega)) (i6 ta (by omega)) (i6 ll (by omega)), ?_, ⟨by omega, by omega⟩, fun a a1 a2 a3 => by rw [i6 a (by omega), e3 a a2, wup_n (by omega), fr2 a a2], by omega, by omega⟩
      · rw [N_X4_part]; unfold B_X4_part
        simp (disch := first | rfl | exact okv_i | exact okv_o | exact okv_a | exact b_ft _ | (simp only [wt_c, wt_0, vc_i, vc_l, vc_r] <;> decide) | omega | exact i32_r _ | exact b2i_r _ | exact b2i_01 _ | exact zAnd_r _ _ | exact zOr_r _ _ | exact zXor_r _ _ | exact zShl_r _ _ | exact zShr_r _ _ | exact zByte_r _ | exact zcmp_r _ _ | decide) only [Bool.decide_eq_true, Bool.decide_eq_false, ↓if_pos, ↓if_neg, ↓reduceIte, Nat.reduceEqDiff, Int.reduceLE, Int.reduceLT, Int.reduceEq, Int.reduceNe, Nat.reduceBEq, Int.reduceAdd, Int.reduceMul, Int.reduceSub, Int.reduceNeg, Nat.reduceAdd, not_false_eq_true, not_true_eq_false, decide_true, decide_false, Bool.not_true, Bool.not_false, Bool.true_and, Bool.false_and, Bool.and_true, Bool.and_false, Bool.true_or, Bool.false_or, Bool.or_true, Bool.or_false, Bool.not_not, decide_not, Decidable.not_not, ite_not, b2i_t, b2i_f, ne_eq, Bool.not_eq_true, Bool.not_eq_false, decide_eq_true_eq, decide_eq_false_iff_not, Bool.false_eq_true, Bool.true_eq_false, reduceCtorEq, if_true, if_false, ite_self, ite_b0, ite_b1, ite_0b, ite_1b, ite_bb, x_done, x_blk, x_lp, x_er, erL_0, erL_t, erL_f, kl_n, kl_i, kl_r, kl_l, bd_i, bd_r, bk_i, bk_e, bk_n, bk_r, bd_ite, bk_ite, lk_i, lk_e, lk_n, lk_r, lk_ite, ite_nx, b2i_i, b2i_n, b2i_0, b2i_1, b2i_e, bres_r, bres_ite, mres_v, mres_n, sF_1, sF_2, sA_1, sA_2, zcmp_lt, zcmp_gt, zcmp_le, zcmp_ge, zcmp_eq, List.lookup_cons, List.lookup_nil, mresX_v, mresX_n, mresX_t, bd_t, bres_t, y_rO, y_dO, y_dA, yO_o, yO_n, dR_e, rOx_s, rOx_n, dAx_s, dAx_n, wup_s, wup_n, fup_s, fup_n, beq_self_eq_true, Nat.reduceBEq, Nat.reduceLT, Nat.reduceSub, x_aload_n0, x_callG1, x_istore_n1, x_iload_n1, x_dup, y_get, yGet_o, yLk_s, x_iconst, x_iadd, y_put, y_putF, yPut_o, yPk_s, x_new, x_i2c, x_callG4, x_areturn, x_istore_n2, x_iload_n2, x_callG2, x_astore_n3, x_isub, x_aload_n3, x_astore4, x_bipush, x_icmp_ne, x_goto, x_aload4, x_athrow, g0, k1, g1, g2, q3, x_lookup 118 (show -2147483648 ≤ (65 : Int) ∧ (65 : Int) ≤ 2147483647 by decide) (show ((6 : Nat) : Int) + Op.lookupswitch.offset (#[(40, 195), (45, 167), (61, 137), (63, 246), (64, 246), (65, 112), (66, 112), (69, 137), (70, 90), (84, 90)] : Array (Int × Int)).toList 262 65 = ((118 : Nat) : Int) by decide), e1, i1]
      · rw [FR_atom (q := q) (Or.inr (Or.inl ⟨by omega, ⟨hm, by omega⟩, rfl⟩))]
        exact ⟨⟨by omega, by omega⟩, F4, i2, i3, i4, i5⟩
    · rw [(lkv_e (c := 66) hI.1 (by omega) (by omega)).mpr hc] at k1
      have lt := chr_lt (T := T) (n := n) (a := skp T n p) (by rw [hc]; exact (by decide : (0 : Int) < Fo.sgA 7))
      have hR2 := k2.at g1 (skp T n p + 1)
      have hI2 : RsI T n (skp T n p + 1) d q := ⟨hI.1, ⟨by omega, by omega⟩, n800, hd0, hq0⟩
      have fr2 : ∀ a, a ≠ ro → wup w1 ro (.inr (4, fup F1 2 (.inl (skp T n p + 1)))) a = w a := fun a ha => by rw [wup_n ha, k3 a ha]
      have sb2 := skp_b (T := T) (n := n) (a := skp T n p + 1) (by omega)
      have hR3 : RS (wup (wup w1 ro (.inr (4, fup F1 2 (.inl (skp T n p + 1))))) z (.inr (5, f0_5))) ro ta ll T n (skp T n p + 1) d q L := hR2.keep (wup_n (by omega)) (wup_n (by omega)) (wup_n (by omega))
      have hb := fnd_n hL (show 1 ≤ fnd L (chr T n (skp T n (skp T n p + 1))) q.toNat by omega)
      obtain ⟨w3, e1, e2, e3⟩ := c_var1 (l := l) (δ := δ) (zz := (z + 1, m + 3)) hI2 hL hR3 hf hm
      obtain ⟨F3, q3, -⟩ := hR3.ob
      obtain ⟨w4, F4, i1, i2, i3, i4, i5, i6⟩ := c_atomI (l := l) (δ := δ) (w := w3) (r := z) (k := 66) (vm := v) (vn := 0) (zz := (z + 1, m + 3)) (by rw [e3 z (by omega), wup_s]) (by decide)
      refine ⟨w4, z + 1, m + 3, z, ?_, e2.keep (i6 ro (by omega)) (i6 ta (by omega)) (i6 ll (by omega)), ?_, ⟨by omega, by omega⟩, fun a a1 a2 a3 => by rw [i6 a (by omega), e3 a a2, wup_n (by omega), fr2 a a2], by omega, by omega⟩
      · rw [N_X4_part]; unfold B_X4_part
        simp (disch := first | rfl | exact okv_i | exact okv_o | exact okv_a | exact b_ft _ | (simp only [wt_c, wt_0, vc_i, vc_l, vc_r] <;> decide) | omega | exact i32_r _ | exact b2i_r _ | exact b2i_01 _ | exact zAnd_r _ _ | exact zOr_r _ _ | exact zXor_r _ _ | exact zShl_r _ _ | exact zShr_r _ _ | exact zByte_r _ | exact zcmp_r _ _ | decide) only [Bool.decide_eq_true, Bool.decide_eq_false, ↓if_pos, ↓if_neg, ↓reduceIte, Nat.reduceEqDiff, Int.reduceLE, Int.reduceLT, Int.reduceEq, Int.reduceNe, Nat.reduceBEq, Int.reduceAdd, Int.reduceMul, Int.reduceSub, Int.reduceNeg, Nat.reduceAdd, not_false_eq_true, not_true_eq_false, decide_true, decide_false, Bool.not_true, Bool.not_false, Bool.true_and, Bool.false_and, Bool.and_true, Bool.and_false, Bool.true_or, Bool.false_or, Bool.or_true, Bool.or_false, Bool.not_not, decide_not, Decidable.not_not, ite_not, b2i_t, b2i_f, ne_eq, Bool.not_eq_true, Bool.not_eq_false, decide_eq_true_eq, decide_eq_false_iff_not, Bool.false_eq_true, Bool.true_eq_false, reduceCtorEq, if_true, if_false, ite_self, ite_b0, ite_b1, ite_0b, ite_1b, ite_bb, x_done, x_blk, x_lp, x_er, erL_0, erL_t, erL_f, kl_n, kl_i, kl_r, kl_l, bd_i, bd_r, bk_i, bk_e, bk_n, bk_r, bd_ite, bk_ite, lk_i, lk_e, lk_n, lk_r, lk_ite, ite_nx, b2i_i, b2i_n, b2i_0, b2i_1, b2i_e, bres_r, bres_ite, mres_v, mres_n, sF_1, sF_2, sA_1, sA_2, zcmp_lt, zcmp_gt, zcmp_le, zcmp_ge, zcmp_eq, List.lookup_cons, List.lookup_nil, mresX_v, mresX_n, mresX_t, bd_t, bres_t, y_rO, y_dO, y_dA, yO_o, yO_n, dR_e, rOx_s, rOx_n, dAx_s, dAx_n, wup_s, wup_n, fup_s, fup_n, beq_self_eq_true, Nat.reduceBEq, Nat.reduceLT, Nat.reduceSub, x_aload_n0, x_callG1, x_istore_n1, x_iload_n1, x_dup, y_get, yGet_o, yLk_s, x_iconst, x_iadd, y_put, y_putF, yPut_o, yPk_s, x_new, x_i2c, x_callG4, x_areturn, x_istore_n2, x_iload_n2, x_callG2, x_astore_n3, x_isub, x_aload_n3, x_astore4, x_bipush, x_icmp_ne, x_goto, x_aload4, x_athrow, g0, k1, g1, g2, q3, x_lookup 118 (show -2147483648 ≤ (66 : Int) ∧ (66 : Int) ≤ 2147483647 by decide) (show ((6 : Nat) : Int) + Op.lookupswitch.offset (#[(40, 195), (45, 167), (61, 137), (63, 246), (64, 246), (65, 112), (66, 112), (69, 137), (70, 90), (84, 90)] : Array (Int × Int)).toList 262 66 = ((118 : Nat) : Int) by decide), e1, i1]
      · rw [FR_atom (q := q) (Or.inr (Or.inl ⟨by omega, ⟨hm, by omega⟩, rfl⟩))]
        exact ⟨⟨by omega, by omega⟩, F4, i2, i3, i4, i5⟩
  | @bi0 s p d q L k hc hk hf =>
    intro N w z m hRI hR
    refine ⟨fun _ hN => ?_, fun z => absurd z (by decide), fun z => absurd z (by decide)⟩
    obtain ⟨hI, hL, hz, hδ⟩ := hRI
    have hp := hI.2.1
    have n800 := hI.2.2.1
    have hd0 := hI.2.2.2.1
    have hq0 := hI.2.2.2.2
    have sb := skp_b (T := T) hp.2
    obtain ⟨M, rfl⟩ : ∃ M, N = M + 1 := ⟨N - 1, by omega⟩
    obtain ⟨w1, k1, k2, k3⟩ := c_look (l := l) (δ := δ) (zz := (z, m)) hI hR
    obtain ⟨F0, g0, -⟩ := hR.ob
    obtain ⟨F1, g1, g2, g3, g4, g5⟩ := k2.ob
    rcases hk with rfl | rfl
    · rw [(lkv_e (c := 69) hI.1 (by omega) (by omega)).mpr hc] at k1
      have lt := chr_lt (T := T) (n := n) (a := skp T n p) (by rw [hc]; exact (by decide : (0 : Int) < Fo.sgA 8))
      have hR2 := k2.at g1 (skp T n p + 1)
      have hI2 : RsI T n (skp T n p + 1) d q := ⟨hI.1, ⟨by omega, by omega⟩, n800, hd0, hq0⟩
      have fr2 : ∀ a, a ≠ ro → wup w1 ro (.inr (4, fup F1 2 (.inl (skp T n p + 1)))) a = w a := fun a ha => by rw [wup_n ha, k3 a ha]
      have sb2 := skp_b (T := T) (n := n) (a := skp T n p + 1) (by omega)
      obtain ⟨w3, ⟨w4, F4, e1, e2, e3, e4⟩, e5⟩ := c_var0 (l := l) (δ := δ) (z := z) (m := m) hI2 hL hR2 (by omega) hf
      refine thr_R (w1 := w3) (z1 := z) (m1 := m) ⟨w4, F4, ?_, e2, e3, e4⟩ (fun a a1 a2 a3 => by rw [e5 a a2, fr2 a a2]) (by omega) (by omega) (by omega)
      rw [N_X4_part]; unfold B_X4_part
      simp (disch := first | rfl | exact okv_i | exact okv_o | exact okv_a | exact b_ft _ | (simp only [wt_c, wt_0, vc_i, vc_l, vc_r] <;> decide) | omega | exact i32_r _ | exact b2i_r _ | exact b2i_01 _ | exact zAnd_r _ _ | exact zOr_r _ _ | exact zXor_r _ _ | exact zShl_r _ _ | exact zShr_r _ _ | exact zByte_r _ | exact zcmp_r _ _ | decide) only [Bool.decide_eq_true, Bool.decide_eq_false, ↓if_pos, ↓if_neg, ↓reduceIte, Nat.reduceEqDiff, Int.reduceLE, Int.reduceLT, Int.reduceEq, Int.reduceNe, Nat.reduceBEq, Int.reduceAdd, Int.reduceMul, Int.reduceSub, Int.reduceNeg, Nat.reduceAdd, not_false_eq_true, not_true_eq_false, decide_true, decide_false, Bool.not_true, Bool.not_false, Bool.true_and, Bool.false_and, Bool.and_true, Bool.and_false, Bool.true_or, Bool.false_or, Bool.or_true, Bool.or_false, Bool.not_not, decide_not, Decidable.not_not, ite_not, b2i_t, b2i_f, ne_eq, Bool.not_eq_true, Bool.not_eq_false, decide_eq_true_eq, decide_eq_false_iff_not, Bool.false_eq_true, Bool.true_eq_false, reduceCtorEq, if_true, if_false, ite_self, ite_b0, ite_b1, ite_0b, ite_1b, ite_bb, x_done, x_blk, x_lp, x_er, erL_0, erL_t, erL_f, kl_n, kl_i, kl_r, kl_l, bd_i, bd_r, bk_i, bk_e, bk_n, bk_r, bd_ite, bk_ite, lk_i, lk_e, lk_n, lk_r, lk_ite, ite_nx, b2i_i, b2i_n, b2i_0, b2i_1, b2i_e, bres_r, bres_ite, mres_v, mres_n, sF_1, sF_2, sA_1, sA_2, zcmp_lt, zcmp_gt, zcmp_le, zcmp_ge, zcmp_eq, List.lookup_cons, List.lookup_nil, mresX_v, mresX_n, mresX_t, bd_t, bres_t, y_rO, y_dO, y_dA, yO_o, yO_n, dR_e, rOx_s, rOx_n, dAx_s, dAx_n, wup_s, wup_n, fup_s, fup_n, beq_self_eq_true, Nat.reduceBEq, Nat.reduceLT, Nat.reduceSub, x_aload_n0, x_callG1, x_istore_n1, x_iload_n1, x_dup, y_get, yGet_o, yLk_s, x_iconst, x_iadd, y_put, y_putF, yPut_o, yPk_s, x_new, x_i2c, x_callG4, x_areturn, x_istore_n2, x_iload_n2, x_callG2, x_astore_n3, x_isub, x_aload_n3, x_astore4, x_bipush, x_icmp_ne, x_goto, x_aload4, x_athrow, g0, k1, g1, g2, x_lookup 143 (show -2147483648 ≤ (69 : Int) ∧ (69 : Int) ≤ 2147483647 by decide) (show ((6 : Nat) : Int) + Op.lookupswitch.offset (#[(40, 195), (45, 167), (61, 137), (63, 246), (64, 246), (65, 112), (66, 112), (69, 137), (70, 90), (84, 90)] : Array (Int × Int)).toList 262 69 = ((143 : Nat) : Int) by decide), e1]
    · rw [(lkv_e (c := 61) hI.1 (by omega) (by omega)).mpr hc] at k1
      have lt := chr_lt (T := T) (n := n) (a := skp T n p) (by rw [hc]; exact (by decide : (0 : Int) < Fo.sgA 9))
      have hR2 := k2.at g1 (skp T n p + 1)
      have hI2 : RsI T n (skp T n p + 1) d q := ⟨hI.1, ⟨by omega, by omega⟩, n800, hd0, hq0⟩
      have fr2 : ∀ a, a ≠ ro → wup w1 ro (.inr (4, fup F1 2 (.inl (skp T n p + 1)))) a = w a := fun a ha => by rw [wup_n ha, k3 a ha]
      have sb2 := skp_b (T := T) (n := n) (a := skp T n p + 1) (by omega)
      obtain ⟨w3, ⟨w4, F4, e1, e2, e3, e4⟩, e5⟩ := c_var0 (l := l) (δ := δ) (z := z) (m := m) hI2 hL hR2 (by omega) hf
      refine thr_R (w1 := w3) (z1 := z) (m1 := m) ⟨w4, F4, ?_, e2, e3, e4⟩ (fun a a1 a2 a3 => by rw [e5 a a2, fr2 a a2]) (by omega) (by omega) (by omega)
      rw [N_X4_part]; unfold B_X4_part
      simp (disch := first | rfl | exact okv_i | exact okv_o | exact okv_a | exact b_ft _ | (simp only [wt_c, wt_0, vc_i, vc_l, vc_r] <;> decide) | omega | exact i32_r _ | exact b2i_r _ | exact b2i_01 _ | exact zAnd_r _ _ | exact zOr_r _ _ | exact zXor_r _ _ | exact zShl_r _ _ | exact zShr_r _ _ | exact zByte_r _ | exact zcmp_r _ _ | decide) only [Bool.decide_eq_true, Bool.decide_eq_false, ↓if_pos, ↓if_neg, ↓reduceIte, Nat.reduceEqDiff, Int.reduceLE, Int.reduceLT, Int.reduceEq, Int.reduceNe, Nat.reduceBEq, Int.reduceAdd, Int.reduceMul, Int.reduceSub, Int.reduceNeg, Nat.reduceAdd, not_false_eq_true, not_true_eq_false, decide_true, decide_false, Bool.not_true, Bool.not_false, Bool.true_and, Bool.false_and, Bool.and_true, Bool.and_false, Bool.true_or, Bool.false_or, Bool.or_true, Bool.or_false, Bool.not_not, decide_not, Decidable.not_not, ite_not, b2i_t, b2i_f, ne_eq, Bool.not_eq_true, Bool.not_eq_false, decide_eq_true_eq, decide_eq_false_iff_not, Bool.false_eq_true, Bool.true_eq_false, reduceCtorEq, if_true, if_false, ite_self, ite_b0, ite_b1, ite_0b, ite_1b, ite_bb, x_done, x_blk, x_lp, x_er, erL_0, erL_t, erL_f, kl_n, kl_i, kl_r, kl_l, bd_i, bd_r, bk_i, bk_e, bk_n, bk_r, bd_ite, bk_ite, lk_i, lk_e, lk_n, lk_r, lk_ite, ite_nx, b2i_i, b2i_n, b2i_0, b2i_1, b2i_e, bres_r, bres_ite, mres_v, mres_n, sF_1, sF_2, sA_1, sA_2, zcmp_lt, zcmp_gt, zcmp_le, zcmp_ge, zcmp_eq, List.lookup_cons, List.lookup_nil, mresX_v, mresX_n, mresX_t, bd_t, bres_t, y_rO, y_dO, y_dA, yO_o, yO_n, dR_e, rOx_s, rOx_n, dAx_s, dAx_n, wup_s, wup_n, fup_s, fup_n, beq_self_eq_true, Nat.reduceBEq, Nat.reduceLT, Nat.reduceSub, x_aload_n0, x_callG1, x_istore_n1, x_iload_n1, x_dup, y_get, yGet_o, yLk_s, x_iconst, x_iadd, y_put, y_putF, yPut_o, yPk_s, x_new, x_i2c, x_callG4, x_areturn, x_istore_n2, x_iload_n2, x_callG2, x_astore_n3, x_isub, x_aload_n3, x_astore4, x_bipush, x_icmp_ne, x_goto, x_aload4, x_athrow, g0, k1, g1, g2, x_lookup 143 (show -2147483648 ≤ (61 : Int) ∧ (61 : Int) ≤ 2147483647 by decide) (show ((6 : Nat) : Int) + Op.lookupswitch.offset (#[(40, 195), (45, 167), (61, 137), (63, 246), (64, 246), (65, 112), (66, 112), (69, 137), (70, 90), (84, 90)] : Array (Int × Int)).toList 262 61 = ((143 : Nat) : Int) by decide), e1]
  | @bi1 s p d q L k v hc hk hf hm hg =>
    intro N w z m hRI hR
    refine ⟨fun _ hN => ?_, fun z => absurd z (by decide), fun z => absurd z (by decide)⟩
    obtain ⟨hI, hL, hz, hδ⟩ := hRI
    have hp := hI.2.1
    have n800 := hI.2.2.1
    have hd0 := hI.2.2.2.1
    have hq0 := hI.2.2.2.2
    have sb := skp_b (T := T) hp.2
    obtain ⟨M, rfl⟩ : ∃ M, N = M + 1 := ⟨N - 1, by omega⟩
    obtain ⟨w1, k1, k2, k3⟩ := c_look (l := l) (δ := δ) (zz := (z, m)) hI hR
    obtain ⟨F0, g0, -⟩ := hR.ob
    obtain ⟨F1, g1, g2, g3, g4, g5⟩ := k2.ob
    rcases hk with rfl | rfl
    · rw [(lkv_e (c := 69) hI.1 (by omega) (by omega)).mpr hc] at k1
      have lt := chr_lt (T := T) (n := n) (a := skp T n p) (by rw [hc]; exact (by decide : (0 : Int) < Fo.sgA 8))
      have hR2 := k2.at g1 (skp T n p + 1)
      have hI2 : RsI T n (skp T n p + 1) d q := ⟨hI.1, ⟨by omega, by omega⟩, n800, hd0, hq0⟩
      have fr2 : ∀ a, a ≠ ro → wup w1 ro (.inr (4, fup F1 2 (.inl (skp T n p + 1)))) a = w a := fun a ha => by rw [wup_n ha, k3 a ha]
      have sb2 := skp_b (T := T) (n := n) (a := skp T n p + 1) (by omega)
      have hb := fnd_n hL (show 1 ≤ fnd L (chr T n (skp T n (skp T n p + 1))) q.toNat by omega)
      obtain ⟨w3, e1, e2, e3⟩ := c_var1 (l := l) (δ := δ) (zz := (z, m)) hI2 hL hR2 hf hm
      have hI3 : RsI T n (skp T n (skp T n p + 1) + 1) d q := ⟨hI.1, ⟨by omega, by omega⟩, n800, hd0, hq0⟩
      have sb3 := skp_b (T := T) (n := n) (a := skp T n (skp T n p + 1) + 1) (by omega)
      obtain ⟨F2, q2, -⟩ := e2.ob
      have hR3 : RS (wup w3 z (.inr (5, f0_5))) ro ta ll T n (skp T n (skp T n p + 1) + 1) d q L := e2.keep (wup_n (by omega)) (wup_n (by omega)) (wup_n (by omega))
      obtain ⟨F3, q3, -⟩ := hR3.ob
      obtain ⟨w4, ⟨w5, F5, j1, j2, j3, j4⟩, j5⟩ := c_var0 (l := l) (δ := δ) (z := z + 1) (m := m + 3) hI3 hL hR3 (by omega) hg
      refine thr_R (w1 := w4) (z1 := z + 1) (m1 := m + 3) ⟨w5, F5, ?_, j2, j3, j4⟩ (fun a a1 a2 a3 => by rw [j5 a a2, wup_n (by omega), e3 a a2, fr2 a a2]) (by omega) (by omega) (by omega)
      rw [N_X4_part]; unfold B_X4_part
      simp (disch := first | rfl | exact okv_i | exact okv_o | exact okv_a | exact b_ft _ | (simp only [wt_c, wt_0, vc_i, vc_l, vc_r] <;> decide) | omega | exact i32_r _ | exact b2i_r _ | exact b2i_01 _ | exact zAnd_r _ _ | exact zOr_r _ _ | exact zXor_r _ _ | exact zShl_r _ _ | exact zShr_r _ _ | exact zByte_r _ | exact zcmp_r _ _ | decide) only [Bool.decide_eq_true, Bool.decide_eq_false, ↓if_pos, ↓if_neg, ↓reduceIte, Nat.reduceEqDiff, Int.reduceLE, Int.reduceLT, Int.reduceEq, Int.reduceNe, Nat.reduceBEq, Int.reduceAdd, Int.reduceMul, Int.reduceSub, Int.reduceNeg, Nat.reduceAdd, not_false_eq_true, not_true_eq_false, decide_true, decide_false, Bool.not_true, Bool.not_false, Bool.true_and, Bool.false_and, Bool.and_true, Bool.and_false, Bool.true_or, Bool.false_or, Bool.or_true, Bool.or_false, Bool.not_not, decide_not, Decidable.not_not, ite_not, b2i_t, b2i_f, ne_eq, Bool.not_eq_true, Bool.not_eq_false, decide_eq_true_eq, decide_eq_false_iff_not, Bool.false_eq_true, Bool.true_eq_false, reduceCtorEq, if_true, if_false, ite_self, ite_b0, ite_b1, ite_0b, ite_1b, ite_bb, x_done, x_blk, x_lp, x_er, erL_0, erL_t, erL_f, kl_n, kl_i, kl_r, kl_l, bd_i, bd_r, bk_i, bk_e, bk_n, bk_r, bd_ite, bk_ite, lk_i, lk_e, lk_n, lk_r, lk_ite, ite_nx, b2i_i, b2i_n, b2i_0, b2i_1, b2i_e, bres_r, bres_ite, mres_v, mres_n, sF_1, sF_2, sA_1, sA_2, zcmp_lt, zcmp_gt, zcmp_le, zcmp_ge, zcmp_eq, List.lookup_cons, List.lookup_nil, mresX_v, mresX_n, mresX_t, bd_t, bres_t, y_rO, y_dO, y_dA, yO_o, yO_n, dR_e, rOx_s, rOx_n, dAx_s, dAx_n, wup_s, wup_n, fup_s, fup_n, beq_self_eq_true, Nat.reduceBEq, Nat.reduceLT, Nat.reduceSub, x_aload_n0, x_callG1, x_istore_n1, x_iload_n1, x_dup, y_get, yGet_o, yLk_s, x_iconst, x_iadd, y_put, y_putF, yPut_o, yPk_s, x_new, x_i2c, x_callG4, x_areturn, x_istore_n2, x_iload_n2, x_callG2, x_astore_n3, x_isub, x_aload_n3, x_astore4, x_bipush, x_icmp_ne, x_goto, x_aload4, x_athrow, g0, k1, g1, g2, q2, q3, x_lookup 143 (show -2147483648 ≤ (69 : Int) ∧ (69 : Int) ≤ 2147483647 by decide) (show ((6 : Nat) : Int) + Op.lookupswitch.offset (#[(40, 195), (45, 167), (61, 137), (63, 246), (64, 246), (65, 112), (66, 112), (69, 137), (70, 90), (84, 90)] : Array (Int × Int)).toList 262 69 = ((143 : Nat) : Int) by decide), e1, j1]
    · rw [(lkv_e (c := 61) hI.1 (by omega) (by omega)).mpr hc] at k1
      have lt := chr_lt (T := T) (n := n) (a := skp T n p) (by rw [hc]; exact (by decide : (0 : Int) < Fo.sgA 9))
      have hR2 := k2.at g1 (skp T n p + 1)
      have hI2 : RsI T n (skp T n p + 1) d q := ⟨hI.1, ⟨by omega, by omega⟩, n800, hd0, hq0⟩
      have fr2 : ∀ a, a ≠ ro → wup w1 ro (.inr (4, fup F1 2 (.inl (skp T n p + 1)))) a = w a := fun a ha => by rw [wup_n ha, k3 a ha]
      have sb2 := skp_b (T := T) (n := n) (a := skp T n p + 1) (by omega)
      have hb := fnd_n hL (show 1 ≤ fnd L (chr T n (skp T n (skp T n p + 1))) q.toNat by omega)
      obtain ⟨w3, e1, e2, e3⟩ := c_var1 (l := l) (δ := δ) (zz := (z, m)) hI2 hL hR2 hf hm
      have hI3 : RsI T n (skp T n (skp T n p + 1) + 1) d q := ⟨hI.1, ⟨by omega, by omega⟩, n800, hd0, hq0⟩
      have sb3 := skp_b (T := T) (n := n) (a := skp T n (skp T n p + 1) + 1) (by omega)
      obtain ⟨F2, q2, -⟩ := e2.ob
      have hR3 : RS (wup w3 z (.inr (5, f0_5))) ro ta ll T n (skp T n (skp T n p + 1) + 1) d q L := e2.keep (wup_n (by omega)) (wup_n (by omega)) (wup_n (by omega))
      obtain ⟨F3, q3, -⟩ := hR3.ob
      obtain ⟨w4, ⟨w5, F5, j1, j2, j3, j4⟩, j5⟩ := c_var0 (l := l) (δ := δ) (z := z + 1) (m := m + 3) hI3 hL hR3 (by omega) hg
      refine thr_R (w1 := w4) (z1 := z + 1) (m1 := m + 3) ⟨w5, F5, ?_, j2, j3, j4⟩ (fun a a1 a2 a3 => by rw [j5 a a2, wup_n (by omega), e3 a a2, fr2 a a2]) (by omega) (by omega) (by omega)
      rw [N_X4_part]; unfold B_X4_part
      simp (disch := first | rfl | exact okv_i | exact okv_o | exact okv_a | exact b_ft _ | (simp only [wt_c, wt_0, vc_i, vc_l, vc_r] <;> decide) | omega | exact i32_r _ | exact b2i_r _ | exact b2i_01 _ | exact zAnd_r _ _ | exact zOr_r _ _ | exact zXor_r _ _ | exact zShl_r _ _ | exact zShr_r _ _ | exact zByte_r _ | exact zcmp_r _ _ | decide) only [Bool.decide_eq_true, Bool.decide_eq_false, ↓if_pos, ↓if_neg, ↓reduceIte, Nat.reduceEqDiff, Int.reduceLE, Int.reduceLT, Int.reduceEq, Int.reduceNe, Nat.reduceBEq, Int.reduceAdd, Int.reduceMul, Int.reduceSub, Int.reduceNeg, Nat.reduceAdd, not_false_eq_true, not_true_eq_false, decide_true, decide_false, Bool.not_true, Bool.not_false, Bool.true_and, Bool.false_and, Bool.and_true, Bool.and_false, Bool.true_or, Bool.false_or, Bool.or_true, Bool.or_false, Bool.not_not, decide_not, Decidable.not_not, ite_not, b2i_t, b2i_f, ne_eq, Bool.not_eq_true, Bool.not_eq_false, decide_eq_true_eq, decide_eq_false_iff_not, Bool.false_eq_true, Bool.true_eq_false, reduceCtorEq, if_true, if_false, ite_self, ite_b0, ite_b1, ite_0b, ite_1b, ite_bb, x_done, x_blk, x_lp, x_er, erL_0, erL_t, erL_f, kl_n, kl_i, kl_r, kl_l, bd_i, bd_r, bk_i, bk_e, bk_n, bk_r, bd_ite, bk_ite, lk_i, lk_e, lk_n, lk_r, lk_ite, ite_nx, b2i_i, b2i_n, b2i_0, b2i_1, b2i_e, bres_r, bres_ite, mres_v, mres_n, sF_1, sF_2, sA_1, sA_2, zcmp_lt, zcmp_gt, zcmp_le, zcmp_ge, zcmp_eq, List.lookup_cons, List.lookup_nil, mresX_v, mresX_n, mresX_t, bd_t, bres_t, y_rO, y_dO, y_dA, yO_o, yO_n, dR_e, rOx_s, rOx_n, dAx_s, dAx_n, wup_s, wup_n, fup_s, fup_n, beq_self_eq_true, Nat.reduceBEq, Nat.reduceLT, Nat.reduceSub, x_aload_n0, x_callG1, x_istore_n1, x_iload_n1, x_dup, y_get, yGet_o, yLk_s, x_iconst, x_iadd, y_put, y_putF, yPut_o, yPk_s, x_new, x_i2c, x_callG4, x_areturn, x_istore_n2, x_iload_n2, x_callG2, x_astore_n3, x_isub, x_aload_n3, x_astore4, x_bipush, x_icmp_ne, x_goto, x_aload4, x_athrow, g0, k1, g1, g2, q2, q3, x_lookup 143 (show -2147483648 ≤ (61 : Int) ∧ (61 : Int) ≤ 2147483647 by decide) (show ((6 : Nat) : Int) + Op.lookupswitch.offset (#[(40, 195), (45, 167), (61, 137), (63, 246), (64, 246), (65, 112), (66, 112), (69, 137), (70, 90), (84, 90)] : Array (Int × Int)).toList 262 61 = ((143 : Nat) : Int) by decide), e1, j1]
  | @bi2 s p d q L k v v' hc hk hf hm hg hm' =>
    intro N w z m hRI hR
    refine ⟨fun _ hN => ?_, fun z => absurd z (by decide), fun z => absurd z (by decide)⟩
    obtain ⟨hI, hL, hz, hδ⟩ := hRI
    have hp := hI.2.1
    have n800 := hI.2.2.1
    have hd0 := hI.2.2.2.1
    have hq0 := hI.2.2.2.2
    have sb := skp_b (T := T) hp.2
    obtain ⟨M, rfl⟩ : ∃ M, N = M + 1 := ⟨N - 1, by omega⟩
    obtain ⟨w1, k1, k2, k3⟩ := c_look (l := l) (δ := δ) (zz := (z, m)) hI hR
    obtain ⟨F0, g0, -⟩ := hR.ob
    obtain ⟨F1, g1, g2, g3, g4, g5⟩ := k2.ob
    rcases hk with rfl | rfl
    · rw [(lkv_e (c := 69) hI.1 (by omega) (by omega)).mpr hc] at k1
      have lt := chr_lt (T := T) (n := n) (a := skp T n p) (by rw [hc]; exact (by decide : (0 : Int) < Fo.sgA 8))
      have hR2 := k2.at g1 (skp T n p + 1)
      have hI2 : RsI T n (skp T n p + 1) d q := ⟨hI.1, ⟨by omega, by omega⟩, n800, hd0, hq0⟩
      have fr2 : ∀ a, a ≠ ro → wup w1 ro (.inr (4, fup F1 2 (.inl (skp T n p + 1)))) a = w a := fun a ha => by rw [wup_n ha, k3 a ha]
      have sb2 := skp_b (T := T) (n := n) (a := skp T n p + 1) (by omega)
      have hb := fnd_n hL (show 1 ≤ fnd L (chr T n (skp T n (skp T n p + 1))) q.toNat by omega)
      obtain ⟨w3, e1, e2, e3⟩ := c_var1 (l := l) (δ := δ) (zz := (z, m)) hI2 hL hR2 hf hm
      have hI3 : RsI T n (skp T n (skp T n p + 1) + 1) d q := ⟨hI.1, ⟨by omega, by omega⟩, n800, hd0, hq0⟩
      have sb3 := skp_b (T := T) (n := n) (a := skp T n (skp T n p + 1) + 1) (by omega)
      obtain ⟨F2, q2, -⟩ := e2.ob
      have hR3 : RS (wup w3 z (.inr (5, f0_5))) ro ta ll T n (skp T n (skp T n p + 1) + 1) d q L := e2.keep (wup_n (by omega)) (wup_n (by omega)) (wup_n (by omega))
      obtain ⟨F3, q3, -⟩ := hR3.ob
      have hb2 := fnd_n hL (show 1 ≤ fnd L (chr T n (skp T n (skp T n (skp T n p + 1) + 1))) q.toNat by omega)
      obtain ⟨w4, j1, j2, j3⟩ := c_var1 (l := l) (δ := δ) (zz := (z + 1, m + 3)) hI3 hL hR3 hg hm'
      obtain ⟨w5, F5, i1, i2, i3, i4, i5, i6⟩ := c_atomI (l := l) (δ := δ) (w := w4) (r := z) (k := 69) (vm := v) (vn := v') (zz := (z + 1, m + 3)) (by rw [j3 z (by omega), wup_s]) (by decide)
      refine ⟨w5, z + 1, m + 3, z, ?_, j2.keep (i6 ro (by omega)) (i6 ta (by omega)) (i6 ll (by omega)), ?_, ⟨by omega, by omega⟩, fun a a1 a2 a3 => by rw [i6 a (by omega), j3 a a2, wup_n (by omega), e3 a a2, fr2 a a2], by omega, by omega⟩
      · rw [N_X4_part]; unfold B_X4_part
        simp (disch := first | rfl | exact okv_i | exact okv_o | exact okv_a | exact b_ft _ | (simp only [wt_c, wt_0, vc_i, vc_l, vc_r] <;> decide) | omega | exact i32_r _ | exact b2i_r _ | exact b2i_01 _ | exact zAnd_r _ _ | exact zOr_r _ _ | exact zXor_r _ _ | exact zShl_r _ _ | exact zShr_r _ _ | exact zByte_r _ | exact zcmp_r _ _ | decide) only [Bool.decide_eq_true, Bool.decide_eq_false, ↓if_pos, ↓if_neg, ↓reduceIte, Nat.reduceEqDiff, Int.reduceLE, Int.reduceLT, Int.reduceEq, Int.reduceNe, Nat.reduceBEq, Int.reduceAdd, Int.reduceMul, Int.reduceSub, Int.reduceNeg, Nat.reduceAdd, not_false_eq_true, not_true_eq_false, decide_true, decide_false, Bool.not_true, Bool.not_false, Bool.true_and, Bool.false_and, Bool.and_true, Bool.and_false, Bool.true_or, Bool.false_or, Bool.or_true, Bool.or_false, Bool.not_not, decide_not, Decidable.not_not, ite_not, b2i_t, b2i_f, ne_eq, Bool.not_eq_true, Bool.not_eq_false, decide_eq_true_eq, decide_eq_false_iff_not, Bool.false_eq_true, Bool.true_eq_false, reduceCtorEq, if_true, if_false, ite_self, ite_b0, ite_b1, ite_0b, ite_1b, ite_bb, x_done, x_blk, x_lp, x_er, erL_0, erL_t, erL_f, kl_n, kl_i, kl_r, kl_l, bd_i, bd_r, bk_i, bk_e, bk_n, bk_r, bd_ite, bk_ite, lk_i, lk_e, lk_n, lk_r, lk_ite, ite_nx, b2i_i, b2i_n, b2i_0, b2i_1, b2i_e, bres_r, bres_ite, mres_v, mres_n, sF_1, sF_2, sA_1, sA_2, zcmp_lt, zcmp_gt, zcmp_le, zcmp_ge, zcmp_eq, List.lookup_cons, List.lookup_nil, mresX_v, mresX_n, mresX_t, bd_t, bres_t, y_rO, y_dO, y_dA, yO_o, yO_n, dR_e, rOx_s, rOx_n, dAx_s, dAx_n, wup_s, wup_n, fup_s, fup_n, beq_self_eq_true, Nat.reduceBEq, Nat.reduceLT, Nat.reduceSub, x_aload_n0, x_callG1, x_istore_n1, x_iload_n1, x_dup, y_get, yGet_o, yLk_s, x_iconst, x_iadd, y_put, y_putF, yPut_o, yPk_s, x_new, x_i2c, x_callG4, x_areturn, x_istore_n2, x_iload_n2, x_callG2, x_astore_n3, x_isub, x_aload_n3, x_astore4, x_bipush, x_icmp_ne, x_goto, x_aload4, x_athrow, g0, k1, g1, g2, q2, q3, x_lookup 143 (show -2147483648 ≤ (69 : Int) ∧ (69 : Int) ≤ 2147483647 by decide) (show ((6 : Nat) : Int) + Op.lookupswitch.offset (#[(40, 195), (45, 167), (61, 137), (63, 246), (64, 246), (65, 112), (66, 112), (69, 137), (70, 90), (84, 90)] : Array (Int × Int)).toList 262 69 = ((143 : Nat) : Int) by decide), e1, j1, i1]
      · rw [FR_atom (q := q) (Or.inr (Or.inr ⟨by omega, ⟨hm, by omega⟩, ⟨hm', by omega⟩⟩))]
        exact ⟨⟨by omega, by omega⟩, F5, i2, i3, i4, i5⟩
    · rw [(lkv_e (c := 61) hI.1 (by omega) (by omega)).mpr hc] at k1
      have lt := chr_lt (T := T) (n := n) (a := skp T n p) (by rw [hc]; exact (by decide : (0 : Int) < Fo.sgA 9))
      have hR2 := k2.at g1 (skp T n p + 1)
      have hI2 : RsI T n (skp T n p + 1) d q := ⟨hI.1, ⟨by omega, by omega⟩, n800, hd0, hq0⟩
      have fr2 : ∀ a, a ≠ ro → wup w1 ro (.inr (4, fup F1 2 (.inl (skp T n p + 1)))) a = w a := fun a ha => by rw [wup_n ha, k3 a ha]
      have sb2 := skp_b (T := T) (n := n) (a := skp T n p + 1) (by omega)
      have hb := fnd_n hL (show 1 ≤ fnd L (chr T n (skp T n (skp T n p + 1))) q.toNat by omega)
      obtain ⟨w3, e1, e2, e3⟩ := c_var1 (l := l) (δ := δ) (zz := (z, m)) hI2 hL hR2 hf hm
      have hI3 : RsI T n (skp T n (skp T n p + 1) + 1) d q := ⟨hI.1, ⟨by omega, by omega⟩, n800, hd0, hq0⟩
      have sb3 := skp_b (T := T) (n := n) (a := skp T n (skp T n p + 1) + 1) (by omega)
      obtain ⟨F2, q2, -⟩ := e2.ob
      have hR3 : RS (wup w3 z (.inr (5, f0_5))) ro ta ll T n (skp T n (skp T n p + 1) + 1) d q L := e2.keep (wup_n (by omega)) (wup_n (by omega)) (wup_n (by omega))
      obtain ⟨F3, q3, -⟩ := hR3.ob
      have hb2 := fnd_n hL (show 1 ≤ fnd L (chr T n (skp T n (skp T n (skp T n p + 1) + 1))) q.toNat by omega)
      obtain ⟨w4, j1, j2, j3⟩ := c_var1 (l := l) (δ := δ) (zz := (z + 1, m + 3)) hI3 hL hR3 hg hm'
      obtain ⟨w5, F5, i1, i2, i3, i4, i5, i6⟩ := c_atomI (l := l) (δ := δ) (w := w4) (r := z) (k := 61) (vm := v) (vn := v') (zz := (z + 1, m + 3)) (by rw [j3 z (by omega), wup_s]) (by decide)
      refine ⟨w5, z + 1, m + 3, z, ?_, j2.keep (i6 ro (by omega)) (i6 ta (by omega)) (i6 ll (by omega)), ?_, ⟨by omega, by omega⟩, fun a a1 a2 a3 => by rw [i6 a (by omega), j3 a a2, wup_n (by omega), e3 a a2, fr2 a a2], by omega, by omega⟩
      · rw [N_X4_part]; unfold B_X4_part
        simp (disch := first | rfl | exact okv_i | exact okv_o | exact okv_a | exact b_ft _ | (simp only [wt_c, wt_0, vc_i, vc_l, vc_r] <;> decide) | omega | exact i32_r _ | exact b2i_r _ | exact b2i_01 _ | exact zAnd_r _ _ | exact zOr_r _ _ | exact zXor_r _ _ | exact zShl_r _ _ | exact zShr_r _ _ | exact zByte_r _ | exact zcmp_r _ _ | decide) only [Bool.decide_eq_true, Bool.decide_eq_false, ↓if_pos, ↓if_neg, ↓reduceIte, Nat.reduceEqDiff, Int.reduceLE, Int.reduceLT, Int.reduceEq, Int.reduceNe, Nat.reduceBEq, Int.reduceAdd, Int.reduceMul, Int.reduceSub, Int.reduceNeg, Nat.reduceAdd, not_false_eq_true, not_true_eq_false, decide_true, decide_false, Bool.not_true, Bool.not_false, Bool.true_and, Bool.false_and, Bool.and_true, Bool.and_false, Bool.true_or, Bool.false_or, Bool.or_true, Bool.or_false, Bool.not_not, decide_not, Decidable.not_not, ite_not, b2i_t, b2i_f, ne_eq, Bool.not_eq_true, Bool.not_eq_false, decide_eq_true_eq, decide_eq_false_iff_not, Bool.false_eq_true, Bool.true_eq_false, reduceCtorEq, if_true, if_false, ite_self, ite_b0, ite_b1, ite_0b, ite_1b, ite_bb, x_done, x_blk, x_lp, x_er, erL_0, erL_t, erL_f, kl_n, kl_i, kl_r, kl_l, bd_i, bd_r, bk_i, bk_e, bk_n, bk_r, bd_ite, bk_ite, lk_i, lk_e, lk_n, lk_r, lk_ite, ite_nx, b2i_i, b2i_n, b2i_0, b2i_1, b2i_e, bres_r, bres_ite, mres_v, mres_n, sF_1, sF_2, sA_1, sA_2, zcmp_lt, zcmp_gt, zcmp_le, zcmp_ge, zcmp_eq, List.lookup_cons, List.lookup_nil, mresX_v, mresX_n, mresX_t, bd_t, bres_t, y_rO, y_dO, y_dA, yO_o, yO_n, dR_e, rOx_s, rOx_n, dAx_s, dAx_n, wup_s, wup_n, fup_s, fup_n, beq_self_eq_true, Nat.reduceBEq, Nat.reduceLT, Nat.reduceSub, x_aload_n0, x_callG1, x_istore_n1, x_iload_n1, x_dup, y_get, yGet_o, yLk_s, x_iconst, x_iadd, y_put, y_putF, yPut_o, yPk_s, x_new, x_i2c, x_callG4, x_areturn, x_istore_n2, x_iload_n2, x_callG2, x_astore_n3, x_isub, x_aload_n3, x_astore4, x_bipush, x_icmp_ne, x_goto, x_aload4, x_athrow, g0, k1, g1, g2, q2, q3, x_lookup 143 (show -2147483648 ≤ (61 : Int) ∧ (61 : Int) ≤ 2147483647 by decide) (show ((6 : Nat) : Int) + Op.lookupswitch.offset (#[(40, 195), (45, 167), (61, 137), (63, 246), (64, 246), (65, 112), (66, 112), (69, 137), (70, 90), (84, 90)] : Array (Int × Int)).toList 262 61 = ((143 : Nat) : Int) by decide), e1, j1, i1]
      · rw [FR_atom (q := q) (Or.inr (Or.inr ⟨by omega, ⟨hm, by omega⟩, ⟨hm', by omega⟩⟩))]
        exact ⟨⟨by omega, by omega⟩, F5, i2, i3, i4, i5⟩
  | @notD s p d q L hc hd =>
    intro N w z m hRI hR
    refine ⟨fun _ hN => ?_, fun z => absurd z (by decide), fun z => absurd z (by decide)⟩
    obtain ⟨hI, hL, hz, hδ⟩ := hRI
    have hp := hI.2.1
    have n800 := hI.2.2.1
    have hd0 := hI.2.2.2.1
    have hq0 := hI.2.2.2.2
    have sb := skp_b (T := T) hp.2
    obtain ⟨M, rfl⟩ : ∃ M, N = M + 1 := ⟨N - 1, by omega⟩
    obtain ⟨w1, k1, k2, k3⟩ := c_look (l := l) (δ := δ) (zz := (z, m)) hI hR
    obtain ⟨F0, g0, -⟩ := hR.ob
    obtain ⟨F1, g1, g2, g3, g4, g5⟩ := k2.ob
    rw [(lkv_e (c := 45) hI.1 (by omega) (by omega)).mpr hc] at k1
    have hI1 : RsI T n (skp T n p) d q := ⟨hI.1, ⟨by omega, by omega⟩, n800, hd0, hq0⟩
    obtain ⟨w2, F2, e1, e2, e3, e4⟩ := c_nest0 (l := l) (δ := δ) (m := m) hI1 k2 hz.1 hd
    refine thr_R (w1 := w1) (z1 := z) (m1 := m) ⟨w2, F2, ?_, e2, e3, e4⟩ (fun a a1 a2 a3 => k3 a a2) (by omega) (by omega) (by omega)
    rw [N_X4_part]; unfold B_X4_part
    simp (disch := first | rfl | exact okv_i | exact okv_o | exact okv_a | exact b_ft _ | (simp only [wt_c, wt_0, vc_i, vc_l, vc_r] <;> decide) | omega | exact i32_r _ | exact b2i_r _ | exact b2i_01 _ | exact zAnd_r _ _ | exact zOr_r _ _ | exact zXor_r _ _ | exact zShl_r _ _ | exact zShr_r _ _ | exact zByte_r _ | exact zcmp_r _ _ | decide) only [Bool.decide_eq_true, Bool.decide_eq_false, ↓if_pos, ↓if_neg, ↓reduceIte, Nat.reduceEqDiff, Int.reduceLE, Int.reduceLT, Int.reduceEq, Int.reduceNe, Nat.reduceBEq, Int.reduceAdd, Int.reduceMul, Int.reduceSub, Int.reduceNeg, Nat.reduceAdd, not_false_eq_true, not_true_eq_false, decide_true, decide_false, Bool.not_true, Bool.not_false, Bool.true_and, Bool.false_and, Bool.and_true, Bool.and_false, Bool.true_or, Bool.false_or, Bool.or_true, Bool.or_false, Bool.not_not, decide_not, Decidable.not_not, ite_not, b2i_t, b2i_f, ne_eq, Bool.not_eq_true, Bool.not_eq_false, decide_eq_true_eq, decide_eq_false_iff_not, Bool.false_eq_true, Bool.true_eq_false, reduceCtorEq, if_true, if_false, ite_self, ite_b0, ite_b1, ite_0b, ite_1b, ite_bb, x_done, x_blk, x_lp, x_er, erL_0, erL_t, erL_f, kl_n, kl_i, kl_r, kl_l, bd_i, bd_r, bk_i, bk_e, bk_n, bk_r, bd_ite, bk_ite, lk_i, lk_e, lk_n, lk_r, lk_ite, ite_nx, b2i_i, b2i_n, b2i_0, b2i_1, b2i_e, bres_r, bres_ite, mres_v, mres_n, sF_1, sF_2, sA_1, sA_2, zcmp_lt, zcmp_gt, zcmp_le, zcmp_ge, zcmp_eq, List.lookup_cons, List.lookup_nil, mresX_v, mresX_n, mresX_t, bd_t, bres_t, y_rO, y_dO, y_dA, yO_o, yO_n, dR_e, rOx_s, rOx_n, dAx_s, dAx_n, wup_s, wup_n, fup_s, fup_n, beq_self_eq_true, Nat.reduceBEq, Nat.reduceLT, Nat.reduceSub, x_aload_n0, x_callG1, x_istore_n1, x_iload_n1, x_dup, y_get, yGet_o, yLk_s, x_iconst, x_iadd, y_put, y_putF, yPut_o, yPk_s, x_new, x_i2c, x_callG4, x_areturn, x_istore_n2, x_iload_n2, x_callG2, x_astore_n3, x_isub, x_aload_n3, x_astore4, x_bipush, x_icmp_ne, x_goto, x_aload4, x_athrow, g0, k1, g1, x_lookup 173 (show -2147483648 ≤ (45 : Int) ∧ (45 : Int) ≤ 2147483647 by decide) (show ((6 : Nat) : Int) + Op.lookupswitch.offset (#[(40, 195), (45, 167), (61, 137), (63, 246), (64, 246), (65, 112), (66, 112), (69, 137), (70, 90), (84, 90)] : Array (Int × Int)).toList 262 45 = ((173 : Nat) : Int) by decide), e1]
  | @notE s p d q L e hc hd h ih =>
    intro N w z m hRI hR
    refine ⟨fun _ hN => ?_, fun z => absurd z (by decide), fun z => absurd z (by decide)⟩
    obtain ⟨hI, hL, hz, hδ⟩ := hRI
    have hp := hI.2.1
    have n800 := hI.2.2.1
    have hd0 := hI.2.2.2.1
    have hq0 := hI.2.2.2.2
    have sb := skp_b (T := T) hp.2
    obtain ⟨M, rfl⟩ : ∃ M, N = M + 1 := ⟨N - 1, by omega⟩
    obtain ⟨w1, k1, k2, k3⟩ := c_look (l := l) (δ := δ) (zz := (z, m)) hI hR
    obtain ⟨F0, g0, -⟩ := hR.ob
    obtain ⟨F1, g1, g2, g3, g4, g5⟩ := k2.ob
    rw [(lkv_e (c := 45) hI.1 (by omega) (by omega)).mpr hc] at k1
    have hI1 : RsI T n (skp T n p) d q := ⟨hI.1, ⟨by omega, by omega⟩, n800, hd0, hq0⟩
    have lt := chr_lt (T := T) (n := n) (a := skp T n p) (by rw [hc]; decide)
    obtain ⟨w2, n1, n2, n3⟩ := c_nest1 (l := l) (δ := δ) (zz := (z, m)) hI1 k2 hd
    have hI2 : RsI T n (skp T n p + 1) (d + 1) q := ⟨hI.1, ⟨by omega, by omega⟩, n800, ⟨by omega, by omega⟩, hq0⟩
    have fr2 : ∀ a, a ≠ ro → w2 a = w a := fun a ha => by rw [n3 a ha, k3 a ha]
    obtain ⟨F2, q2, -⟩ := n2.ob
    have hR3 : RS (wup w2 z (.inr (7, f0_7))) ro ta ll T n (skp T n p + 1) (d + 1) q L := n2.keep (wup_n (by omega)) (wup_n (by omega)) (wup_n (by omega))
    obtain ⟨F3, q3, -⟩ := hR3.ob
    have hx := (ih M (wup w2 z (.inr (7, f0_7))) (z + 1) (m + 1) ⟨hI2, hL, ⟨by omega, by omega, by omega⟩, by omega⟩ hR3).1 rfl (by omega)
    obtain ⟨w4, z4, m4, x4, F4, a1, a2, a3, a4, a5, a6, a7⟩ := hx
    refine ⟨w4, z4, m4, x4, F4, ?_, a2, a3, fun a b1 b2 b3 => by rw [a4 a (by omega) b2 b3, wup_n (by omega), fr2 a b2], by omega, by omega, by omega⟩
    rw [N_X4_part]; unfold B_X4_part
    simp (disch := first | rfl | exact okv_i | exact okv_o | exact okv_a | exact b_ft _ | (simp only [wt_c, wt_0, vc_i, vc_l, vc_r] <;> decide) | omega | exact i32_r _ | exact b2i_r _ | exact b2i_01 _ | exact zAnd_r _ _ | exact zOr_r _ _ | exact zXor_r _ _ | exact zShl_r _ _ | exact zShr_r _ _ | exact zByte_r _ | exact zcmp_r _ _ | decide) only [Bool.decide_eq_true, Bool.decide_eq_false, ↓if_pos, ↓if_neg, ↓reduceIte, Nat.reduceEqDiff, Int.reduceLE, Int.reduceLT, Int.reduceEq, Int.reduceNe, Nat.reduceBEq, Int.reduceAdd, Int.reduceMul, Int.reduceSub, Int.reduceNeg, Nat.reduceAdd, not_false_eq_true, not_true_eq_false, decide_true, decide_false, Bool.not_true, Bool.not_false, Bool.true_and, Bool.false_and, Bool.and_true, Bool.and_false, Bool.true_or, Bool.false_or, Bool.or_true, Bool.or_false, Bool.not_not, decide_not, Decidable.not_not, ite_not, b2i_t, b2i_f, ne_eq, Bool.not_eq_true, Bool.not_eq_false, decide_eq_true_eq, decide_eq_false_iff_not, Bool.false_eq_true, Bool.true_eq_false, reduceCtorEq, if_true, if_false, ite_self, ite_b0, ite_b1, ite_0b, ite_1b, ite_bb, x_done, x_blk, x_lp, x_er, erL_0, erL_t, erL_f, kl_n, kl_i, kl_r, kl_l, bd_i, bd_r, bk_i, bk_e, bk_n, bk_r, bd_ite, bk_ite, lk_i, lk_e, lk_n, lk_r, lk_ite, ite_nx, b2i_i, b2i_n, b2i_0, b2i_1, b2i_e, bres_r, bres_ite, mres_v, mres_n, sF_1, sF_2, sA_1, sA_2, zcmp_lt, zcmp_gt, zcmp_le, zcmp_ge, zcmp_eq, List.lookup_cons, List.lookup_nil, mresX_v, mresX_n, mresX_t, bd_t, bres_t, y_rO, y_dO, y_dA, yO_o, yO_n, dR_e, rOx_s, rOx_n, dAx_s, dAx_n, wup_s, wup_n, fup_s, fup_n, beq_self_eq_true, Nat.reduceBEq, Nat.reduceLT, Nat.reduceSub, x_aload_n0, x_callG1, x_istore_n1, x_iload_n1, x_dup, y_get, yGet_o, yLk_s, x_iconst, x_iadd, y_put, y_putF, yPut_o, yPk_s, x_new, x_i2c, x_callG4, x_areturn, x_istore_n2, x_iload_n2, x_callG2, x_astore_n3, x_isub, x_aload_n3, x_astore4, x_bipush, x_icmp_ne, x_goto, x_aload4, x_athrow, g0, k1, g1, q2, q3, x_lookup 173 (show -2147483648 ≤ (45 : Int) ∧ (45 : Int) ≤ 2147483647 by decide) (show ((6 : Nat) : Int) + Op.lookupswitch.offset (#[(40, 195), (45, 167), (61, 137), (63, 246), (64, 246), (65, 112), (66, 112), (69, 137), (70, 90), (84, 90)] : Array (Int × Int)).toList 262 45 = ((173 : Nat) : Int) by decide), n1, a1]
  | @notF s p d q L f x hc hd h ih =>
    intro N w z m hRI hR
    refine ⟨fun _ hN => ?_, fun z => absurd z (by decide), fun z => absurd z (by decide)⟩
    obtain ⟨hI, hL, hz, hδ⟩ := hRI
    have hp := hI.2.1
    have n800 := hI.2.2.1
    have hd0 := hI.2.2.2.1
    have hq0 := hI.2.2.2.2
    have sb := skp_b (T := T) hp.2
    obtain ⟨M, rfl⟩ : ∃ M, N = M + 1 := ⟨N - 1, by omega⟩
    obtain ⟨w1, k1, k2, k3⟩ := c_look (l := l) (δ := δ) (zz := (z, m)) hI hR
    obtain ⟨F0, g0, -⟩ := hR.ob
    obtain ⟨F1, g1, g2, g3, g4, g5⟩ := k2.ob
    rw [(lkv_e (c := 45) hI.1 (by omega) (by omega)).mpr hc] at k1
    have hI1 : RsI T n (skp T n p) d q := ⟨hI.1, ⟨by omega, by omega⟩, n800, hd0, hq0⟩
    have lt := chr_lt (T := T) (n := n) (a := skp T n p) (by rw [hc]; decide)
    obtain ⟨w2, n1, n2, n3⟩ := c_nest1 (l := l) (δ := δ) (zz := (z, m)) hI1 k2 hd
    have hI2 : RsI T n (skp T n p + 1) (d + 1) q := ⟨hI.1, ⟨by omega, by omega⟩, n800, ⟨by omega, by omega⟩, hq0⟩
    have fr2 : ∀ a, a ≠ ro → w2 a = w a := fun a ha => by rw [n3 a ha, k3 a ha]
    obtain ⟨F2, q2, -⟩ := n2.ob
    have hR3 : RS (wup w2 z (.inr (7, f0_7))) ro ta ll T n (skp T n p + 1) (d + 1) q L := n2.keep (wup_n (by omega)) (wup_n (by omega)) (wup_n (by omega))
    obtain ⟨F3, q3, -⟩ := hR3.ob
    have hx := (ih M (wup w2 z (.inr (7, f0_7))) (z + 1) (m + 1) ⟨hI2, hL, ⟨by omega, by omega, by omega⟩, by omega⟩ hR3).1 rfl (by omega)
    obtain ⟨w4, z4, m4, r4, a1, a2, a3, a4, a5, a6, a7⟩ := hx
    have e4 : w4 z = some (.inr (7, f0_7)) := by rw [a5 z (by omega) (by omega) (by omega), wup_s]
    obtain ⟨w5, F5, i1, i2, i3, i4⟩ := c_notI (l := l) (δ := δ) (w := w4) (r := z) (p := r4) (zz := (z4, m4)) e4
    have hR5 : RS w5 ro ta ll T n x (d + 1) q L := a2.keep (i4 ro (by omega)) (i4 ta (by omega)) (i4 ll (by omega))
    obtain ⟨F6, q6, q62, q63, -⟩ := hR5.ob
    obtain ⟨b1, b2, b3, -⟩ := h.b (by omega) hq0.1 hq0.2 (by omega) hL
    refine ⟨wup w5 ro (.inr (4, fup F6 3 (.inl d))), z4, m4, z, ?_, hR5.dp q6 d, ?_, ⟨by omega, by omega⟩, fun a c1 c2 c3 => by rw [wup_n c2, i4 a (by omega), a5 a (by omega) c2 c3, wup_n (by omega), fr2 a c2], by omega, by omega⟩
    · rw [N_X4_part]; unfold B_X4_part
      simp (disch := first | rfl | exact okv_i | exact okv_o | exact okv_a | exact b_ft _ | (simp only [wt_c, wt_0, vc_i, vc_l, vc_r] <;> decide) | omega | exact i32_r _ | exact b2i_r _ | exact b2i_01 _ | exact zAnd_r _ _ | exact zOr_r _ _ | exact zXor_r _ _ | exact zShl_r _ _ | exact zShr_r _ _ | exact zByte_r _ | exact zcmp_r _ _ | decide) only [Bool.decide_eq_true, Bool.decide_eq_false, ↓if_pos, ↓if_neg, ↓reduceIte, Nat.reduceEqDiff, Int.reduceLE, Int.reduceLT, Int.reduceEq, Int.reduceNe, Nat.reduceBEq, Int.reduceAdd, Int.reduceMul, Int.reduceSub, Int.reduceNeg, Nat.reduceAdd, not_false_eq_true, not_true_eq_false, decide_true, decide_false, Bool.not_true, Bool.not_false, Bool.true_and, Bool.false_and, Bool.and_true, Bool.and_false, Bool.true_or, Bool.false_or, Bool.or_true, Bool.or_false, Bool.not_not, decide_not, Decidable.not_not, ite_not, b2i_t, b2i_f, ne_eq, Bool.not_eq_true, Bool.not_eq_false, decide_eq_true_eq, decide_eq_false_iff_not, Bool.false_eq_true, Bool.true_eq_false, reduceCtorEq, if_true, if_false, ite_self, ite_b0, ite_b1, ite_0b, ite_1b, ite_bb, x_done, x_blk, x_lp, x_er, erL_0, erL_t, erL_f, kl_n, kl_i, kl_r, kl_l, bd_i, bd_r, bk_i, bk_e, bk_n, bk_r, bd_ite, bk_ite, lk_i, lk_e, lk_n, lk_r, lk_ite, ite_nx, b2i_i, b2i_n, b2i_0, b2i_1, b2i_e, bres_r, bres_ite, mres_v, mres_n, sF_1, sF_2, sA_1, sA_2, zcmp_lt, zcmp_gt, zcmp_le, zcmp_ge, zcmp_eq, List.lookup_cons, List.lookup_nil, mresX_v, mresX_n, mresX_t, bd_t, bres_t, y_rO, y_dO, y_dA, yO_o, yO_n, dR_e, rOx_s, rOx_n, dAx_s, dAx_n, wup_s, wup_n, fup_s, fup_n, beq_self_eq_true, Nat.reduceBEq, Nat.reduceLT, Nat.reduceSub, x_aload_n0, x_callG1, x_istore_n1, x_iload_n1, x_dup, y_get, yGet_o, yLk_s, x_iconst, x_iadd, y_put, y_putF, yPut_o, yPk_s, x_new, x_i2c, x_callG4, x_areturn, x_istore_n2, x_iload_n2, x_callG2, x_astore_n3, x_isub, x_aload_n3, x_astore4, x_bipush, x_icmp_ne, x_goto, x_aload4, x_athrow, g0, k1, g1, q2, q3, q6, q63, Int.add_sub_cancel, x_lookup 173 (show -2147483648 ≤ (45 : Int) ∧ (45 : Int) ≤ 2147483647 by decide) (show ((6 : Nat) : Int) + Op.lookupswitch.offset (#[(40, 195), (45, 167), (61, 137), (63, 246), (64, 246), (65, 112), (66, 112), (69, 137), (70, 90), (84, 90)] : Array (Int × Int)).toList 262 45 = ((173 : Nat) : Int) by decide), n1, a1, i1]
    · rw [FR_not]
      refine ⟨⟨by omega, by omega⟩, F5, r4, by rw [wup_n (by omega)]; exact i2, i3, FR.mono (fun a ha => ⟨⟨by omega, ha.2⟩, ?_⟩) b3 _ _ _ a3⟩
      rw [wup_n (by omega), i4 a (by omega)]
  | @parD s p d q L hc hd =>
    intro N w z m hRI hR
    refine ⟨fun _ hN => ?_, fun z => absurd z (by decide), fun z => absurd z (by decide)⟩
    obtain ⟨hI, hL, hz, hδ⟩ := hRI
    have hp := hI.2.1
    have n800 := hI.2.2.1
    have hd0 := hI.2.2.2.1
    have hq0 := hI.2.2.2.2
    have sb := skp_b (T := T) hp.2
    obtain ⟨M, rfl⟩ : ∃ M, N = M + 1 := ⟨N - 1, by omega⟩
    obtain ⟨w1, k1, k2, k3⟩ := c_look (l := l) (δ := δ) (zz := (z, m)) hI hR
    obtain ⟨F0, g0, -⟩ := hR.ob
    obtain ⟨F1, g1, g2, g3, g4, g5⟩ := k2.ob
    rw [(lkv_e (c := 40) hI.1 (by omega) (by omega)).mpr hc] at k1
    have hI1 : RsI T n (skp T n p) d q := ⟨hI.1, ⟨by omega, by omega⟩, n800, hd0, hq0⟩
    obtain ⟨w2, F2, e1, e2, e3, e4⟩ := c_nest0 (l := l) (δ := δ) (m := m) hI1 k2 hz.1 hd
    refine thr_R (w1 := w1) (z1 := z) (m1 := m) ⟨w2, F2, ?_, e2, e3, e4⟩ (fun a a1 a2 a3 => k3 a a2) (by omega) (by omega) (by omega)
    rw [N_X4_part]; unfold B_X4_part
    simp (disch := first | rfl | exact okv_i | exact okv_o | exact okv_a | exact b_ft _ | (simp only [wt_c, wt_0, vc_i, vc_l, vc_r] <;> decide) | omega | exact i32_r _ | exact b2i_r _ | exact b2i_01 _ | exact zAnd_r _ _ | exact zOr_r _ _ | exact zXor_r _ _ | exact zShl_r _ _ | exact zShr_r _ _ | exact zByte_r _ | exact zcmp_r _ _ | decide) only [Bool.decide_eq_true, Bool.decide_eq_false, ↓if_pos, ↓if_neg, ↓reduceIte, Nat.reduceEqDiff, Int.reduceLE, Int.reduceLT, Int.reduceEq, Int.reduceNe, Nat.reduceBEq, Int.reduceAdd, Int.reduceMul, Int.reduceSub, Int.reduceNeg, Nat.reduceAdd, not_false_eq_true, not_true_eq_false, decide_true, decide_false, Bool.not_true, Bool.not_false, Bool.true_and, Bool.false_and, Bool.and_true, Bool.and_false, Bool.true_or, Bool.false_or, Bool.or_true, Bool.or_false, Bool.not_not, decide_not, Decidable.not_not, ite_not, b2i_t, b2i_f, ne_eq, Bool.not_eq_true, Bool.not_eq_false, decide_eq_true_eq, decide_eq_false_iff_not, Bool.false_eq_true, Bool.true_eq_false, reduceCtorEq, if_true, if_false, ite_self, ite_b0, ite_b1, ite_0b, ite_1b, ite_bb, x_done, x_blk, x_lp, x_er, erL_0, erL_t, erL_f, kl_n, kl_i, kl_r, kl_l, bd_i, bd_r, bk_i, bk_e, bk_n, bk_r, bd_ite, bk_ite, lk_i, lk_e, lk_n, lk_r, lk_ite, ite_nx, b2i_i, b2i_n, b2i_0, b2i_1, b2i_e, bres_r, bres_ite, mres_v, mres_n, sF_1, sF_2, sA_1, sA_2, zcmp_lt, zcmp_gt, zcmp_le, zcmp_ge, zcmp_eq, List.lookup_cons, List.lookup_nil, mresX_v, mresX_n, mresX_t, bd_t, bres_t, y_rO, y_dO, y_dA, yO_o, yO_n, dR_e, rOx_s, rOx_n, dAx_s, dAx_n, wup_s, wup_n, fup_s, fup_n, beq_self_eq_true, Nat.reduceBEq, Nat.reduceLT, Nat.reduceSub, x_aload_n0, x_callG1, x_istore_n1, x_iload_n1, x_dup, y_get, yGet_o, yLk_s, x_iconst, x_iadd, y_put, y_putF, yPut_o, yPk_s, x_new, x_i2c, x_callG4, x_areturn, x_istore_n2, x_iload_n2, x_callG2, x_astore_n3, x_isub, x_aload_n3, x_astore4, x_bipush, x_icmp_ne, x_goto, x_aload4, x_athrow, g0, k1, g1, x_lookup 201 (show -2147483648 ≤ (40 : Int) ∧ (40 : Int) ≤ 2147483647 by decide) (show ((6 : Nat) : Int) + Op.lookupswitch.offset (#[(40, 195), (45, 167), (61, 137), (63, 246), (64, 246), (65, 112), (66, 112), (69, 137), (70, 90), (84, 90)] : Array (Int × Int)).toList 262 40 = ((201 : Nat) : Int) by decide), e1]
  | @parE s p d q L e hc hd h ih =>
    intro N w z m hRI hR
    refine ⟨fun _ hN => ?_, fun z => absurd z (by decide), fun z => absurd z (by decide)⟩
    obtain ⟨hI, hL, hz, hδ⟩ := hRI
    have hp := hI.2.1
    have n800 := hI.2.2.1
    have hd0 := hI.2.2.2.1
    have hq0 := hI.2.2.2.2
    have sb := skp_b (T := T) hp.2
    obtain ⟨M, rfl⟩ : ∃ M, N = M + 1 := ⟨N - 1, by omega⟩
    obtain ⟨w1, k1, k2, k3⟩ := c_look (l := l) (δ := δ) (zz := (z, m)) hI hR
    obtain ⟨F0, g0, -⟩ := hR.ob
    obtain ⟨F1, g1, g2, g3, g4, g5⟩ := k2.ob
    rw [(lkv_e (c := 40) hI.1 (by omega) (by omega)).mpr hc] at k1
    have hI1 : RsI T n (skp T n p) d q := ⟨hI.1, ⟨by omega, by omega⟩, n800, hd0, hq0⟩
    have lt := chr_lt (T := T) (n := n) (a := skp T n p) (by rw [hc]; decide)
    obtain ⟨w2, n1, n2, n3⟩ := c_nest1 (l := l) (δ := δ) (zz := (z, m)) hI1 k2 hd
    have hI2 : RsI T n (skp T n p + 1) (d + 1) q := ⟨hI.1, ⟨by omega, by omega⟩, n800, ⟨by omega, by omega⟩, hq0⟩
    have fr2 : ∀ a, a ≠ ro → w2 a = w a := fun a ha => by rw [n3 a ha, k3 a ha]
    obtain ⟨F2, q2, -⟩ := n2.ob
    have hx := (ih M w2 z m ⟨hI2, hL, hz, hδ⟩ n2).2.1 rfl (by omega)
    obtain ⟨w4, z4, m4, x4, F4, a1, a2, a3, a4, a5, a6, a7⟩ := hx
    refine ⟨w4, z4, m4, x4, F4, ?_, a2, a3, fun a b1 b2 b3 => by rw [a4 a b1 b2 b3, fr2 a b2], by omega, by omega, by omega⟩
    rw [N_X4_part]; unfold B_X4_part
    simp (disch := first | rfl | exact okv_i | exact okv_o | exact okv_a | exact b_ft _ | (simp only [wt_c, wt_0, vc_i, vc_l, vc_r] <;> decide) | omega | exact i32_r _ | exact b2i_r _ | exact b2i_01 _ | exact zAnd_r _ _ | exact zOr_r _ _ | exact zXor_r _ _ | exact zShl_r _ _ | exact zShr_r _ _ | exact zByte_r _ | exact zcmp_r _ _ | decide) only [Bool.decide_eq_true, Bool.decide_eq_false, ↓if_pos, ↓if_neg, ↓reduceIte, Nat.reduceEqDiff, Int.reduceLE, Int.reduceLT, Int.reduceEq, Int.reduceNe, Nat.reduceBEq, Int.reduceAdd, Int.reduceMul, Int.reduceSub, Int.reduceNeg, Nat.reduceAdd, not_false_eq_true, not_true_eq_false, decide_true, decide_false, Bool.not_true, Bool.not_false, Bool.true_and, Bool.false_and, Bool.and_true, Bool.and_false, Bool.true_or, Bool.false_or, Bool.or_true, Bool.or_false, Bool.not_not, decide_not, Decidable.not_not, ite_not, b2i_t, b2i_f, ne_eq, Bool.not_eq_true, Bool.not_eq_false, decide_eq_true_eq, decide_eq_false_iff_not, Bool.false_eq_true, Bool.true_eq_false, reduceCtorEq, if_true, if_false, ite_self, ite_b0, ite_b1, ite_0b, ite_1b, ite_bb, x_done, x_blk, x_lp, x_er, erL_0, erL_t, erL_f, kl_n, kl_i, kl_r, kl_l, bd_i, bd_r, bk_i, bk_e, bk_n, bk_r, bd_ite, bk_ite, lk_i, lk_e, lk_n, lk_r, lk_ite, ite_nx, b2i_i, b2i_n, b2i_0, b2i_1, b2i_e, bres_r, bres_ite, mres_v, mres_n, sF_1, sF_2, sA_1, sA_2, zcmp_lt, zcmp_gt, zcmp_le, zcmp_ge, zcmp_eq, List.lookup_cons, List.lookup_nil, mresX_v, mresX_n, mresX_t, bd_t, bres_t, y_rO, y_dO, y_dA, yO_o, yO_n, dR_e, rOx_s, rOx_n, dAx_s, dAx_n, wup_s, wup_n, fup_s, fup_n, beq_self_eq_true, Nat.reduceBEq, Nat.reduceLT, Nat.reduceSub, x_aload_n0, x_callG1, x_istore_n1, x_iload_n1, x_dup, y_get, yGet_o, yLk_s, x_iconst, x_iadd, y_put, y_putF, yPut_o, yPk_s, x_new, x_i2c, x_callG4, x_areturn, x_istore_n2, x_iload_n2, x_callG2, x_astore_n3, x_isub, x_aload_n3, x_astore4, x_bipush, x_icmp_ne, x_goto, x_aload4, x_athrow, g0, k1, g1, q2, x_lookup 201 (show -2147483648 ≤ (40 : Int) ∧ (40 : Int) ≤ 2147483647 by decide) (show ((6 : Nat) : Int) + Op.lookupswitch.offset (#[(40, 195), (45, 167), (61, 137), (63, 246), (64, 246), (65, 112), (66, 112), (69, 137), (70, 90), (84, 90)] : Array (Int × Int)).toList 262 40 = ((201 : Nat) : Int) by decide), n1, a1]
  | @parB s p d q L f x hc hd h hx0 ih =>
    intro N w z m hRI hR
    refine ⟨fun _ hN => ?_, fun z => absurd z (by decide), fun z => absurd z (by decide)⟩
    obtain ⟨hI, hL, hz, hδ⟩ := hRI
    have hp := hI.2.1
    have n800 := hI.2.2.1
    have hd0 := hI.2.2.2.1
    have hq0 := hI.2.2.2.2
    have sb := skp_b (T := T) hp.2
    obtain ⟨M, rfl⟩ : ∃ M, N = M + 1 := ⟨N - 1, by omega⟩
    obtain ⟨w1, k1, k2, k3⟩ := c_look (l := l) (δ := δ) (zz := (z, m)) hI hR
    obtain ⟨F0, g0, -⟩ := hR.ob
    obtain ⟨F1, g1, g2, g3, g4, g5⟩ := k2.ob
    rw [(lkv_e (c := 40) hI.1 (by omega) (by omega)).mpr hc] at k1
    have hI1 : RsI T n (skp T n p) d q := ⟨hI.1, ⟨by omega, by omega⟩, n800, hd0, hq0⟩
    have lt := chr_lt (T := T) (n := n) (a := skp T n p) (by rw [hc]; decide)
    obtain ⟨w2, n1, n2, n3⟩ := c_nest1 (l := l) (δ := δ) (zz := (z, m)) hI1 k2 hd
    have hI2 : RsI T n (skp T n p + 1) (d + 1) q := ⟨hI.1, ⟨by omega, by omega⟩, n800, ⟨by omega, by omega⟩, hq0⟩
    have fr2 : ∀ a, a ≠ ro → w2 a = w a := fun a ha => by rw [n3 a ha, k3 a ha]
    obtain ⟨F2, q2, -⟩ := n2.ob
    have hx := (ih M w2 z m ⟨hI2, hL, hz, hδ⟩ n2).2.1 rfl (by omega)
    obtain ⟨w4, z4, m4, r4, a1, a2, a3, a4, a5, a6, a7⟩ := hx
    obtain ⟨b1, b2, b3, -, b4, -⟩ := h.b (by omega) hq0.1 hq0.2 (by omega) hL
    obtain ⟨b4, b5, -⟩ := b4 rfl
    have hI4 : RsI T n x (d + 1) q := ⟨hI.1, ⟨by omega, by omega⟩, n800, ⟨by omega, by omega⟩, hq0⟩
    obtain ⟨w5, l1, l2, l3⟩ := c_look (l := l) (δ := δ) (zz := (z4, m4)) hI4 a2
    rw [b5] at l1 l2
    obtain ⟨F4, q4, -⟩ := a2.ob
    obtain ⟨F5, q5, q52, q53, -⟩ := l2.ob
    have lr := lkv_r (n := n) (a := x) hI.1 (by omega)
    have ln : ¬ lkv T n x = 41 := fun e => hx0 ((lkv_e hI.1 (by omega) (by decide)).mp e)
    obtain ⟨w6, F6, e1, e2, e3, e4⟩ := c_want0 (l := l) (δ := δ) (z := z4) (m := m4) l2 (by omega)
    refine thr_R (w1 := w5) (z1 := z4) (m1 := m4) ⟨w6, F6, ?_, e2, e3, e4⟩ (fun a c1 c2 c3 => by rw [l3 a c2, a5 a c1 c2 c3, fr2 a c2]) (by omega) (by omega) (by omega)
    rw [N_X4_part]; unfold B_X4_part
    simp (disch := first | rfl | exact okv_i | exact okv_o | exact okv_a | exact b_ft _ | (simp only [wt_c, wt_0, vc_i, vc_l, vc_r] <;> decide) | omega | exact i32_r _ | exact b2i_r _ | exact b2i_01 _ | exact zAnd_r _ _ | exact zOr_r _ _ | exact zXor_r _ _ | exact zShl_r _ _ | exact zShr_r _ _ | exact zByte_r _ | exact zcmp_r _ _ | decide) only [Bool.decide_eq_true, Bool.decide_eq_false, ↓if_pos, ↓if_neg, ↓reduceIte, Nat.reduceEqDiff, Int.reduceLE, Int.reduceLT, Int.reduceEq, Int.reduceNe, Nat.reduceBEq, Int.reduceAdd, Int.reduceMul, Int.reduceSub, Int.reduceNeg, Nat.reduceAdd, not_false_eq_true, not_true_eq_false, decide_true, decide_false, Bool.not_true, Bool.not_false, Bool.true_and, Bool.false_and, Bool.and_true, Bool.and_false, Bool.true_or, Bool.false_or, Bool.or_true, Bool.or_false, Bool.not_not, decide_not, Decidable.not_not, ite_not, b2i_t, b2i_f, ne_eq, Bool.not_eq_true, Bool.not_eq_false, decide_eq_true_eq, decide_eq_false_iff_not, Bool.false_eq_true, Bool.true_eq_false, reduceCtorEq, if_true, if_false, ite_self, ite_b0, ite_b1, ite_0b, ite_1b, ite_bb, x_done, x_blk, x_lp, x_er, erL_0, erL_t, erL_f, kl_n, kl_i, kl_r, kl_l, bd_i, bd_r, bk_i, bk_e, bk_n, bk_r, bd_ite, bk_ite, lk_i, lk_e, lk_n, lk_r, lk_ite, ite_nx, b2i_i, b2i_n, b2i_0, b2i_1, b2i_e, bres_r, bres_ite, mres_v, mres_n, sF_1, sF_2, sA_1, sA_2, zcmp_lt, zcmp_gt, zcmp_le, zcmp_ge, zcmp_eq, List.lookup_cons, List.lookup_nil, mresX_v, mresX_n, mresX_t, bd_t, bres_t, y_rO, y_dO, y_dA, yO_o, yO_n, dR_e, rOx_s, rOx_n, dAx_s, dAx_n, wup_s, wup_n, fup_s, fup_n, beq_self_eq_true, Nat.reduceBEq, Nat.reduceLT, Nat.reduceSub, x_aload_n0, x_callG1, x_istore_n1, x_iload_n1, x_dup, y_get, yGet_o, yLk_s, x_iconst, x_iadd, y_put, y_putF, yPut_o, yPk_s, x_new, x_i2c, x_callG4, x_areturn, x_istore_n2, x_iload_n2, x_callG2, x_astore_n3, x_isub, x_aload_n3, x_astore4, x_bipush, x_icmp_ne, x_goto, x_aload4, x_athrow, g0, k1, g1, q2, q4, q5, x_lookup 201 (show -2147483648 ≤ (40 : Int) ∧ (40 : Int) ≤ 2147483647 by decide) (show ((6 : Nat) : Int) + Op.lookupswitch.offset (#[(40, 195), (45, 167), (61, 137), (63, 246), (64, 246), (65, 112), (66, 112), (69, 137), (70, 90), (84, 90)] : Array (Int × Int)).toList 262 40 = ((201 : Nat) : Int) by decide), n1, a1, l1, e1]
  | @parF s p d q L f x hc hd h hx0 ih =>
    intro N w z m hRI hR
    refine ⟨fun _ hN => ?_, fun z => absurd z (by decide), fun z => absurd z (by decide)⟩
    obtain ⟨hI, hL, hz, hδ⟩ := hRI
    have hp := hI.2.1
    have n800 := hI.2.2.1
    have hd0 := hI.2.2.2.1
    have hq0 := hI.2.2.2.2
    have sb := skp_b (T := T) hp.2
    obtain ⟨M, rfl⟩ : ∃ M, N = M + 1 := ⟨N - 1, by omega⟩
    obtain ⟨w1, k1, k2, k3⟩ := c_look (l := l) (δ := δ) (zz := (z, m)) hI hR
    obtain ⟨F0, g0, -⟩ := hR.ob
    obtain ⟨F1, g1, g2, g3, g4, g5⟩ := k2.ob
    rw [(lkv_e (c := 40) hI.1 (by omega) (by omega)).mpr hc] at k1
    have hI1 : RsI T n (skp T n p) d q := ⟨hI.1, ⟨by omega, by omega⟩, n800, hd0, hq0⟩
    have lt := chr_lt (T := T) (n := n) (a := skp T n p) (by rw [hc]; decide)
    obtain ⟨w2, n1, n2, n3⟩ := c_nest1 (l := l) (δ := δ) (zz := (z, m)) hI1 k2 hd
    have hI2 : RsI T n (skp T n p + 1) (d + 1) q := ⟨hI.1, ⟨by omega, by omega⟩, n800, ⟨by omega, by omega⟩, hq0⟩
    have fr2 : ∀ a, a ≠ ro → w2 a = w a := fun a ha => by rw [n3 a ha, k3 a ha]
    obtain ⟨F2, q2, -⟩ := n2.ob
    have hx := (ih M w2 z m ⟨hI2, hL, hz, hδ⟩ n2).2.1 rfl (by omega)
    obtain ⟨w4, z4, m4, r4, a1, a2, a3, a4, a5, a6, a7⟩ := hx
    obtain ⟨b1, b2, b3, -, b4, -⟩ := h.b (by omega) hq0.1 hq0.2 (by omega) hL
    obtain ⟨b4, b5, -⟩ := b4 rfl
    have hI4 : RsI T n x (d + 1) q := ⟨hI.1, ⟨by omega, by omega⟩, n800, ⟨by omega, by omega⟩, hq0⟩
    obtain ⟨w5, l1, l2, l3⟩ := c_look (l := l) (δ := δ) (zz := (z4, m4)) hI4 a2
    rw [b5] at l1 l2
    obtain ⟨F4, q4, -⟩ := a2.ob
    obtain ⟨F5, q5, q52, q53, -⟩ := l2.ob
    rw [(lkv_e (c := 41) hI.1 (by omega) (by decide)).mpr hx0] at l1
    have ltx := chr_lt (T := T) (n := n) (a := x) (by rw [hx0]; decide)
    have hR6 := l2.at q5 (x + 1)
    have hR7 := hR6.dp wup_s d
    refine ⟨_, z4, m4, r4, ?_, hR7, FR.mono (fun a ha => ⟨ha, ?_⟩) b3 _ _ _ a3, a4, fun a c1 c2 c3 => by rw [wup_n c2, wup_n c2, l3 a c2, a5 a c1 c2 c3, fr2 a c2], by omega, by omega⟩
    · rw [N_X4_part]; unfold B_X4_part
      simp (disch := first | rfl | exact okv_i | exact okv_o | exact okv_a | exact b_ft _ | (simp only [wt_c, wt_0, vc_i, vc_l, vc_r] <;> decide) | omega | exact i32_r _ | exact b2i_r _ | exact b2i_01 _ | exact zAnd_r _ _ | exact zOr_r _ _ | exact zXor_r _ _ | exact zShl_r _ _ | exact zShr_r _ _ | exact zByte_r _ | exact zcmp_r _ _ | decide) only [Bool.decide_eq_true, Bool.decide_eq_false, ↓if_pos, ↓if_neg, ↓reduceIte, Nat.reduceEqDiff, Int.reduceLE, Int.reduceLT, Int.reduceEq, Int.reduceNe, Nat.reduceBEq, Int.reduceAdd, Int.reduceMul, Int.reduceSub, Int.reduceNeg, Nat.reduceAdd, not_false_eq_true, not_true_eq_false, decide_true, decide_false, Bool.not_true, Bool.not_false, Bool.true_and, Bool.false_and, Bool.and_true, Bool.and_false, Bool.true_or, Bool.false_or, Bool.or_true, Bool.or_false, Bool.not_not, decide_not, Decidable.not_not, ite_not, b2i_t, b2i_f, ne_eq, Bool.not_eq_true, Bool.not_eq_false, decide_eq_true_eq, decide_eq_false_iff_not, Bool.false_eq_true, Bool.true_eq_false, reduceCtorEq, if_true, if_false, ite_self, ite_b0, ite_b1, ite_0b, ite_1b, ite_bb, x_done, x_blk, x_lp, x_er, erL_0, erL_t, erL_f, kl_n, kl_i, kl_r, kl_l, bd_i, bd_r, bk_i, bk_e, bk_n, bk_r, bd_ite, bk_ite, lk_i, lk_e, lk_n, lk_r, lk_ite, ite_nx, b2i_i, b2i_n, b2i_0, b2i_1, b2i_e, bres_r, bres_ite, mres_v, mres_n, sF_1, sF_2, sA_1, sA_2, zcmp_lt, zcmp_gt, zcmp_le, zcmp_ge, zcmp_eq, List.lookup_cons, List.lookup_nil, mresX_v, mresX_n, mresX_t, bd_t, bres_t, y_rO, y_dO, y_dA, yO_o, yO_n, dR_e, rOx_s, rOx_n, dAx_s, dAx_n, wup_s, wup_n, fup_s, fup_n, beq_self_eq_true, Nat.reduceBEq, Nat.reduceLT, Nat.reduceSub, x_aload_n0, x_callG1, x_istore_n1, x_iload_n1, x_dup, y_get, yGet_o, yLk_s, x_iconst, x_iadd, y_put, y_putF, yPut_o, yPk_s, x_new, x_i2c, x_callG4, x_areturn, x_istore_n2, x_iload_n2, x_callG2, x_astore_n3, x_isub, x_aload_n3, x_astore4, x_bipush, x_icmp_ne, x_goto, x_aload4, x_athrow, g0, k1, g1, q2, q4, q5, q52, q53, Int.add_sub_cancel, x_lookup 201 (show -2147483648 ≤ (40 : Int) ∧ (40 : Int) ≤ 2147483647 by decide) (show ((6 : Nat) : Int) + Op.lookupswitch.offset (#[(40, 195), (45, 167), (61, 137), (63, 246), (64, 246), (65, 112), (66, 112), (69, 137), (70, 90), (84, 90)] : Array (Int × Int)).toList 262 40 = ((201 : Nat) : Int) by decide), n1, a1, l1, c_want1]
    · rw [wup_n (by omega), wup_n (by omega), l3 a (by omega)]
  | @eacD s p d q L a hc hdn =>
    intro N w z m hRI hR
    refine ⟨fun _ hN => ?_, fun z => absurd z (by decide), fun z => absurd z (by decide)⟩
    obtain ⟨hI, hL, hz, hδ⟩ := hRI
    have hp := hI.2.1
    have n800 := hI.2.2.1
    have hd0 := hI.2.2.2.1
    have hq0 := hI.2.2.2.2
    have sb := skp_b (T := T) hp.2
    obtain ⟨M, rfl⟩ : ∃ M, N = M + 1 := ⟨N - 1, by omega⟩
    obtain ⟨w1, k1, k2, k3⟩ := c_look (l := l) (δ := δ) (zz := (z, m)) hI hR
    obtain ⟨F0, g0, -⟩ := hR.ob
    obtain ⟨F1, g1, g2, g3, g4, g5⟩ := k2.ob
    cases a with
    | true =>
      rw [(lkv_e (c := 64) hI.1 (by omega) (by omega)).mpr hc] at k1
      have hI1 : RsI T n (skp T n p) d q := ⟨hI.1, ⟨by omega, by omega⟩, n800, hd0, hq0⟩
      obtain ⟨K, rfl⟩ : ∃ K, M = K + 1 := ⟨M - 1, by omega⟩
      have he : Thr w1 z m (skp T n p) ((R_rea l δ (K + 1)).2.1.1 [.inr (.inr (some ro)), .inl 1] (w1, z, m)) := by
        by_cases hq : q < 8
        · obtain ⟨w2, F2, e1, e2, e3, e4⟩ := c_nest0 (l := l) (δ := δ) (m := m) hI1 k2 hz.1 (fun hd => hdn ⟨hq, hd⟩)
          refine ⟨w2, F2, ?_, e2, e3, e4⟩
          rw [N_X4_each]; unfold B_X4_each
          simp (disch := first | rfl | exact okv_i | exact okv_o | exact okv_a | exact b_ft _ | (simp only [wt_c, wt_0, vc_i, vc_l, vc_r] <;> decide) | omega | exact i32_r _ | exact b2i_r _ | exact b2i_01 _ | exact zAnd_r _ _ | exact zOr_r _ _ | exact zXor_r _ _ | exact zShl_r _ _ | exact zShr_r _ _ | exact zByte_r _ | exact zcmp_r _ _ | decide) only [Bool.decide_eq_true, Bool.decide_eq_false, ↓if_pos, ↓if_neg, ↓reduceIte, Nat.reduceEqDiff, Int.reduceLE, Int.reduceLT, Int.reduceEq, Int.reduceNe, Nat.reduceBEq, Int.reduceAdd, Int.reduceMul, Int.reduceSub, Int.reduceNeg, Nat.reduceAdd, not_false_eq_true, not_true_eq_false, decide_true, decide_false, Bool.not_true, Bool.not_false, Bool.true_and, Bool.false_and, Bool.and_true, Bool.and_false, Bool.true_or, Bool.false_or, Bool.or_true, Bool.or_false, Bool.not_not, decide_not, Decidable.not_not, ite_not, b2i_t, b2i_f, ne_eq, Bool.not_eq_true, Bool.not_eq_false, decide_eq_true_eq, decide_eq_false_iff_not, Bool.false_eq_true, Bool.true_eq_false, reduceCtorEq, if_true, if_false, ite_self, ite_b0, ite_b1, ite_0b, ite_1b, ite_bb, x_done, x_blk, x_lp, x_er, erL_0, erL_t, erL_f, kl_n, kl_i, kl_r, kl_l, bd_i, bd_r, bk_i, bk_e, bk_n, bk_r, bd_ite, bk_ite, lk_i, lk_e, lk_n, lk_r, lk_ite, ite_nx, b2i_i, b2i_n, b2i_0, b2i_1, b2i_e, bres_r, bres_ite, mres_v, mres_n, sF_1, sF_2, sA_1, sA_2, zcmp_lt, zcmp_gt, zcmp_le, zcmp_ge, zcmp_eq, List.lookup_cons, List.lookup_nil, mresX_v, mresX_n, mresX_t, bd_t, bres_t, y_rO, y_dO, y_dA, yO_o, yO_n, dR_e, rOx_s, rOx_n, dAx_s, dAx_n, wup_s, wup_n, fup_s, fup_n, beq_self_eq_true, Nat.reduceBEq, Nat.reduceLT, Nat.reduceSub, x_aload_n0, y_get, yGet_o, yLk_s, x_bipush, x_icmp_ge, x_iconst, x_goto, x_callG2, x_callG1, x_istore_n2, x_dup, x_iadd, y_put, y_putF, yPut_o, yPk_s, x_iload_n2, y_iast, ySt_a, x_istore_n3, x_new, x_iload_n3, x_iload_n1, x_callG4, x_astore4, x_isub, x_aload4, x_areturn, g1, g4, c_want1, e1]
        · obtain ⟨w2, F2, e1, e2, e3, e4⟩ := c_want0 (l := l) (δ := δ) (m := m) k2 hz.1
          refine ⟨w2, F2, ?_, e2, e3, e4⟩
          rw [N_X4_each]; unfold B_X4_each
          simp (disch := first | rfl | exact okv_i | exact okv_o | exact okv_a | exact b_ft _ | (simp only [wt_c, wt_0, vc_i, vc_l, vc_r] <;> decide) | omega | exact i32_r _ | exact b2i_r _ | exact b2i_01 _ | exact zAnd_r _ _ | exact zOr_r _ _ | exact zXor_r _ _ | exact zShl_r _ _ | exact zShr_r _ _ | exact zByte_r _ | exact zcmp_r _ _ | decide) only [Bool.decide_eq_true, Bool.decide_eq_false, ↓if_pos, ↓if_neg, ↓reduceIte, Nat.reduceEqDiff, Int.reduceLE, Int.reduceLT, Int.reduceEq, Int.reduceNe, Nat.reduceBEq, Int.reduceAdd, Int.reduceMul, Int.reduceSub, Int.reduceNeg, Nat.reduceAdd, not_false_eq_true, not_true_eq_false, decide_true, decide_false, Bool.not_true, Bool.not_false, Bool.true_and, Bool.false_and, Bool.and_true, Bool.and_false, Bool.true_or, Bool.false_or, Bool.or_true, Bool.or_false, Bool.not_not, decide_not, Decidable.not_not, ite_not, b2i_t, b2i_f, ne_eq, Bool.not_eq_true, Bool.not_eq_false, decide_eq_true_eq, decide_eq_false_iff_not, Bool.false_eq_true, Bool.true_eq_false, reduceCtorEq, if_true, if_false, ite_self, ite_b0, ite_b1, ite_0b, ite_1b, ite_bb, x_done, x_blk, x_lp, x_er, erL_0, erL_t, erL_f, kl_n, kl_i, kl_r, kl_l, bd_i, bd_r, bk_i, bk_e, bk_n, bk_r, bd_ite, bk_ite, lk_i, lk_e, lk_n, lk_r, lk_ite, ite_nx, b2i_i, b2i_n, b2i_0, b2i_1, b2i_e, bres_r, bres_ite, mres_v, mres_n, sF_1, sF_2, sA_1, sA_2, zcmp_lt, zcmp_gt, zcmp_le, zcmp_ge, zcmp_eq, List.lookup_cons, List.lookup_nil, mresX_v, mresX_n, mresX_t, bd_t, bres_t, y_rO, y_dO, y_dA, yO_o, yO_n, dR_e, rOx_s, rOx_n, dAx_s, dAx_n, wup_s, wup_n, fup_s, fup_n, beq_self_eq_true, Nat.reduceBEq, Nat.reduceLT, Nat.reduceSub, x_aload_n0, y_get, yGet_o, yLk_s, x_bipush, x_icmp_ge, x_iconst, x_goto, x_callG2, x_callG1, x_istore_n2, x_dup, x_iadd, y_put, y_putF, yPut_o, yPk_s, x_iload_n2, y_iast, ySt_a, x_istore_n3, x_new, x_iload_n3, x_iload_n1, x_callG4, x_astore4, x_isub, x_aload4, x_areturn, g1, g4, e1]
      obtain ⟨w2, F2, e1, e2, e3, e4⟩ := he
      refine thr_R (w1 := w1) (z1 := z) (m1 := m) ⟨w2, F2, ?_, e2, e3, e4⟩ (fun a a1 a2 a3 => k3 a a2) (by omega) (by omega) (by omega)
      rw [N_X4_part]; unfold B_X4_part
      simp (disch := first | rfl | exact okv_i | exact okv_o | exact okv_a | exact b_ft _ | (simp only [wt_c, wt_0, vc_i, vc_l, vc_r] <;> decide) | omega | exact i32_r _ | exact b2i_r _ | exact b2i_01 _ | exact zAnd_r _ _ | exact zOr_r _ _ | exact zXor_r _ _ | exact zShl_r _ _ | exact zShr_r _ _ | exact zByte_r _ | exact zcmp_r _ _ | decide) only [Bool.decide_eq_true, Bool.decide_eq_false, ↓if_pos, ↓if_neg, ↓reduceIte, Nat.reduceEqDiff, Int.reduceLE, Int.reduceLT, Int.reduceEq, Int.reduceNe, Nat.reduceBEq, Int.reduceAdd, Int.reduceMul, Int.reduceSub, Int.reduceNeg, Nat.reduceAdd, not_false_eq_true, not_true_eq_false, decide_true, decide_false, Bool.not_true, Bool.not_false, Bool.true_and, Bool.false_and, Bool.and_true, Bool.and_false, Bool.true_or, Bool.false_or, Bool.or_true, Bool.or_false, Bool.not_not, decide_not, Decidable.not_not, ite_not, b2i_t, b2i_f, ne_eq, Bool.not_eq_true, Bool.not_eq_false, decide_eq_true_eq, decide_eq_false_iff_not, Bool.false_eq_true, Bool.true_eq_false, reduceCtorEq, if_true, if_false, ite_self, ite_b0, ite_b1, ite_0b, ite_1b, ite_bb, x_done, x_blk, x_lp, x_er, erL_0, erL_t, erL_f, kl_n, kl_i, kl_r, kl_l, bd_i, bd_r, bk_i, bk_e, bk_n, bk_r, bd_ite, bk_ite, lk_i, lk_e, lk_n, lk_r, lk_ite, ite_nx, b2i_i, b2i_n, b2i_0, b2i_1, b2i_e, bres_r, bres_ite, mres_v, mres_n, sF_1, sF_2, sA_1, sA_2, zcmp_lt, zcmp_gt, zcmp_le, zcmp_ge, zcmp_eq, List.lookup_cons, List.lookup_nil, mresX_v, mresX_n, mresX_t, bd_t, bres_t, y_rO, y_dO, y_dA, yO_o, yO_n, dR_e, rOx_s, rOx_n, dAx_s, dAx_n, wup_s, wup_n, fup_s, fup_n, beq_self_eq_true, Nat.reduceBEq, Nat.reduceLT, Nat.reduceSub, x_aload_n0, x_callG1, x_istore_n1, x_iload_n1, x_dup, y_get, yGet_o, yLk_s, x_iconst, x_iadd, y_put, y_putF, yPut_o, yPk_s, x_new, x_i2c, x_callG4, x_areturn, x_istore_n2, x_iload_n2, x_callG2, x_astore_n3, x_isub, x_aload_n3, x_astore4, x_bipush, x_icmp_ne, x_goto, x_aload4, x_athrow, g0, k1, g1, x_lookup 252 (show -2147483648 ≤ (64 : Int) ∧ (64 : Int) ≤ 2147483647 by decide) (show ((6 : Nat) : Int) + Op.lookupswitch.offset (#[(40, 195), (45, 167), (61, 137), (63, 246), (64, 246), (65, 112), (66, 112), (69, 137), (70, 90), (84, 90)] : Array (Int × Int)).toList 262 64 = ((252 : Nat) : Int) by decide), e1]
    | false =>
      rw [(lkv_e (c := 63) hI.1 (by omega) (by omega)).mpr hc] at k1
      have hI1 : RsI T n (skp T n p) d q := ⟨hI.1, ⟨by omega, by omega⟩, n800, hd0, hq0⟩
      obtain ⟨K, rfl⟩ : ∃ K, M = K + 1 := ⟨M - 1, by omega⟩
      have he : Thr w1 z m (skp T n p) ((R_rea l δ (K + 1)).2.1.1 [.inr (.inr (some ro)), .inl 0] (w1, z, m)) := by
        by_cases hq : q < 8
        · obtain ⟨w2, F2, e1, e2, e3, e4⟩ := c_nest0 (l := l) (δ := δ) (m := m) hI1 k2 hz.1 (fun hd => hdn ⟨hq, hd⟩)
          refine ⟨w2, F2, ?_, e2, e3, e4⟩
          rw [N_X4_each]; unfold B_X4_each
          simp (disch := first | rfl | exact okv_i | exact okv_o | exact okv_a | exact b_ft _ | (simp only [wt_c, wt_0, vc_i, vc_l, vc_r] <;> decide) | omega | exact i32_r _ | exact b2i_r _ | exact b2i_01 _ | exact zAnd_r _ _ | exact zOr_r _ _ | exact zXor_r _ _ | exact zShl_r _ _ | exact zShr_r _ _ | exact zByte_r _ | exact zcmp_r _ _ | decide) only [Bool.decide_eq_true, Bool.decide_eq_false, ↓if_pos, ↓if_neg, ↓reduceIte, Nat.reduceEqDiff, Int.reduceLE, Int.reduceLT, Int.reduceEq, Int.reduceNe, Nat.reduceBEq, Int.reduceAdd, Int.reduceMul, Int.reduceSub, Int.reduceNeg, Nat.reduceAdd, not_false_eq_true, not_true_eq_false, decide_true, decide_false, Bool.not_true, Bool.not_false, Bool.true_and, Bool.false_and, Bool.and_true, Bool.and_false, Bool.true_or, Bool.false_or, Bool.or_true, Bool.or_false, Bool.not_not, decide_not, Decidable.not_not, ite_not, b2i_t, b2i_f, ne_eq, Bool.not_eq_true, Bool.not_eq_false, decide_eq_true_eq, decide_eq_false_iff_not, Bool.false_eq_true, Bool.true_eq_false, reduceCtorEq, if_true, if_false, ite_self, ite_b0, ite_b1, ite_0b, ite_1b, ite_bb, x_done, x_blk, x_lp, x_er, erL_0, erL_t, erL_f, kl_n, kl_i, kl_r, kl_l, bd_i, bd_r, bk_i, bk_e, bk_n, bk_r, bd_ite, bk_ite, lk_i, lk_e, lk_n, lk_r, lk_ite, ite_nx, b2i_i, b2i_n, b2i_0, b2i_1, b2i_e, bres_r, bres_ite, mres_v, mres_n, sF_1, sF_2, sA_1, sA_2, zcmp_lt, zcmp_gt, zcmp_le, zcmp_ge, zcmp_eq, List.lookup_cons, List.lookup_nil, mresX_v, mresX_n, mresX_t, bd_t, bres_t, y_rO, y_dO, y_dA, yO_o, yO_n, dR_e, rOx_s, rOx_n, dAx_s, dAx_n, wup_s, wup_n, fup_s, fup_n, beq_self_eq_true, Nat.reduceBEq, Nat.reduceLT, Nat.reduceSub, x_aload_n0, y_get, yGet_o, yLk_s, x_bipush, x_icmp_ge, x_iconst, x_goto, x_callG2, x_callG1, x_istore_n2, x_dup, x_iadd, y_put, y_putF, yPut_o, yPk_s, x_iload_n2, y_iast, ySt_a, x_istore_n3, x_new, x_iload_n3, x_iload_n1, x_callG4, x_astore4, x_isub, x_aload4, x_areturn, g1, g4, c_want1, e1]
        · obtain ⟨w2, F2, e1, e2, e3, e4⟩ := c_want0 (l := l) (δ := δ) (m := m) k2 hz.1
          refine ⟨w2, F2, ?_, e2, e3, e4⟩
          rw [N_X4_each]; unfold B_X4_each
          simp (disch := first | rfl | exact okv_i | exact okv_o | exact okv_a | exact b_ft _ | (simp only [wt_c, wt_0, vc_i, vc_l, vc_r] <;> decide) | omega | exact i32_r _ | exact b2i_r _ | exact b2i_01 _ | exact zAnd_r _ _ | exact zOr_r _ _ | exact zXor_r _ _ | exact zShl_r _ _ | exact zShr_r _ _ | exact zByte_r _ | exact zcmp_r _ _ | decide) only [Bool.decide_eq_true, Bool.decide_eq_false, ↓if_pos, ↓if_neg, ↓reduceIte, Nat.reduceEqDiff, Int.reduceLE, Int.reduceLT, Int.reduceEq, Int.reduceNe, Nat.reduceBEq, Int.reduceAdd, Int.reduceMul, Int.reduceSub, Int.reduceNeg, Nat.reduceAdd, not_false_eq_true, not_true_eq_false, decide_true, decide_false, Bool.not_true, Bool.not_false, Bool.true_and, Bool.false_and, Bool.and_true, Bool.and_false, Bool.true_or, Bool.false_or, Bool.or_true, Bool.or_false, Bool.not_not, decide_not, Decidable.not_not, ite_not, b2i_t, b2i_f, ne_eq, Bool.not_eq_true, Bool.not_eq_false, decide_eq_true_eq, decide_eq_false_iff_not, Bool.false_eq_true, Bool.true_eq_false, reduceCtorEq, if_true, if_false, ite_self, ite_b0, ite_b1, ite_0b, ite_1b, ite_bb, x_done, x_blk, x_lp, x_er, erL_0, erL_t, erL_f, kl_n, kl_i, kl_r, kl_l, bd_i, bd_r, bk_i, bk_e, bk_n, bk_r, bd_ite, bk_ite, lk_i, lk_e, lk_n, lk_r, lk_ite, ite_nx, b2i_i, b2i_n, b2i_0, b2i_1, b2i_e, bres_r, bres_ite, mres_v, mres_n, sF_1, sF_2, sA_1, sA_2, zcmp_lt, zcmp_gt, zcmp_le, zcmp_ge, zcmp_eq, List.lookup_cons, List.lookup_nil, mresX_v, mresX_n, mresX_t, bd_t, bres_t, y_rO, y_dO, y_dA, yO_o, yO_n, dR_e, rOx_s, rOx_n, dAx_s, dAx_n, wup_s, wup_n, fup_s, fup_n, beq_self_eq_true, Nat.reduceBEq, Nat.reduceLT, Nat.reduceSub, x_aload_n0, y_get, yGet_o, yLk_s, x_bipush, x_icmp_ge, x_iconst, x_goto, x_callG2, x_callG1, x_istore_n2, x_dup, x_iadd, y_put, y_putF, yPut_o, yPk_s, x_iload_n2, y_iast, ySt_a, x_istore_n3, x_new, x_iload_n3, x_iload_n1, x_callG4, x_astore4, x_isub, x_aload4, x_areturn, g1, g4, e1]
      obtain ⟨w2, F2, e1, e2, e3, e4⟩ := he
      refine thr_R (w1 := w1) (z1 := z) (m1 := m) ⟨w2, F2, ?_, e2, e3, e4⟩ (fun a a1 a2 a3 => k3 a a2) (by omega) (by omega) (by omega)
      rw [N_X4_part]; unfold B_X4_part
      simp (disch := first | rfl | exact okv_i | exact okv_o | exact okv_a | exact b_ft _ | (simp only [wt_c, wt_0, vc_i, vc_l, vc_r] <;> decide) | omega | exact i32_r _ | exact b2i_r _ | exact b2i_01 _ | exact zAnd_r _ _ | exact zOr_r _ _ | exact zXor_r _ _ | exact zShl_r _ _ | exact zShr_r _ _ | exact zByte_r _ | exact zcmp_r _ _ | decide) only [Bool.decide_eq_true, Bool.decide_eq_false, ↓if_pos, ↓if_neg, ↓reduceIte, Nat.reduceEqDiff, Int.reduceLE, Int.reduceLT, Int.reduceEq, Int.reduceNe, Nat.reduceBEq, Int.reduceAdd, Int.reduceMul, Int.reduceSub, Int.reduceNeg, Nat.reduceAdd, not_false_eq_true, not_true_eq_false, decide_true, decide_false, Bool.not_true, Bool.not_false, Bool.true_and, Bool.false_and, Bool.and_true, Bool.and_false, Bool.true_or, Bool.false_or, Bool.or_true, Bool.or_false, Bool.not_not, decide_not, Decidable.not_not, ite_not, b2i_t, b2i_f, ne_eq, Bool.not_eq_true, Bool.not_eq_false, decide_eq_true_eq, decide_eq_false_iff_not, Bool.false_eq_true, Bool.true_eq_false, reduceCtorEq, if_true, if_false, ite_self, ite_b0, ite_b1, ite_0b, ite_1b, ite_bb, x_done, x_blk, x_lp, x_er, erL_0, erL_t, erL_f, kl_n, kl_i, kl_r, kl_l, bd_i, bd_r, bk_i, bk_e, bk_n, bk_r, bd_ite, bk_ite, lk_i, lk_e, lk_n, lk_r, lk_ite, ite_nx, b2i_i, b2i_n, b2i_0, b2i_1, b2i_e, bres_r, bres_ite, mres_v, mres_n, sF_1, sF_2, sA_1, sA_2, zcmp_lt, zcmp_gt, zcmp_le, zcmp_ge, zcmp_eq, List.lookup_cons, List.lookup_nil, mresX_v, mresX_n, mresX_t, bd_t, bres_t, y_rO, y_dO, y_dA, yO_o, yO_n, dR_e, rOx_s, rOx_n, dAx_s, dAx_n, wup_s, wup_n, fup_s, fup_n, beq_self_eq_true, Nat.reduceBEq, Nat.reduceLT, Nat.reduceSub, x_aload_n0, x_callG1, x_istore_n1, x_iload_n1, x_dup, y_get, yGet_o, yLk_s, x_iconst, x_iadd, y_put, y_putF, yPut_o, yPk_s, x_new, x_i2c, x_callG4, x_areturn, x_istore_n2, x_iload_n2, x_callG2, x_astore_n3, x_isub, x_aload_n3, x_astore4, x_bipush, x_icmp_ne, x_goto, x_aload4, x_athrow, g0, k1, g1, x_lookup 252 (show -2147483648 ≤ (63 : Int) ∧ (63 : Int) ≤ 2147483647 by decide) (show ((6 : Nat) : Int) + Op.lookupswitch.offset (#[(40, 195), (45, 167), (61, 137), (63, 246), (64, 246), (65, 112), (66, 112), (69, 137), (70, 90), (84, 90)] : Array (Int × Int)).toList 262 63 = ((252 : Nat) : Int) by decide), e1]
  | @eacL s p d q L a hc hdn hl =>
    intro N w z m hRI hR
    refine ⟨fun _ hN => ?_, fun z => absurd z (by decide), fun z => absurd z (by decide)⟩
    obtain ⟨hI, hL, hz, hδ⟩ := hRI
    have hp := hI.2.1
    have n800 := hI.2.2.1
    have hd0 := hI.2.2.2.1
    have hq0 := hI.2.2.2.2
    have sb := skp_b (T := T) hp.2
    obtain ⟨M, rfl⟩ : ∃ M, N = M + 1 := ⟨N - 1, by omega⟩
    obtain ⟨w1, k1, k2, k3⟩ := c_look (l := l) (δ := δ) (zz := (z, m)) hI hR
    obtain ⟨F0, g0, -⟩ := hR.ob
    obtain ⟨F1, g1, g2, g3, g4, g5⟩ := k2.ob
    cases a with
    | true =>
      rw [(lkv_e (c := 64) hI.1 (by omega) (by omega)).mpr hc] at k1
      have hI1 : RsI T n (skp T n p) d q := ⟨hI.1, ⟨by omega, by omega⟩, n800, hd0, hq0⟩
      have lt := chr_lt (T := T) (n := n) (a := skp T n p) (by rw [hc]; decide)
      obtain ⟨K, rfl⟩ : ∃ K, M = K + 1 := ⟨M - 1, by omega⟩
      obtain ⟨w2, n1, n2, n3⟩ := c_nest1 (l := l) (δ := δ) (zz := (z, m)) hI1 k2 hdn.2
      have hI2 : RsI T n (skp T n p + 1) (d + 1) q := ⟨hI.1, ⟨by omega, by omega⟩, n800, ⟨by omega, by omega⟩, hq0⟩
      have fr2 : ∀ a, a ≠ ro → w2 a = w a := fun a ha => by rw [n3 a ha, k3 a ha]
      obtain ⟨F2, q2, -⟩ := n2.ob
      have sb2 := skp_b (T := T) (n := n) (a := skp T n p + 1) (by omega)
      obtain ⟨w3, ⟨w4, F4, e1, e2, e3, e4⟩, e5⟩ := c_letter0 (l := l) (δ := δ) (m := m) hI2 n2 hz.1 hl
      have he : (R_rea l δ (K + 1)).2.1.1 [.inr (.inr (some ro)), .inl 1] (w1, z, m) = some (.inr z, w4, z + 1, m + 7) := by
        rw [N_X4_each]; unfold B_X4_each
        have hq8 := hdn.1
        simp (disch := first | rfl | exact okv_i | exact okv_o | exact okv_a | exact b_ft _ | (simp only [wt_c, wt_0, vc_i, vc_l, vc_r] <;> decide) | omega | exact i32_r _ | exact b2i_r _ | exact b2i_01 _ | exact zAnd_r _ _ | exact zOr_r _ _ | exact zXor_r _ _ | exact zShl_r _ _ | exact zShr_r _ _ | exact zByte_r _ | exact zcmp_r _ _ | decide) only [Bool.decide_eq_true, Bool.decide_eq_false, ↓if_pos, ↓if_neg, ↓reduceIte, Nat.reduceEqDiff, Int.reduceLE, Int.reduceLT, Int.reduceEq, Int.reduceNe, Nat.reduceBEq, Int.reduceAdd, Int.reduceMul, Int.reduceSub, Int.reduceNeg, Nat.reduceAdd, not_false_eq_true, not_true_eq_false, decide_true, decide_false, Bool.not_true, Bool.not_false, Bool.true_and, Bool.false_and, Bool.and_true, Bool.and_false, Bool.true_or, Bool.false_or, Bool.or_true, Bool.or_false, Bool.not_not, decide_not, Decidable.not_not, ite_not, b2i_t, b2i_f, ne_eq, Bool.not_eq_true, Bool.not_eq_false, decide_eq_true_eq, decide_eq_false_iff_not, Bool.false_eq_true, Bool.true_eq_false, reduceCtorEq, if_true, if_false, ite_self, ite_b0, ite_b1, ite_0b, ite_1b, ite_bb, x_done, x_blk, x_lp, x_er, erL_0, erL_t, erL_f, kl_n, kl_i, kl_r, kl_l, bd_i, bd_r, bk_i, bk_e, bk_n, bk_r, bd_ite, bk_ite, lk_i, lk_e, lk_n, lk_r, lk_ite, ite_nx, b2i_i, b2i_n, b2i_0, b2i_1, b2i_e, bres_r, bres_ite, mres_v, mres_n, sF_1, sF_2, sA_1, sA_2, zcmp_lt, zcmp_gt, zcmp_le, zcmp_ge, zcmp_eq, List.lookup_cons, List.lookup_nil, mresX_v, mresX_n, mresX_t, bd_t, bres_t, y_rO, y_dO, y_dA, yO_o, yO_n, dR_e, rOx_s, rOx_n, dAx_s, dAx_n, wup_s, wup_n, fup_s, fup_n, beq_self_eq_true, Nat.reduceBEq, Nat.reduceLT, Nat.reduceSub, x_aload_n0, y_get, yGet_o, yLk_s, x_bipush, x_icmp_ge, x_iconst, x_goto, x_callG2, x_callG1, x_istore_n2, x_dup, x_iadd, y_put, y_putF, yPut_o, yPk_s, x_iload_n2, y_iast, ySt_a, x_istore_n3, x_new, x_iload_n3, x_iload_n1, x_callG4, x_astore4, x_isub, x_aload4, x_areturn, g1, g4, c_want1, n1, q2, e1]
      refine thr_R (w1 := w3) (z1 := z) (m1 := m) ⟨w4, F4, ?_, e2, e3, e4⟩ (fun a a1 a2 a3 => by rw [e5 a a2, fr2 a a2]) (by omega) (by omega) (by omega)
      rw [N_X4_part]; unfold B_X4_part
      simp (disch := first | rfl | exact okv_i | exact okv_o | exact okv_a | exact b_ft _ | (simp only [wt_c, wt_0, vc_i, vc_l, vc_r] <;> decide) | omega | exact i32_r _ | exact b2i_r _ | exact b2i_01 _ | exact zAnd_r _ _ | exact zOr_r _ _ | exact zXor_r _ _ | exact zShl_r _ _ | exact zShr_r _ _ | exact zByte_r _ | exact zcmp_r _ _ | decide) only [Bool.decide_eq_true, Bool.decide_eq_false, ↓if_pos, ↓if_neg, ↓reduceIte, Nat.reduceEqDiff, Int.reduceLE, Int.reduceLT, Int.reduceEq, Int.reduceNe, Nat.reduceBEq, Int.reduceAdd, Int.reduceMul, Int.reduceSub, Int.reduceNeg, Nat.reduceAdd, not_false_eq_true, not_true_eq_false, decide_true, decide_false, Bool.not_true, Bool.not_false, Bool.true_and, Bool.false_and, Bool.and_true, Bool.and_false, Bool.true_or, Bool.false_or, Bool.or_true, Bool.or_false, Bool.not_not, decide_not, Decidable.not_not, ite_not, b2i_t, b2i_f, ne_eq, Bool.not_eq_true, Bool.not_eq_false, decide_eq_true_eq, decide_eq_false_iff_not, Bool.false_eq_true, Bool.true_eq_false, reduceCtorEq, if_true, if_false, ite_self, ite_b0, ite_b1, ite_0b, ite_1b, ite_bb, x_done, x_blk, x_lp, x_er, erL_0, erL_t, erL_f, kl_n, kl_i, kl_r, kl_l, bd_i, bd_r, bk_i, bk_e, bk_n, bk_r, bd_ite, bk_ite, lk_i, lk_e, lk_n, lk_r, lk_ite, ite_nx, b2i_i, b2i_n, b2i_0, b2i_1, b2i_e, bres_r, bres_ite, mres_v, mres_n, sF_1, sF_2, sA_1, sA_2, zcmp_lt, zcmp_gt, zcmp_le, zcmp_ge, zcmp_eq, List.lookup_cons, List.lookup_nil, mresX_v, mresX_n, mresX_t, bd_t, bres_t, y_rO, y_dO, y_dA, yO_o, yO_n, dR_e, rOx_s, rOx_n, dAx_s, dAx_n, wup_s, wup_n, fup_s, fup_n, beq_self_eq_true, Nat.reduceBEq, Nat.reduceLT, Nat.reduceSub, x_aload_n0, x_callG1, x_istore_n1, x_iload_n1, x_dup, y_get, yGet_o, yLk_s, x_iconst, x_iadd, y_put, y_putF, yPut_o, yPk_s, x_new, x_i2c, x_callG4, x_areturn, x_istore_n2, x_iload_n2, x_callG2, x_astore_n3, x_isub, x_aload_n3, x_astore4, x_bipush, x_icmp_ne, x_goto, x_aload4, x_athrow, g0, k1, g1, x_lookup 252 (show -2147483648 ≤ (64 : Int) ∧ (64 : Int) ≤ 2147483647 by decide) (show ((6 : Nat) : Int) + Op.lookupswitch.offset (#[(40, 195), (45, 167), (61, 137), (63, 246), (64, 246), (65, 112), (66, 112), (69, 137), (70, 90), (84, 90)] : Array (Int × Int)).toList 262 64 = ((252 : Nat) : Int) by decide), he]
    | false =>
      rw [(lkv_e (c := 63) hI.1 (by omega) (by omega)).mpr hc] at k1
      have hI1 : RsI T n (skp T n p) d q := ⟨hI.1, ⟨by omega, by omega⟩, n800, hd0, hq0⟩
      have lt := chr_lt (T := T) (n := n) (a := skp T n p) (by rw [hc]; decide)
      obtain ⟨K, rfl⟩ : ∃ K, M = K + 1 := ⟨M - 1, by omega⟩
      obtain ⟨w2, n1, n2, n3⟩ := c_nest1 (l := l) (δ := δ) (zz := (z, m)) hI1 k2 hdn.2
      have hI2 : RsI T n (skp T n p + 1) (d + 1) q := ⟨hI.1, ⟨by omega, by omega⟩, n800, ⟨by omega, by omega⟩, hq0⟩
      have fr2 : ∀ a, a ≠ ro → w2 a = w a := fun a ha => by rw [n3 a ha, k3 a ha]
      obtain ⟨F2, q2, -⟩ := n2.ob
      have sb2 := skp_b (T := T) (n := n) (a := skp T n p + 1) (by omega)
      obtain ⟨w3, ⟨w4, F4, e1, e2, e3, e4⟩, e5⟩ := c_letter0 (l := l) (δ := δ) (m := m) hI2 n2 hz.1 hl
      have he : (R_rea l δ (K + 1)).2.1.1 [.inr (.inr (some ro)), .inl 0] (w1, z, m) = some (.inr z, w4, z + 1, m + 7) := by
        rw [N_X4_each]; unfold B_X4_each
        have hq8 := hdn.1
        simp (disch := first | rfl | exact okv_i | exact okv_o | exact okv_a | exact b_ft _ | (simp only [wt_c, wt_0, vc_i, vc_l, vc_r] <;> decide) | omega | exact i32_r _ | exact b2i_r _ | exact b2i_01 _ | exact zAnd_r _ _ | exact zOr_r _ _ | exact zXor_r _ _ | exact zShl_r _ _ | exact zShr_r _ _ | exact zByte_r _ | exact zcmp_r _ _ | decide) only [Bool.decide_eq_true, Bool.decide_eq_false, ↓if_pos, ↓if_neg, ↓reduceIte, Nat.reduceEqDiff, Int.reduceLE, Int.reduceLT, Int.reduceEq, Int.reduceNe, Nat.reduceBEq, Int.reduceAdd, Int.reduceMul, Int.reduceSub, Int.reduceNeg, Nat.reduceAdd, not_false_eq_true, not_true_eq_false, decide_true, decide_false, Bool.not_true, Bool.not_false, Bool.true_and, Bool.false_and, Bool.and_true, Bool.and_false, Bool.true_or, Bool.false_or, Bool.or_true, Bool.or_false, Bool.not_not, decide_not, Decidable.not_not, ite_not, b2i_t, b2i_f, ne_eq, Bool.not_eq_true, Bool.not_eq_false, decide_eq_true_eq, decide_eq_false_iff_not, Bool.false_eq_true, Bool.true_eq_false, reduceCtorEq, if_true, if_false, ite_self, ite_b0, ite_b1, ite_0b, ite_1b, ite_bb, x_done, x_blk, x_lp, x_er, erL_0, erL_t, erL_f, kl_n, kl_i, kl_r, kl_l, bd_i, bd_r, bk_i, bk_e, bk_n, bk_r, bd_ite, bk_ite, lk_i, lk_e, lk_n, lk_r, lk_ite, ite_nx, b2i_i, b2i_n, b2i_0, b2i_1, b2i_e, bres_r, bres_ite, mres_v, mres_n, sF_1, sF_2, sA_1, sA_2, zcmp_lt, zcmp_gt, zcmp_le, zcmp_ge, zcmp_eq, List.lookup_cons, List.lookup_nil, mresX_v, mresX_n, mresX_t, bd_t, bres_t, y_rO, y_dO, y_dA, yO_o, yO_n, dR_e, rOx_s, rOx_n, dAx_s, dAx_n, wup_s, wup_n, fup_s, fup_n, beq_self_eq_true, Nat.reduceBEq, Nat.reduceLT, Nat.reduceSub, x_aload_n0, y_get, yGet_o, yLk_s, x_bipush, x_icmp_ge, x_iconst, x_goto, x_callG2, x_callG1, x_istore_n2, x_dup, x_iadd, y_put, y_putF, yPut_o, yPk_s, x_iload_n2, y_iast, ySt_a, x_istore_n3, x_new, x_iload_n3, x_iload_n1, x_callG4, x_astore4, x_isub, x_aload4, x_areturn, g1, g4, c_want1, n1, q2, e1]
      refine thr_R (w1 := w3) (z1 := z) (m1 := m) ⟨w4, F4, ?_, e2, e3, e4⟩ (fun a a1 a2 a3 => by rw [e5 a a2, fr2 a a2]) (by omega) (by omega) (by omega)
      rw [N_X4_part]; unfold B_X4_part
      simp (disch := first | rfl | exact okv_i | exact okv_o | exact okv_a | exact b_ft _ | (simp only [wt_c, wt_0, vc_i, vc_l, vc_r] <;> decide) | omega | exact i32_r _ | exact b2i_r _ | exact b2i_01 _ | exact zAnd_r _ _ | exact zOr_r _ _ | exact zXor_r _ _ | exact zShl_r _ _ | exact zShr_r _ _ | exact zByte_r _ | exact zcmp_r _ _ | decide) only [Bool.decide_eq_true, Bool.decide_eq_false, ↓if_pos, ↓if_neg, ↓reduceIte, Nat.reduceEqDiff, Int.reduceLE, Int.reduceLT, Int.reduceEq, Int.reduceNe, Nat.reduceBEq, Int.reduceAdd, Int.reduceMul, Int.reduceSub, Int.reduceNeg, Nat.reduceAdd, not_false_eq_true, not_true_eq_false, decide_true, decide_false, Bool.not_true, Bool.not_false, Bool.true_and, Bool.false_and, Bool.and_true, Bool.and_false, Bool.true_or, Bool.false_or, Bool.or_true, Bool.or_false, Bool.not_not, decide_not, Decidable.not_not, ite_not, b2i_t, b2i_f, ne_eq, Bool.not_eq_true, Bool.not_eq_false, decide_eq_true_eq, decide_eq_false_iff_not, Bool.false_eq_true, Bool.true_eq_false, reduceCtorEq, if_true, if_false, ite_self, ite_b0, ite_b1, ite_0b, ite_1b, ite_bb, x_done, x_blk, x_lp, x_er, erL_0, erL_t, erL_f, kl_n, kl_i, kl_r, kl_l, bd_i, bd_r, bk_i, bk_e, bk_n, bk_r, bd_ite, bk_ite, lk_i, lk_e, lk_n, lk_r, lk_ite, ite_nx, b2i_i, b2i_n, b2i_0, b2i_1, b2i_e, bres_r, bres_ite, mres_v, mres_n, sF_1, sF_2, sA_1, sA_2, zcmp_lt, zcmp_gt, zcmp_le, zcmp_ge, zcmp_eq, List.lookup_cons, List.lookup_nil, mresX_v, mresX_n, mresX_t, bd_t, bres_t, y_rO, y_dO, y_dA, yO_o, yO_n, dR_e, rOx_s, rOx_n, dAx_s, dAx_n, wup_s, wup_n, fup_s, fup_n, beq_self_eq_true, Nat.reduceBEq, Nat.reduceLT, Nat.reduceSub, x_aload_n0, x_callG1, x_istore_n1, x_iload_n1, x_dup, y_get, yGet_o, yLk_s, x_iconst, x_iadd, y_put, y_putF, yPut_o, yPk_s, x_new, x_i2c, x_callG4, x_areturn, x_istore_n2, x_iload_n2, x_callG2, x_astore_n3, x_isub, x_aload_n3, x_astore4, x_bipush, x_icmp_ne, x_goto, x_aload4, x_athrow, g0, k1, g1, x_lookup 252 (show -2147483648 ≤ (63 : Int) ∧ (63 : Int) ≤ 2147483647 by decide) (show ((6 : Nat) : Int) + Op.lookupswitch.offset (#[(40, 195), (45, 167), (61, 137), (63, 246), (64, 246), (65, 112), (66, 112), (69, 137), (70, 90), (84, 90)] : Array (Int × Int)).toList 262 63 = ((252 : Nat) : Int) by decide), he]
  | @eacE s p d q L a e hc hdn hl h ih =>
    intro N w z m hRI hR
    refine ⟨fun _ hN => ?_, fun z => absurd z (by decide), fun z => absurd z (by decide)⟩
    obtain ⟨hI, hL, hz, hδ⟩ := hRI
    have hp := hI.2.1
    have n800 := hI.2.2.1
    have hd0 := hI.2.2.2.1
    have hq0 := hI.2.2.2.2
    have sb := skp_b (T := T) hp.2
    obtain ⟨M, rfl⟩ : ∃ M, N = M + 1 := ⟨N - 1, by omega⟩
    obtain ⟨w1, k1, k2, k3⟩ := c_look (l := l) (δ := δ) (zz := (z, m)) hI hR
    obtain ⟨F0, g0, -⟩ := hR.ob
    obtain ⟨F1, g1, g2, g3, g4, g5⟩ := k2.ob
    cases a with
    | true =>
      rw [(lkv_e (c := 64) hI.1 (by omega) (by omega)).mpr hc] at k1
      have hI1 : RsI T n (skp T n p) d q := ⟨hI.1, ⟨by omega, by omega⟩, n800, hd0, hq0⟩
      have lt := chr_lt (T := T) (n := n) (a := skp T n p) (by rw [hc]; decide)
      obtain ⟨K, rfl⟩ : ∃ K, M = K + 1 := ⟨M - 1, by omega⟩
      obtain ⟨w2, n1, n2, n3⟩ := c_nest1 (l := l) (δ := δ) (zz := (z, m)) hI1 k2 hdn.2
      have hI2 : RsI T n (skp T n p + 1) (d + 1) q := ⟨hI.1, ⟨by omega, by omega⟩, n800, ⟨by omega, by omega⟩, hq0⟩
      have fr2 : ∀ a, a ≠ ro → w2 a = w a := fun a ha => by rw [n3 a ha, k3 a ha]
      obtain ⟨F2, q2, -⟩ := n2.ob
      have sb2 := skp_b (T := T) (n := n) (a := skp T n p + 1) (by omega)
      obtain ⟨w3, t1, t2, t3⟩ := c_letter1 (l := l) (δ := δ) (zz := (z, m)) hI2 n2 hl
      have lt2 := chr_lt (T := T) (n := n) (a := skp T n (skp T n p + 1)) (by omega)
      have hR4 := t2
      obtain ⟨F3, TT, LL, u1, u2, u3, u4, u5, u6, u7, u8, u9, u10, u11⟩ := t2
      have x1 : ta ≠ ro := fun e => by rw [e, u1] at u8; cases u8
      have x2 : ll ≠ ro := fun e => by rw [e, u1] at u10; cases u10
      have x3 : ta ≠ ll := fun e => by rw [e, u10] at u8; cases u8
      obtain ⟨w4, hw4⟩ : ∃ w4, w4 = wup (wup (wup (wup w3 ro (.inr (4, fup F3 2 (.inl (skp T n (skp T n p + 1) + 1))))) ro (.inr (4, fup (fup F3 2 (.inl (skp T n (skp T n p + 1) + 1))) 4 (.inl (q + 1))))) ll (.inl (0, 9, iup LL (q + 1) (.inl (chr T n (skp T n (skp T n p + 1))))))) z (.inr (8, f0_8)) := ⟨_, rfl⟩
      have hq8 := hdn.1
      have hR5 : RS w4 ro ta ll T n (skp T n (skp T n p + 1) + 1) (d + 1) (q + 1) (iup L (q + 1) (chr T n (skp T n (skp T n p + 1)))) := by
        rw [hw4]
        refine ⟨fup (fup F3 2 (.inl (skp T n (skp T n p + 1) + 1))) 4 (.inl (q + 1)), TT, iup LL (q + 1) (.inl (chr T n (skp T n (skp T n p + 1)))), by rw [wup_n (by omega), wup_n (Ne.symm x2), wup_s], u2, u3, rfl, u5, rfl, u7, by rw [wup_n (by omega), wup_n x3, wup_n x1, wup_n x1]; exact u8, u9, by rw [wup_n (by omega), wup_s], fun v v1 v2 => ?_⟩
        by_cases e : v = q + 1
        · subst e; rw [iup_s, iup_s]
        · rw [iup_n e, iup_n e]; exact u11 v v1 (by omega)
      have fr4 : ∀ a, a < z → a ≠ ro → a ≠ ll → w4 a = w a := fun a c1 c2 c3 => by rw [hw4, wup_n (by omega), wup_n c3, wup_n c2, wup_n c2, t3 a c2, fr2 a c2]
      have hI5 : RsI T n (skp T n (skp T n p + 1) + 1) (d + 1) (q + 1) := ⟨hI.1, ⟨by omega, by omega⟩, n800, ⟨by omega, by omega⟩, ⟨by omega, by omega⟩⟩
      obtain ⟨F5, q5, -⟩ := hR5.ob
      have hx := (ih K w4 (z + 1) (m + 3) ⟨hI5, hL.up hl, ⟨by omega, by omega, by omega⟩, by omega⟩ hR5).1 rfl (by omega)
      obtain ⟨w6, z6, m6, x6, F6, a1, a2, a3, a4, a5, a6, a7⟩ := hx
      have he : (R_rea l δ (K + 1)).2.1.1 [.inr (.inr (some ro)), .inl 1] (w1, z, m) = some (.inr x6, w6, z6, m6) := by
        rw [N_X4_each]; unfold B_X4_each
        simp (disch := first | rfl | exact okv_i | exact okv_o | exact okv_a | exact b_ft _ | (simp only [wt_c, wt_0, vc_i, vc_l, vc_r] <;> decide) | omega | exact i32_r _ | exact b2i_r _ | exact b2i_01 _ | exact zAnd_r _ _ | exact zOr_r _ _ | exact zXor_r _ _ | exact zShl_r _ _ | exact zShr_r _ _ | exact zByte_r _ | exact zcmp_r _ _ | decide) only [Bool.decide_eq_true, Bool.decide_eq_false, ↓if_pos, ↓if_neg, ↓reduceIte, Nat.reduceEqDiff, Int.reduceLE, Int.reduceLT, Int.reduceEq, Int.reduceNe, Nat.reduceBEq, Int.reduceAdd, Int.reduceMul, Int.reduceSub, Int.reduceNeg, Nat.reduceAdd, not_false_eq_true, not_true_eq_false, decide_true, decide_false, Bool.not_true, Bool.not_false, Bool.true_and, Bool.false_and, Bool.and_true, Bool.and_false, Bool.true_or, Bool.false_or, Bool.or_true, Bool.or_false, Bool.not_not, decide_not, Decidable.not_not, ite_not, b2i_t, b2i_f, ne_eq, Bool.not_eq_true, Bool.not_eq_false, decide_eq_true_eq, decide_eq_false_iff_not, Bool.false_eq_true, Bool.true_eq_false, reduceCtorEq, if_true, if_false, ite_self, ite_b0, ite_b1, ite_0b, ite_1b, ite_bb, x_done, x_blk, x_lp, x_er, erL_0, erL_t, erL_f, kl_n, kl_i, kl_r, kl_l, bd_i, bd_r, bk_i, bk_e, bk_n, bk_r, bd_ite, bk_ite, lk_i, lk_e, lk_n, lk_r, lk_ite, ite_nx, b2i_i, b2i_n, b2i_0, b2i_1, b2i_e, bres_r, bres_ite, mres_v, mres_n, sF_1, sF_2, sA_1, sA_2, zcmp_lt, zcmp_gt, zcmp_le, zcmp_ge, zcmp_eq, List.lookup_cons, List.lookup_nil, mresX_v, mresX_n, mresX_t, bd_t, bres_t, y_rO, y_dO, y_dA, yO_o, yO_n, dR_e, rOx_s, rOx_n, dAx_s, dAx_n, wup_s, wup_n, fup_s, fup_n, beq_self_eq_true, Nat.reduceBEq, Nat.reduceLT, Nat.reduceSub, x_aload_n0, y_get, yGet_o, yLk_s, x_bipush, x_icmp_ge, x_iconst, x_goto, x_callG2, x_callG1, x_istore_n2, x_dup, x_iadd, y_put, y_putF, yPut_o, yPk_s, x_iload_n2, y_iast, ySt_a, x_istore_n3, x_new, x_iload_n3, x_iload_n1, x_callG4, x_astore4, x_isub, x_aload4, x_areturn, g1, g4, c_want1, n1, q2, t1, u1, u4, u6, u7, u10, ← hw4, q5, a1]
      refine ⟨w6, z6, m6, x6, F6, ?_, a2, a3, fun a b1 b2 b3 => by rw [a4 a (by omega) b2 b3, fr4 a b1 b2 b3], by omega, by omega, by omega⟩
      rw [N_X4_part]; unfold B_X4_part
      simp (disch := first | rfl | exact okv_i | exact okv_o | exact okv_a | exact b_ft _ | (simp only [wt_c, wt_0, vc_i, vc_l, vc_r] <;> decide) | omega | exact i32_r _ | exact b2i_r _ | exact b2i_01 _ | exact zAnd_r _ _ | exact zOr_r _ _ | exact zXor_r _ _ | exact zShl_r _ _ | exact zShr_r _ _ | exact zByte_r _ | exact zcmp_r _ _ | decide) only [Bool.decide_eq_true, Bool.decide_eq_false, ↓if_pos, ↓if_neg, ↓reduceIte, Nat.reduceEqDiff, Int.reduceLE, Int.reduceLT, Int.reduceEq, Int.reduceNe, Nat.reduceBEq, Int.reduceAdd, Int.reduceMul, Int.reduceSub, Int.reduceNeg, Nat.reduceAdd, not_false_eq_true, not_true_eq_false, decide_true, decide_false, Bool.not_true, Bool.not_false, Bool.true_and, Bool.false_and, Bool.and_true, Bool.and_false, Bool.true_or, Bool.false_or, Bool.or_true, Bool.or_false, Bool.not_not, decide_not, Decidable.not_not, ite_not, b2i_t, b2i_f, ne_eq, Bool.not_eq_true, Bool.not_eq_false, decide_eq_true_eq, decide_eq_false_iff_not, Bool.false_eq_true, Bool.true_eq_false, reduceCtorEq, if_true, if_false, ite_self, ite_b0, ite_b1, ite_0b, ite_1b, ite_bb, x_done, x_blk, x_lp, x_er, erL_0, erL_t, erL_f, kl_n, kl_i, kl_r, kl_l, bd_i, bd_r, bk_i, bk_e, bk_n, bk_r, bd_ite, bk_ite, lk_i, lk_e, lk_n, lk_r, lk_ite, ite_nx, b2i_i, b2i_n, b2i_0, b2i_1, b2i_e, bres_r, bres_ite, mres_v, mres_n, sF_1, sF_2, sA_1, sA_2, zcmp_lt, zcmp_gt, zcmp_le, zcmp_ge, zcmp_eq, List.lookup_cons, List.lookup_nil, mresX_v, mresX_n, mresX_t, bd_t, bres_t, y_rO, y_dO, y_dA, yO_o, yO_n, dR_e, rOx_s, rOx_n, dAx_s, dAx_n, wup_s, wup_n, fup_s, fup_n, beq_self_eq_true, Nat.reduceBEq, Nat.reduceLT, Nat.reduceSub, x_aload_n0, x_callG1, x_istore_n1, x_iload_n1, x_dup, y_get, yGet_o, yLk_s, x_iconst, x_iadd, y_put, y_putF, yPut_o, yPk_s, x_new, x_i2c, x_callG4, x_areturn, x_istore_n2, x_iload_n2, x_callG2, x_astore_n3, x_isub, x_aload_n3, x_astore4, x_bipush, x_icmp_ne, x_goto, x_aload4, x_athrow, g0, k1, g1, x_lookup 252 (show -2147483648 ≤ (64 : Int) ∧ (64 : Int) ≤ 2147483647 by decide) (show ((6 : Nat) : Int) + Op.lookupswitch.offset (#[(40, 195), (45, 167), (61, 137), (63, 246), (64, 246), (65, 112), (66, 112), (69, 137), (70, 90), (84, 90)] : Array (Int × Int)).toList 262 64 = ((252 : Nat) : Int) by decide), he]
    | false =>
      rw [(lkv_e (c := 63) hI.1 (by omega) (by omega)).mpr hc] at k1
      have hI1 : RsI T n (skp T n p) d q := ⟨hI.1, ⟨by omega, by omega⟩, n800, hd0, hq0⟩
      have lt := chr_lt (T := T) (n := n) (a := skp T n p) (by rw [hc]; decide)
      obtain ⟨K, rfl⟩ : ∃ K, M = K + 1 := ⟨M - 1, by omega⟩
      obtain ⟨w2, n1, n2, n3⟩ := c_nest1 (l := l) (δ := δ) (zz := (z, m)) hI1 k2 hdn.2
      have hI2 : RsI T n (skp T n p + 1) (d + 1) q := ⟨hI.1, ⟨by omega, by omega⟩, n800, ⟨by omega, by omega⟩, hq0⟩
      have fr2 : ∀ a, a ≠ ro → w2 a = w a := fun a ha => by rw [n3 a ha, k3 a ha]
      obtain ⟨F2, q2, -⟩ := n2.ob
      have sb2 := skp_b (T := T) (n := n) (a := skp T n p + 1) (by omega)
      obtain ⟨w3, t1, t2, t3⟩ := c_letter1 (l := l) (δ := δ) (zz := (z, m)) hI2 n2 hl
      have lt2 := chr_lt (T := T) (n := n) (a := skp T n (skp T n p + 1)) (by omega)
      have hR4 := t2
      obtain ⟨F3, TT, LL, u1, u2, u3, u4, u5, u6, u7, u8, u9, u10, u11⟩ := t2
      have x1 : ta ≠ ro := fun e => by rw [e, u1] at u8; cases u8
      have x2 : ll ≠ ro := fun e => by rw [e, u1] at u10; cases u10
      have x3 : ta ≠ ll := fun e => by rw [e, u10] at u8; cases u8
      obtain ⟨w4, hw4⟩ : ∃ w4, w4 = wup (wup (wup (wup w3 ro (.inr (4, fup F3 2 (.inl (skp T n (skp T n p + 1) + 1))))) ro (.inr (4, fup (fup F3 2 (.inl (skp T n (skp T n p + 1) + 1))) 4 (.inl (q + 1))))) ll (.inl (0, 9, iup LL (q + 1) (.inl (chr T n (skp T n (skp T n p + 1))))))) z (.inr (8, f0_8)) := ⟨_, rfl⟩
      have hq8 := hdn.1
      have hR5 : RS w4 ro ta ll T n (skp T n (skp T n p + 1) + 1) (d + 1) (q + 1) (iup L (q + 1) (chr T n (skp T n (skp T n p + 1)))) := by
        rw [hw4]
        refine ⟨fup (fup F3 2 (.inl (skp T n (skp T n p + 1) + 1))) 4 (.inl (q + 1)), TT, iup LL (q + 1) (.inl (chr T n (skp T n (skp T n p + 1)))), by rw [wup_n (by omega), wup_n (Ne.symm x2), wup_s], u2, u3, rfl, u5, rfl, u7, by rw [wup_n (by omega), wup_n x3, wup_n x1, wup_n x1]; exact u8, u9, by rw [wup_n (by omega), wup_s], fun v v1 v2 => ?_⟩
        by_cases e : v = q + 1
        · subst e; rw [iup_s, iup_s]
        · rw [iup_n e, iup_n e]; exact u11 v v1 (by omega)
      have fr4 : ∀ a, a < z → a ≠ ro → a ≠ ll → w4 a = w a := fun a c1 c2 c3 => by rw [hw4, wup_n (by omega), wup_n c3, wup_n c2, wup_n c2, t3 a c2, fr2 a c2]
      have hI5 : RsI T n (skp T n (skp T n p + 1) + 1) (d + 1) (q + 1) := ⟨hI.1, ⟨by omega, by omega⟩, n800, ⟨by omega, by omega⟩, ⟨by omega, by omega⟩⟩
      obtain ⟨F5, q5, -⟩ := hR5.ob
      have hx := (ih K w4 (z + 1) (m + 3) ⟨hI5, hL.up hl, ⟨by omega, by omega, by omega⟩, by omega⟩ hR5).1 rfl (by omega)
      obtain ⟨w6, z6, m6, x6, F6, a1, a2, a3, a4, a5, a6, a7⟩ := hx
      have he : (R_rea l δ (K + 1)).2.1.1 [.inr (.inr (some ro)), .inl 0] (w1, z, m) = some (.inr x6, w6, z6, m6) := by
        rw [N_X4_each]; unfold B_X4_each
        simp (disch := first | rfl | exact okv_i | exact okv_o | exact okv_a | exact b_ft _ | (simp only [wt_c, wt_0, vc_i, vc_l, vc_r] <;> decide) | omega | exact i32_r _ | exact b2i_r _ | exact b2i_01 _ | exact zAnd_r _ _ | exact zOr_r _ _ | exact zXor_r _ _ | exact zShl_r _ _ | exact zShr_r _ _ | exact zByte_r _ | exact zcmp_r _ _ | decide) only [Bool.decide_eq_true, Bool.decide_eq_false, ↓if_pos, ↓if_neg, ↓reduceIte, Nat.reduceEqDiff, Int.reduceLE, Int.reduceLT, Int.reduceEq, Int.reduceNe, Nat.reduceBEq, Int.reduceAdd, Int.reduceMul, Int.reduceSub, Int.reduceNeg, Nat.reduceAdd, not_false_eq_true, not_true_eq_false, decide_true, decide_false, Bool.not_true, Bool.not_false, Bool.true_and, Bool.false_and, Bool.and_true, Bool.and_false, Bool.true_or, Bool.false_or, Bool.or_true, Bool.or_false, Bool.not_not, decide_not, Decidable.not_not, ite_not, b2i_t, b2i_f, ne_eq, Bool.not_eq_true, Bool.not_eq_false, decide_eq_true_eq, decide_eq_false_iff_not, Bool.false_eq_true, Bool.true_eq_false, reduceCtorEq, if_true, if_false, ite_self, ite_b0, ite_b1, ite_0b, ite_1b, ite_bb, x_done, x_blk, x_lp, x_er, erL_0, erL_t, erL_f, kl_n, kl_i, kl_r, kl_l, bd_i, bd_r, bk_i, bk_e, bk_n, bk_r, bd_ite, bk_ite, lk_i, lk_e, lk_n, lk_r, lk_ite, ite_nx, b2i_i, b2i_n, b2i_0, b2i_1, b2i_e, bres_r, bres_ite, mres_v, mres_n, sF_1, sF_2, sA_1, sA_2, zcmp_lt, zcmp_gt, zcmp_le, zcmp_ge, zcmp_eq, List.lookup_cons, List.lookup_nil, mresX_v, mresX_n, mresX_t, bd_t, bres_t, y_rO, y_dO, y_dA, yO_o, yO_n, dR_e, rOx_s, rOx_n, dAx_s, dAx_n, wup_s, wup_n, fup_s, fup_n, beq_self_eq_true, Nat.reduceBEq, Nat.reduceLT, Nat.reduceSub, x_aload_n0, y_get, yGet_o, yLk_s, x_bipush, x_icmp_ge, x_iconst, x_goto, x_callG2, x_callG1, x_istore_n2, x_dup, x_iadd, y_put, y_putF, yPut_o, yPk_s, x_iload_n2, y_iast, ySt_a, x_istore_n3, x_new, x_iload_n3, x_iload_n1, x_callG4, x_astore4, x_isub, x_aload4, x_areturn, g1, g4, c_want1, n1, q2, t1, u1, u4, u6, u7, u10, ← hw4, q5, a1]
      refine ⟨w6, z6, m6, x6, F6, ?_, a2, a3, fun a b1 b2 b3 => by rw [a4 a (by omega) b2 b3, fr4 a b1 b2 b3], by omega, by omega, by omega⟩
      rw [N_X4_part]; unfold B_X4_part
      simp (disch := first | rfl | exact okv_i | exact okv_o | exact okv_a | exact b_ft _ | (simp only [wt_c, wt_0, vc_i, vc_l, vc_r] <;> decide) | omega | exact i32_r _ | exact b2i_r _ | exact b2i_01 _ | exact zAnd_r _ _ | exact zOr_r _ _ | exact zXor_r _ _ | exact zShl_r _ _ | exact zShr_r _ _ | exact zByte_r _ | exact zcmp_r _ _ | decide) only [Bool.decide_eq_true, Bool.decide_eq_false, ↓if_pos, ↓if_neg, ↓reduceIte, Nat.reduceEqDiff, Int.reduceLE, Int.reduceLT, Int.reduceEq, Int.reduceNe, Nat.reduceBEq, Int.reduceAdd, Int.reduceMul, Int.reduceSub, Int.reduceNeg, Nat.reduceAdd, not_false_eq_true, not_true_eq_false, decide_true, decide_false, Bool.not_true, Bool.not_false, Bool.true_and, Bool.false_and, Bool.and_true, Bool.and_false, Bool.true_or, Bool.false_or, Bool.or_true, Bool.or_false, Bool.not_not, decide_not, Decidable.not_not, ite_not, b2i_t, b2i_f, ne_eq, Bool.not_eq_true, Bool.not_eq_false, decide_eq_true_eq, decide_eq_false_iff_not, Bool.false_eq_true, Bool.true_eq_false, reduceCtorEq, if_true, if_false, ite_self, ite_b0, ite_b1, ite_0b, ite_1b, ite_bb, x_done, x_blk, x_lp, x_er, erL_0, erL_t, erL_f, kl_n, kl_i, kl_r, kl_l, bd_i, bd_r, bk_i, bk_e, bk_n, bk_r, bd_ite, bk_ite, lk_i, lk_e, lk_n, lk_r, lk_ite, ite_nx, b2i_i, b2i_n, b2i_0, b2i_1, b2i_e, bres_r, bres_ite, mres_v, mres_n, sF_1, sF_2, sA_1, sA_2, zcmp_lt, zcmp_gt, zcmp_le, zcmp_ge, zcmp_eq, List.lookup_cons, List.lookup_nil, mresX_v, mresX_n, mresX_t, bd_t, bres_t, y_rO, y_dO, y_dA, yO_o, yO_n, dR_e, rOx_s, rOx_n, dAx_s, dAx_n, wup_s, wup_n, fup_s, fup_n, beq_self_eq_true, Nat.reduceBEq, Nat.reduceLT, Nat.reduceSub, x_aload_n0, x_callG1, x_istore_n1, x_iload_n1, x_dup, y_get, yGet_o, yLk_s, x_iconst, x_iadd, y_put, y_putF, yPut_o, yPk_s, x_new, x_i2c, x_callG4, x_areturn, x_istore_n2, x_iload_n2, x_callG2, x_astore_n3, x_isub, x_aload_n3, x_astore4, x_bipush, x_icmp_ne, x_goto, x_aload4, x_athrow, g0, k1, g1, x_lookup 252 (show -2147483648 ≤ (63 : Int) ∧ (63 : Int) ≤ 2147483647 by decide) (show ((6 : Nat) : Int) + Op.lookupswitch.offset (#[(40, 195), (45, 167), (61, 137), (63, 246), (64, 246), (65, 112), (66, 112), (69, 137), (70, 90), (84, 90)] : Array (Int × Int)).toList 262 63 = ((252 : Nat) : Int) by decide), he]
  | @eacF s p d q L a f x hc hdn hl h ih =>
    intro N w z m hRI hR
    refine ⟨fun _ hN => ?_, fun z => absurd z (by decide), fun z => absurd z (by decide)⟩
    obtain ⟨hI, hL, hz, hδ⟩ := hRI
    have hp := hI.2.1
    have n800 := hI.2.2.1
    have hd0 := hI.2.2.2.1
    have hq0 := hI.2.2.2.2
    have sb := skp_b (T := T) hp.2
    obtain ⟨M, rfl⟩ : ∃ M, N = M + 1 := ⟨N - 1, by omega⟩
    obtain ⟨w1, k1, k2, k3⟩ := c_look (l := l) (δ := δ) (zz := (z, m)) hI hR
    obtain ⟨F0, g0, -⟩ := hR.ob
    obtain ⟨F1, g1, g2, g3, g4, g5⟩ := k2.ob
    cases a with
    | true =>
      rw [(lkv_e (c := 64) hI.1 (by omega) (by omega)).mpr hc] at k1
      have hI1 : RsI T n (skp T n p) d q := ⟨hI.1, ⟨by omega, by omega⟩, n800, hd0, hq0⟩
      have lt := chr_lt (T := T) (n := n) (a := skp T n p) (by rw [hc]; decide)
      obtain ⟨K, rfl⟩ : ∃ K, M = K + 1 := ⟨M - 1, by omega⟩
      obtain ⟨w2, n1, n2, n3⟩ := c_nest1 (l := l) (δ := δ) (zz := (z, m)) hI1 k2 hdn.2
      have hI2 : RsI T n (skp T n p + 1) (d + 1) q := ⟨hI.1, ⟨by omega, by omega⟩, n800, ⟨by omega, by omega⟩, hq0⟩
      have fr2 : ∀ a, a ≠ ro → w2 a = w a := fun a ha => by rw [n3 a ha, k3 a ha]
      obtain ⟨F2, q2, -⟩ := n2.ob
      have sb2 := skp_b (T := T) (n := n) (a := skp T n p + 1) (by omega)
      obtain ⟨w3, t1, t2, t3⟩ := c_letter1 (l := l) (δ := δ) (zz := (z, m)) hI2 n2 hl
      have lt2 := chr_lt (T := T) (n := n) (a := skp T n (skp T n p + 1)) (by omega)
      have hR4 := t2
      obtain ⟨F3, TT, LL, u1, u2, u3, u4, u5, u6, u7, u8, u9, u10, u11⟩ := t2
      have x1 : ta ≠ ro := fun e => by rw [e, u1] at u8; cases u8
      have x2 : ll ≠ ro := fun e => by rw [e, u1] at u10; cases u10
      have x3 : ta ≠ ll := fun e => by rw [e, u10] at u8; cases u8
      obtain ⟨w4, hw4⟩ : ∃ w4, w4 = wup (wup (wup (wup w3 ro (.inr (4, fup F3 2 (.inl (skp T n (skp T n p + 1) + 1))))) ro (.inr (4, fup (fup F3 2 (.inl (skp T n (skp T n p + 1) + 1))) 4 (.inl (q + 1))))) ll (.inl (0, 9, iup LL (q + 1) (.inl (chr T n (skp T n (skp T n p + 1))))))) z (.inr (8, f0_8)) := ⟨_, rfl⟩
      have hq8 := hdn.1
      have hR5 : RS w4 ro ta ll T n (skp T n (skp T n p + 1) + 1) (d + 1) (q + 1) (iup L (q + 1) (chr T n (skp T n (skp T n p + 1)))) := by
        rw [hw4]
        refine ⟨fup (fup F3 2 (.inl (skp T n (skp T n p + 1) + 1))) 4 (.inl (q + 1)), TT, iup LL (q + 1) (.inl (chr T n (skp T n (skp T n p + 1)))), by rw [wup_n (by omega), wup_n (Ne.symm x2), wup_s], u2, u3, rfl, u5, rfl, u7, by rw [wup_n (by omega), wup_n x3, wup_n x1, wup_n x1]; exact u8, u9, by rw [wup_n (by omega), wup_s], fun v v1 v2 => ?_⟩
        by_cases e : v = q + 1
        · subst e; rw [iup_s, iup_s]
        · rw [iup_n e, iup_n e]; exact u11 v v1 (by omega)
      have fr4 : ∀ a, a < z → a ≠ ro → a ≠ ll → w4 a = w a := fun a c1 c2 c3 => by rw [hw4, wup_n (by omega), wup_n c3, wup_n c2, wup_n c2, t3 a c2, fr2 a c2]
      have hI5 : RsI T n (skp T n (skp T n p + 1) + 1) (d + 1) (q + 1) := ⟨hI.1, ⟨by omega, by omega⟩, n800, ⟨by omega, by omega⟩, ⟨by omega, by omega⟩⟩
      obtain ⟨F5, q5, -⟩ := hR5.ob
      have hx := (ih K w4 (z + 1) (m + 3) ⟨hI5, hL.up hl, ⟨by omega, by omega, by omega⟩, by omega⟩ hR5).1 rfl (by omega)
      obtain ⟨w6, z6, m6, r6, a1, a2, a3, a4, a5, a6, a7⟩ := hx
      have e6 : w6 z = some (.inr (8, f0_8)) := by rw [a5 z (by omega) (by omega) (by omega), hw4, wup_s]
      obtain ⟨w7, F7, i1, i2, i3, i4, i5, i6⟩ := c_eachI (l := l) (δ := δ) (w := w6) (r := z) (p := r6) (vm := q + 1) (a := true) (zz := (z6, m6)) e6
      have i1 : (M_X9_init l δ).1 [.inr (.inr (some z)), .inr (.inr (some r6)), .inl (q + 1), .inl 1] (w6, z6, m6) = some (.inl none, w7, z6, m6) := i1
      obtain ⟨b1, b2, b3, -⟩ := h.b (by omega) (by omega) (by omega) (by omega) (hL.up hl)
      have hR7 : RS w7 ro ta ll T n x (d + 1) (q + 1) (iup L (q + 1) (chr T n (skp T n (skp T n p + 1)))) := a2.keep (i6 ro (by omega)) (i6 ta (by omega)) (i6 ll (by omega))
      obtain ⟨F8, TT8, LL8, y1, y2, y3, y4, y5, y6, y7, y8, y9, y10, y11⟩ := hR7
      have he : (R_rea l δ (K + 1)).2.1.1 [.inr (.inr (some ro)), .inl 1] (w1, z, m) = some (.inl (some (.inr (.inr (some z)))), wup (wup w7 ro (.inr (4, fup F8 4 (.inl q)))) ro (.inr (4, fup (fup F8 4 (.inl q)) 3 (.inl d))), z6, m6) := by
        rw [N_X4_each]; unfold B_X4_each
        simp (disch := first | rfl | exact okv_i | exact okv_o | exact okv_a | exact b_ft _ | (simp only [wt_c, wt_0, vc_i, vc_l, vc_r] <;> decide) | omega | exact i32_r _ | exact b2i_r _ | exact b2i_01 _ | exact zAnd_r _ _ | exact zOr_r _ _ | exact zXor_r _ _ | exact zShl_r _ _ | exact zShr_r _ _ | exact zByte_r _ | exact zcmp_r _ _ | decide) only [Bool.decide_eq_true, Bool.decide_eq_false, ↓if_pos, ↓if_neg, ↓reduceIte, Nat.reduceEqDiff, Int.reduceLE, Int.reduceLT, Int.reduceEq, Int.reduceNe, Nat.reduceBEq, Int.reduceAdd, Int.reduceMul, Int.reduceSub, Int.reduceNeg, Nat.reduceAdd, not_false_eq_true, not_true_eq_false, decide_true, decide_false, Bool.not_true, Bool.not_false, Bool.true_and, Bool.false_and, Bool.and_true, Bool.and_false, Bool.true_or, Bool.false_or, Bool.or_true, Bool.or_false, Bool.not_not, decide_not, Decidable.not_not, ite_not, b2i_t, b2i_f, ne_eq, Bool.not_eq_true, Bool.not_eq_false, decide_eq_true_eq, decide_eq_false_iff_not, Bool.false_eq_true, Bool.true_eq_false, reduceCtorEq, if_true, if_false, ite_self, ite_b0, ite_b1, ite_0b, ite_1b, ite_bb, x_done, x_blk, x_lp, x_er, erL_0, erL_t, erL_f, kl_n, kl_i, kl_r, kl_l, bd_i, bd_r, bk_i, bk_e, bk_n, bk_r, bd_ite, bk_ite, lk_i, lk_e, lk_n, lk_r, lk_ite, ite_nx, b2i_i, b2i_n, b2i_0, b2i_1, b2i_e, bres_r, bres_ite, mres_v, mres_n, sF_1, sF_2, sA_1, sA_2, zcmp_lt, zcmp_gt, zcmp_le, zcmp_ge, zcmp_eq, List.lookup_cons, List.lookup_nil, mresX_v, mresX_n, mresX_t, bd_t, bres_t, y_rO, y_dO, y_dA, yO_o, yO_n, dR_e, rOx_s, rOx_n, dAx_s, dAx_n, wup_s, wup_n, fup_s, fup_n, beq_self_eq_true, Nat.reduceBEq, Nat.reduceLT, Nat.reduceSub, x_aload_n0, y_get, yGet_o, yLk_s, x_bipush, x_icmp_ge, x_iconst, x_goto, x_callG2, x_callG1, x_istore_n2, x_dup, x_iadd, y_put, y_putF, yPut_o, yPk_s, x_iload_n2, y_iast, ySt_a, x_istore_n3, x_new, x_iload_n3, x_iload_n1, x_callG4, x_astore4, x_isub, x_aload4, x_areturn, g1, g4, c_want1, n1, q2, t1, u1, u4, u6, u7, u10, ← hw4, q5, a1, i1, y1, y5, y6, Int.add_sub_cancel]
      have hR9 : RS (wup (wup w7 ro (.inr (4, fup F8 4 (.inl q)))) ro (.inr (4, fup (fup F8 4 (.inl q)) 3 (.inl d)))) ro ta ll T n x d q L := by
        refine ⟨fup (fup F8 4 (.inl q)) 3 (.inl d), TT8, LL8, wup_s, y2, y3, y4, rfl, rfl, y7, by rw [wup_n x1, wup_n x1]; exact y8, y9, by rw [wup_n x2, wup_n x2]; exact y10, fun v v1 v2 => ?_⟩
        rw [y11 v v1 (by omega), iup_n (by omega)]
      refine ⟨_, z6, m6, z, ?_, hR9, ?_, ⟨by omega, by omega⟩, fun a c1 c2 c3 => by rw [wup_n c2, wup_n c2, i6 a (by omega), a5 a (by omega) c2 c3, fr4 a c1 c2 c3], by omega, by omega⟩
      · rw [N_X4_part]; unfold B_X4_part
        simp (disch := first | rfl | exact okv_i | exact okv_o | exact okv_a | exact b_ft _ | (simp only [wt_c, wt_0, vc_i, vc_l, vc_r] <;> decide) | omega | exact i32_r _ | exact b2i_r _ | exact b2i_01 _ | exact zAnd_r _ _ | exact zOr_r _ _ | exact zXor_r _ _ | exact zShl_r _ _ | exact zShr_r _ _ | exact zByte_r _ | exact zcmp_r _ _ | decide) only [Bool.decide_eq_true, Bool.decide_eq_false, ↓if_pos, ↓if_neg, ↓reduceIte, Nat.reduceEqDiff, Int.reduceLE, Int.reduceLT, Int.reduceEq, Int.reduceNe, Nat.reduceBEq, Int.reduceAdd, Int.reduceMul, Int.reduceSub, Int.reduceNeg, Nat.reduceAdd, not_false_eq_true, not_true_eq_false, decide_true, decide_false, Bool.not_true, Bool.not_false, Bool.true_and, Bool.false_and, Bool.and_true, Bool.and_false, Bool.true_or, Bool.false_or, Bool.or_true, Bool.or_false, Bool.not_not, decide_not, Decidable.not_not, ite_not, b2i_t, b2i_f, ne_eq, Bool.not_eq_true, Bool.not_eq_false, decide_eq_true_eq, decide_eq_false_iff_not, Bool.false_eq_true, Bool.true_eq_false, reduceCtorEq, if_true, if_false, ite_self, ite_b0, ite_b1, ite_0b, ite_1b, ite_bb, x_done, x_blk, x_lp, x_er, erL_0, erL_t, erL_f, kl_n, kl_i, kl_r, kl_l, bd_i, bd_r, bk_i, bk_e, bk_n, bk_r, bd_ite, bk_ite, lk_i, lk_e, lk_n, lk_r, lk_ite, ite_nx, b2i_i, b2i_n, b2i_0, b2i_1, b2i_e, bres_r, bres_ite, mres_v, mres_n, sF_1, sF_2, sA_1, sA_2, zcmp_lt, zcmp_gt, zcmp_le, zcmp_ge, zcmp_eq, List.lookup_cons, List.lookup_nil, mresX_v, mresX_n, mresX_t, bd_t, bres_t, y_rO, y_dO, y_dA, yO_o, yO_n, dR_e, rOx_s, rOx_n, dAx_s, dAx_n, wup_s, wup_n, fup_s, fup_n, beq_self_eq_true, Nat.reduceBEq, Nat.reduceLT, Nat.reduceSub, x_aload_n0, x_callG1, x_istore_n1, x_iload_n1, x_dup, y_get, yGet_o, yLk_s, x_iconst, x_iadd, y_put, y_putF, yPut_o, yPk_s, x_new, x_i2c, x_callG4, x_areturn, x_istore_n2, x_iload_n2, x_callG2, x_astore_n3, x_isub, x_aload_n3, x_astore4, x_bipush, x_icmp_ne, x_goto, x_aload4, x_athrow, g0, k1, g1, x_lookup 252 (show -2147483648 ≤ (64 : Int) ∧ (64 : Int) ≤ 2147483647 by decide) (show ((6 : Nat) : Int) + Op.lookupswitch.offset (#[(40, 195), (45, 167), (61, 137), (63, 246), (64, 246), (65, 112), (66, 112), (69, 137), (70, 90), (84, 90)] : Array (Int × Int)).toList 262 64 = ((252 : Nat) : Int) by decide), he]
      · rw [FR_each]
        refine ⟨⟨by omega, by omega⟩, F7, r6, by rw [wup_n (by omega), wup_n (by omega)]; exact i2, i3, i4, i5, FR.mono (fun a ha => ⟨⟨by omega, ha.2⟩, ?_⟩) b3 _ _ _ a3⟩
        rw [wup_n (by omega), wup_n (by omega), i6 a (by omega)]
    | false =>
      rw [(lkv_e (c := 63) hI.1 (by omega) (by omega)).mpr hc] at k1
      have hI1 : RsI T n (skp T n p) d q := ⟨hI.1, ⟨by omega, by omega⟩, n800, hd0, hq0⟩
      have lt := chr_lt (T := T) (n := n) (a := skp T n p) (by rw [hc]; decide)
      obtain ⟨K, rfl⟩ : ∃ K, M = K + 1 := ⟨M - 1, by omega⟩
      obtain ⟨w2, n1, n2, n3⟩ := c_nest1 (l := l) (δ := δ) (zz := (z, m)) hI1 k2 hdn.2
      have hI2 : RsI T n (skp T n p + 1) (d + 1) q := ⟨hI.1, ⟨by omega, by omega⟩, n800, ⟨by omega, by omega⟩, hq0⟩
      have fr2 : ∀ a, a ≠ ro → w2 a = w a := fun a ha => by rw [n3 a ha, k3 a ha]
      obtain ⟨F2, q2, -⟩ := n2.ob
      have sb2 := skp_b (T := T) (n := n) (a := skp T n p + 1) (by omega)
      obtain ⟨w3, t1, t2, t3⟩ := c_letter1 (l := l) (δ := δ) (zz := (z, m)) hI2 n2 hl
      have lt2 := chr_lt (T := T) (n := n) (a := skp T n (skp T n p + 1)) (by omega)
      have hR4 := t2
      obtain ⟨F3, TT, LL, u1, u2, u3, u4, u5, u6, u7, u8, u9, u10, u11⟩ := t2
      have x1 : ta ≠ ro := fun e => by rw [e, u1] at u8; cases u8
      have x2 : ll ≠ ro := fun e => by rw [e, u1] at u10; cases u10
      have x3 : ta ≠ ll := fun e => by rw [e, u10] at u8; cases u8
      obtain ⟨w4, hw4⟩ : ∃ w4, w4 = wup (wup (wup (wup w3 ro (.inr (4, fup F3 2 (.inl (skp T n (skp T n p + 1) + 1))))) ro (.inr (4, fup (fup F3 2 (.inl (skp T n (skp T n p + 1) + 1))) 4 (.inl (q + 1))))) ll (.inl (0, 9, iup LL (q + 1) (.inl (chr T n (skp T n (skp T n p + 1))))))) z (.inr (8, f0_8)) := ⟨_, rfl⟩
      have hq8 := hdn.1
      have hR5 : RS w4 ro ta ll T n (skp T n (skp T n p + 1) + 1) (d + 1) (q + 1) (iup L (q + 1) (chr T n (skp T n (skp T n p + 1)))) := by
        rw [hw4]
        refine ⟨fup (fup F3 2 (.inl (skp T n (skp T n p + 1) + 1))) 4 (.inl (q + 1)), TT, iup LL (q + 1) (.inl (chr T n (skp T n (skp T n p + 1)))), by rw [wup_n (by omega), wup_n (Ne.symm x2), wup_s], u2, u3, rfl, u5, rfl, u7, by rw [wup_n (by omega), wup_n x3, wup_n x1, wup_n x1]; exact u8, u9, by rw [wup_n (by omega), wup_s], fun v v1 v2 => ?_⟩
        by_cases e : v = q + 1
        · subst e; rw [iup_s, iup_s]
        · rw [iup_n e, iup_n e]; exact u11 v v1 (by omega)
      have fr4 : ∀ a, a < z → a ≠ ro → a ≠ ll → w4 a = w a := fun a c1 c2 c3 => by rw [hw4, wup_n (by omega), wup_n c3, wup_n c2, wup_n c2, t3 a c2, fr2 a c2]
      have hI5 : RsI T n (skp T n (skp T n p + 1) + 1) (d + 1) (q + 1) := ⟨hI.1, ⟨by omega, by omega⟩, n800, ⟨by omega, by omega⟩, ⟨by omega, by omega⟩⟩
      obtain ⟨F5, q5, -⟩ := hR5.ob
      have hx := (ih K w4 (z + 1) (m + 3) ⟨hI5, hL.up hl, ⟨by omega, by omega, by omega⟩, by omega⟩ hR5).1 rfl (by omega)
      obtain ⟨w6, z6, m6, r6, a1, a2, a3, a4, a5, a6, a7⟩ := hx
      have e6 : w6 z = some (.inr (8, f0_8)) := by rw [a5 z (by omega) (by omega) (by omega), hw4, wup_s]
      obtain ⟨w7, F7, i1, i2, i3, i4, i5, i6⟩ := c_eachI (l := l) (δ := δ) (w := w6) (r := z) (p := r6) (vm := q + 1) (a := false) (zz := (z6, m6)) e6
      have i1 : (M_X9_init l δ).1 [.inr (.inr (some z)), .inr (.inr (some r6)), .inl (q + 1), .inl 0] (w6, z6, m6) = some (.inl none, w7, z6, m6) := i1
      obtain ⟨b1, b2, b3, -⟩ := h.b (by omega) (by omega) (by omega) (by omega) (hL.up hl)
      have hR7 : RS w7 ro ta ll T n x (d + 1) (q + 1) (iup L (q + 1) (chr T n (skp T n (skp T n p + 1)))) := a2.keep (i6 ro (by omega)) (i6 ta (by omega)) (i6 ll (by omega))
      obtain ⟨F8, TT8, LL8, y1, y2, y3, y4, y5, y6, y7, y8, y9, y10, y11⟩ := hR7
      have he : (R_rea l δ (K + 1)).2.1.1 [.inr (.inr (some ro)), .inl 0] (w1, z, m) = some (.inl (some (.inr (.inr (some z)))), wup (wup w7 ro (.inr (4, fup F8 4 (.inl q)))) ro (.inr (4, fup (fup F8 4 (.inl q)) 3 (.inl d))), z6, m6) := by
        rw [N_X4_each]; unfold B_X4_each
        simp (disch := first | rfl | exact okv_i | exact okv_o | exact okv_a | exact b_ft _ | (simp only [wt_c, wt_0, vc_i, vc_l, vc_r] <;> decide) | omega | exact i32_r _ | exact b2i_r _ | exact b2i_01 _ | exact zAnd_r _ _ | exact zOr_r _ _ | exact zXor_r _ _ | exact zShl_r _ _ | exact zShr_r _ _ | exact zByte_r _ | exact zcmp_r _ _ | decide) only [Bool.decide_eq_true, Bool.decide_eq_false, ↓if_pos, ↓if_neg, ↓reduceIte, Nat.reduceEqDiff, Int.reduceLE, Int.reduceLT, Int.reduceEq, Int.reduceNe, Nat.reduceBEq, Int.reduceAdd, Int.reduceMul, Int.reduceSub, Int.reduceNeg, Nat.reduceAdd, not_false_eq_true, not_true_eq_false, decide_true, decide_false, Bool.not_true, Bool.not_false, Bool.true_and, Bool.false_and, Bool.and_true, Bool.and_false, Bool.true_or, Bool.false_or, Bool.or_true, Bool.or_false, Bool.not_not, decide_not, Decidable.not_not, ite_not, b2i_t, b2i_f, ne_eq, Bool.not_eq_true, Bool.not_eq_false, decide_eq_true_eq, decide_eq_false_iff_not, Bool.false_eq_true, Bool.true_eq_false, reduceCtorEq, if_true, if_false, ite_self, ite_b0, ite_b1, ite_0b, ite_1b, ite_bb, x_done, x_blk, x_lp, x_er, erL_0, erL_t, erL_f, kl_n, kl_i, kl_r, kl_l, bd_i, bd_r, bk_i, bk_e, bk_n, bk_r, bd_ite, bk_ite, lk_i, lk_e, lk_n, lk_r, lk_ite, ite_nx, b2i_i, b2i_n, b2i_0, b2i_1, b2i_e, bres_r, bres_ite, mres_v, mres_n, sF_1, sF_2, sA_1, sA_2, zcmp_lt, zcmp_gt, zcmp_le, zcmp_ge, zcmp_eq, List.lookup_cons, List.lookup_nil, mresX_v, mresX_n, mresX_t, bd_t, bres_t, y_rO, y_dO, y_dA, yO_o, yO_n, dR_e, rOx_s, rOx_n, dAx_s, dAx_n, wup_s, wup_n, fup_s, fup_n, beq_self_eq_true, Nat.reduceBEq, Nat.reduceLT, Nat.reduceSub, x_aload_n0, y_get, yGet_o, yLk_s, x_bipush, x_icmp_ge, x_iconst, x_goto, x_callG2, x_callG1, x_istore_n2, x_dup, x_iadd, y_put, y_putF, yPut_o, yPk_s, x_iload_n2, y_iast, ySt_a, x_istore_n3, x_new, x_iload_n3, x_iload_n1, x_callG4, x_astore4, x_isub, x_aload4, x_areturn, g1, g4, c_want1, n1, q2, t1, u1, u4, u6, u7, u10, ← hw4, q5, a1, i1, y1, y5, y6, Int.add_sub_cancel]
      have hR9 : RS (wup (wup w7 ro (.inr (4, fup F8 4 (.inl q)))) ro (.inr (4, fup (fup F8 4 (.inl q)) 3 (.inl d)))) ro ta ll T n x d q L := by
        refine ⟨fup (fup F8 4 (.inl q)) 3 (.inl d), TT8, LL8, wup_s, y2, y3, y4, rfl, rfl, y7, by rw [wup_n x1, wup_n x1]; exact y8, y9, by rw [wup_n x2, wup_n x2]; exact y10, fun v v1 v2 => ?_⟩
        rw [y11 v v1 (by omega), iup_n (by omega)]
      refine ⟨_, z6, m6, z, ?_, hR9, ?_, ⟨by omega, by omega⟩, fun a c1 c2 c3 => by rw [wup_n c2, wup_n c2, i6 a (by omega), a5 a (by omega) c2 c3, fr4 a c1 c2 c3], by omega, by omega⟩
      · rw [N_X4_part]; unfold B_X4_part
        simp (disch := first | rfl | exact okv_i | exact okv_o | exact okv_a | exact b_ft _ | (simp only [wt_c, wt_0, vc_i, vc_l, vc_r] <;> decide) | omega | exact i32_r _ | exact b2i_r _ | exact b2i_01 _ | exact zAnd_r _ _ | exact zOr_r _ _ | exact zXor_r _ _ | exact zShl_r _ _ | exact zShr_r _ _ | exact zByte_r _ | exact zcmp_r _ _ | decide) only [Bool.decide_eq_true, Bool.decide_eq_false, ↓if_pos, ↓if_neg, ↓reduceIte, Nat.reduceEqDiff, Int.reduceLE, Int.reduceLT, Int.reduceEq, Int.reduceNe, Nat.reduceBEq, Int.reduceAdd, Int.reduceMul, Int.reduceSub, Int.reduceNeg, Nat.reduceAdd, not_false_eq_true, not_true_eq_false, decide_true, decide_false, Bool.not_true, Bool.not_false, Bool.true_and, Bool.false_and, Bool.and_true, Bool.and_false, Bool.true_or, Bool.false_or, Bool.or_true, Bool.or_false, Bool.not_not, decide_not, Decidable.not_not, ite_not, b2i_t, b2i_f, ne_eq, Bool.not_eq_true, Bool.not_eq_false, decide_eq_true_eq, decide_eq_false_iff_not, Bool.false_eq_true, Bool.true_eq_false, reduceCtorEq, if_true, if_false, ite_self, ite_b0, ite_b1, ite_0b, ite_1b, ite_bb, x_done, x_blk, x_lp, x_er, erL_0, erL_t, erL_f, kl_n, kl_i, kl_r, kl_l, bd_i, bd_r, bk_i, bk_e, bk_n, bk_r, bd_ite, bk_ite, lk_i, lk_e, lk_n, lk_r, lk_ite, ite_nx, b2i_i, b2i_n, b2i_0, b2i_1, b2i_e, bres_r, bres_ite, mres_v, mres_n, sF_1, sF_2, sA_1, sA_2, zcmp_lt, zcmp_gt, zcmp_le, zcmp_ge, zcmp_eq, List.lookup_cons, List.lookup_nil, mresX_v, mresX_n, mresX_t, bd_t, bres_t, y_rO, y_dO, y_dA, yO_o, yO_n, dR_e, rOx_s, rOx_n, dAx_s, dAx_n, wup_s, wup_n, fup_s, fup_n, beq_self_eq_true, Nat.reduceBEq, Nat.reduceLT, Nat.reduceSub, x_aload_n0, x_callG1, x_istore_n1, x_iload_n1, x_dup, y_get, yGet_o, yLk_s, x_iconst, x_iadd, y_put, y_putF, yPut_o, yPk_s, x_new, x_i2c, x_callG4, x_areturn, x_istore_n2, x_iload_n2, x_callG2, x_astore_n3, x_isub, x_aload_n3, x_astore4, x_bipush, x_icmp_ne, x_goto, x_aload4, x_athrow, g0, k1, g1, x_lookup 252 (show -2147483648 ≤ (63 : Int) ∧ (63 : Int) ≤ 2147483647 by decide) (show ((6 : Nat) : Int) + Op.lookupswitch.offset (#[(40, 195), (45, 167), (61, 137), (63, 246), (64, 246), (65, 112), (66, 112), (69, 137), (70, 90), (84, 90)] : Array (Int × Int)).toList 262 63 = ((252 : Nat) : Int) by decide), he]
      · rw [FR_each]
        refine ⟨⟨by omega, by omega⟩, F7, r6, by rw [wup_n (by omega), wup_n (by omega)]; exact i2, i3, i4, i5, FR.mono (fun a ha => ⟨⟨by omega, ha.2⟩, ?_⟩) b3 _ _ _ a3⟩
        rw [wup_n (by omega), wup_n (by omega), i6 a (by omega)]
  | _ => sorry
