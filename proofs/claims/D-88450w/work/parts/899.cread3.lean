/-! ===== the component: how a Reader reads ===== -/
set_option maxRecDepth 100000
theorem RS.keep {w w' : Hp} {ro ta ll : Nat} {T : Int → Int} {n p d q : Int} {L : Int → Int} (h : RS w ro ta ll T n p d q L) (h1 : w' ro = w ro) (h2 : w' ta = w ta) (h3 : w' ll = w ll) : RS w' ro ta ll T n p d q L := by
  obtain ⟨F, TT, LL, k1, k2, k3, k4, k5, k6, k7, k8, k9, k10, k11⟩ := h
  exact ⟨F, TT, LL, h1.trans k1, k2, k3, k4, k5, k6, k7, h2.trans k8, k9, h3.trans k10, k11⟩
theorem RS.ob {w : Hp} {ro ta ll : Nat} {T : Int → Int} {n p d q : Int} {L : Int → Int} (h : RS w ro ta ll T n p d q L) : ∃ F, w ro = some (.inr (4, F)) ∧ F 2 = .inl p ∧ F 3 = .inl d ∧ F 4 = .inl q ∧ F 5 = .inr (.inr (some ll)) := by
  obtain ⟨F, TT, LL, k1, k2, k3, k4, k5, k6, k7, -⟩ := h
  exact ⟨F, k1, k4, k5, k6, k7⟩
theorem RS.at {w : Hp} {ro ta ll : Nat} {T : Int → Int} {n p d q : Int} {L : Int → Int} (h : RS w ro ta ll T n p d q L) {F : Nat → V} (hF : w ro = some (.inr (4, F))) (p' : Int) : RS (wup w ro (.inr (4, fup F 2 (.inl p')))) ro ta ll T n p' d q L := by
  have h0 := h
  obtain ⟨F', TT, LL, k1, k2, k3, k4, k5, k6, k7, -⟩ := h
  rw [hF] at k1
  cases k1
  exact h0.up p' d ⟨F, hF, rfl, rfl, rfl, by rw [fup_n (by decide)]; exact k5, rfl, rfl⟩
theorem RS.dp {w : Hp} {ro ta ll : Nat} {T : Int → Int} {n p d q : Int} {L : Int → Int} (h : RS w ro ta ll T n p d q L) {F : Nat → V} (hF : w ro = some (.inr (4, F))) (d' : Int) : RS (wup w ro (.inr (4, fup F 3 (.inl d')))) ro ta ll T n p d' q L := by
  have h0 := h
  obtain ⟨F', TT, LL, k1, k2, k3, k4, k5, k6, k7, -⟩ := h
  rw [hF] at k1
  cases k1
  exact h0.up p d' ⟨F, hF, rfl, rfl, by rw [fup_n (by decide)]; exact k4, rfl, rfl, rfl⟩
theorem FR.cls {w : Hp} {Z : Nat → Prop} {f : Fo} {q : Int} {E : Int → V} {i : Int} {p : Nat} (h : FR w Z f E i p) (hf : Fo.wf f false q) : ∃ ci F, w p = some (.inr (ci, F)) ∧ 5 ≤ ci ∧ ci < 17 := by
  rcases wf_f hf with ⟨k', m', n', rfl, h'⟩ | ⟨g, rfl, h'⟩ | ⟨a, g, rfl, hq', h'⟩ | ⟨a, l', rfl, h2', h'⟩
  · rw [FR_atom h'] at h; obtain ⟨-, F, h1, -⟩ := h; exact ⟨5, F, h1, by omega⟩
  · rw [FR_not] at h; obtain ⟨-, F, q, h1, -⟩ := h; exact ⟨7, F, h1, by omega⟩
  · rw [FR_each] at h; obtain ⟨-, F, q, h1, -⟩ := h; exact ⟨8, F, h1, by omega⟩
  · rw [FR_many] at h; obtain ⟨-, F, la, e, c, E', h1, -⟩ := h; exact ⟨9, F, h1, by omega⟩
/-- what a reading of a part or a formula ends with -/
def RdR (w : Hp) (z m ro ta ll : Nat) (T : Int → Int) (n p d q : Int) (L : Int → Int) (x : Option (Rs × St)) : PR → Prop
  | .inl e => ∃ w' z' m' o F, x = some (.inr o, w', z', m') ∧ w' o = some (.inr (6, F)) ∧ F 6 = .inl e ∧ (∀ a, a < z → a ≠ ro → a ≠ ll → w' a = w a) ∧ z ≤ z' ∧ (z' : Int) ≤ z + 4 * (e - p + 1) ∧ (m' : Int) ≤ m + 64 * (e - p + 1)
  | .inr (f, y) => ∃ w' z' m' r, x = some (.inl (some (.inr (.inr (some r)))), w', z', m') ∧ RS w' ro ta ll T n y d q L ∧ FR w' (fun a => z ≤ a ∧ a < z') f (fun _ => .inl 0) 0 r ∧ (z ≤ r ∧ r < z') ∧ (∀ a, a < z → a ≠ ro → a ≠ ll → w' a = w a) ∧ (z' : Int) ≤ z + 4 * (y - p) ∧ (m' : Int) ≤ m + 64 * (y - p)
/-- what the loop over parts ends with -/
def RdL (δ : Dl) (w : Hp) (z m ro ta ll la e B : Nat) (E : Int → V) (k : Nat) (s : Bool) (T : Int → Int) (n p d q : Int) (L : Int → Int) (x : Option Ou) : PR → Prop
  | .inl er => ∃ w' z' m' o F Lc', x = some (.inr (.inr (.inr (o, Lc', w', z', m')))) ∧ w' o = some (.inr (6, F)) ∧ F 6 = .inl er ∧ (∀ a, a < z → a ≠ ro → a ≠ ll → a ≠ la → a ≠ e → w' a = w a) ∧ z ≤ z' ∧ (z' : Int) ≤ z + 4 * (er - p) ∧ (m' : Int) + B ≤ m + 64 * (er - p) + 8 * k + 40
  | .inr (f, y) => ∃ w' z' m' e' E' B', x = some (.inr (.inl (72, [], [some (.inr (.inr (some ro))), none, some (.inl (Fo.sgM s)), some (.inr (.inr (some la)))], w', z', m'))) ∧ RS w' ro ta ll T n y d q L ∧ LSt δ w' la e' z' E' (k + Fo.len f) B' ∧ (e' = e ∨ z ≤ e') ∧ (∀ i : Int, 0 ≤ i → i < k → E' i = E i) ∧ FR w' (fun a => z ≤ a ∧ a < z' ∧ a ≠ e') f E' k 0 ∧ (∀ a, a < z → a ≠ ro → a ≠ ll → a ≠ la → a ≠ e → w' a = w a) ∧ z ≤ z' ∧ (z' : Int) + 3 * Fo.len f ≤ z + 4 * (y - p) ∧ (m' : Int) + B + 64 * Fo.len f ≤ m + B' + 64 * (y - p)
/-- what is known where something is read -/
def RdI (δ : Dl) (T : Int → Int) (n p d q : Int) (L : Int → Int) (z ro ta ll : Nat) : Prop := RsI T n p d q ∧ Lok L q ∧ (ro < z ∧ ta < z ∧ ll < z) ∧ δ.2.2 0 < z
theorem thr_R {w w1 : Hp} {z m z1 m1 ro ta ll : Nat} {T : Int → Int} {n p d q er : Int} {L : Int → Int} {x : Option (Rs × St)} (h : Thr w1 z1 m1 er x) (hk : ∀ a, a < z → a ≠ ro → a ≠ ll → w1 a = w a) (hz : z ≤ z1) (hb : (z1 : Int) + 1 ≤ z + 4 * (er - p + 1)) (hm : (m1 : Int) + 7 ≤ m + 64 * (er - p + 1)) : RdR w z m ro ta ll T n p d q L x (.inl er) := by
  obtain ⟨w', F, h1, h2, h3, h4⟩ := h
  exact ⟨w', z1 + 1, m1 + 7, z1, F, h1, h2, h3, fun a a1 a2 a3 => by rw [h4 a (by omega), hk a a1 a2 a3], by omega, by omega, by omega⟩
theorem lk268 {v : Int} (h : ¬ (v = 84 ∨ v = 70 ∨ v = 65 ∨ v = 66 ∨ v = 69 ∨ v = 61 ∨ v = 45 ∨ v = 40 ∨ v = 64 ∨ v = 63)) : ((6 : Nat) : Int) + Op.lookupswitch.offset (#[(40, 195), (45, 167), (61, 137), (63, 246), (64, 246), (65, 112), (66, 112), (69, 137), (70, 90), (84, 90)] : Array (Int × Int)).toList 262 v = ((268 : Nat) : Int) := by
  show (6 : Int) + (if (40 : Int) = v then 195 else if (45 : Int) = v then 167 else if (61 : Int) = v then 137 else if (63 : Int) = v then 246 else if (64 : Int) = v then 246 else if (65 : Int) = v then 112 else if (66 : Int) = v then 112 else if (69 : Int) = v then 137 else if (70 : Int) = v then 90 else if (84 : Int) = v then 90 else 262) = 268
  rw [if_neg (by omega), if_neg (by omega), if_neg (by omega), if_neg (by omega), if_neg (by omega), if_neg (by omega), if_neg (by omega), if_neg (by omega), if_neg (by omega), if_neg (by omega)]
  rfl
theorem c_rd {l : Launch} {δ : Dl} {ro ta ll : Nat} {T : Int → Int} {n : Int} {md : Nat} {s : Bool} {p d q : Int} {L : Int → Int} {r : PR} (h : PP T n md s p d q L r) : ∀ (N : Nat) (w : Hp) (z m : Nat), RdI δ T n p d q L z ro ta ll → (md = 0 → 2 * (12 - d) + 2 ≤ N → RS w ro ta ll T n p d q L → RdR w z m ro ta ll T n p d q L ((R_rea l δ N).1.1 [.inr (.inr (some ro))] (w, z, m)) r) ∧ (md = 1 → 2 * (12 - d) + 3 ≤ N → RS w ro ta ll T n p d q L → RdR w z m ro ta ll T n p d q L ((R_rea l δ N).2.2.1 [.inr (.inr (some ro))] (w, z, m)) r) ∧ (md = 2 → 2 * (12 - d) + 2 ≤ N → ∀ p0 : Int, (0 ≤ p0 ∧ p0 ≤ n) → skp T n p0 = p → RS w ro ta ll T n p0 d q L → ∀ (la e : Nat) (E : Int → V) (k B : Nat), LSt δ w la e z E k B → 1 ≤ k → (k : Int) + (n - p) ≤ 20000 → RdL δ w z m ro ta ll la e B E k s T n p d q L (lpD 40 (B_X4_formula_L40 l δ N (R_rea l δ N)).1 [] [some (.inr (.inr (some ro))), none, some (.inl (Fo.sgM s)), some (.inr (.inr (some la)))] (w, z, m)) r) := by
  induction h using PP.ind with
  | @bad s p d q L h =>
    intro N w z m hRI
    refine ⟨fun _ hN hR => ?_, fun z => absurd z (by decide), fun z => absurd z (by decide)⟩
    obtain ⟨hI, hL, hz, hδ⟩ := hRI
    have hp := hI.2.1
    have n800 := hI.2.2.1
    have hd0 := hI.2.2.2.1
    have hq0 := hI.2.2.2.2
    have sb := skp_b (T := T) hp.2
    obtain ⟨M, rfl⟩ : ∃ M, N = M + 1 := ⟨N - 1, by omega⟩
    obtain ⟨w1, k1, k2, k3⟩ := c_look (l := l) (δ := δ) (zz := (z, m)) hI hR
    obtain ⟨F0, g0, -⟩ := hR.ob
    obtain ⟨F1, g1, g2, g3, g4, g5⟩ := k2.ob
    have lr := lkv_r (n := n) (a := skp T n p) hI.1 (by omega)
    have hn : ¬ (lkv T n (skp T n p) = 84 ∨ lkv T n (skp T n p) = 70 ∨ lkv T n (skp T n p) = 65 ∨ lkv T n (skp T n p) = 66 ∨ lkv T n (skp T n p) = 69 ∨ lkv T n (skp T n p) = 61 ∨ lkv T n (skp T n p) = 45 ∨ lkv T n (skp T n p) = 40 ∨ lkv T n (skp T n p) = 64 ∨ lkv T n (skp T n p) = 63) := fun q => h (by
      have key : ∀ c : Int, (0 ≤ c ∧ c ≤ 127) → lkv T n (skp T n p) = c → chr T n (skp T n p) = c := fun c hc e => (lkv_e hI.1 (by omega) hc).mp e
      rcases q with e | e | e | e | e | e | e | e | e | e
      · exact Or.inl (key _ (by decide) e)
      · exact Or.inr (Or.inl (key _ (by decide) e))
      · exact Or.inr (Or.inr (Or.inl (key _ (by decide) e)))
      · exact Or.inr (Or.inr (Or.inr (Or.inl (key _ (by decide) e))))
      · exact Or.inr (Or.inr (Or.inr (Or.inr (Or.inl (key _ (by decide) e)))))
      · exact Or.inr (Or.inr (Or.inr (Or.inr (Or.inr (Or.inl (key _ (by decide) e))))))
      · exact Or.inr (Or.inr (Or.inr (Or.inr (Or.inr (Or.inr (Or.inl (key _ (by decide) e)))))))
      · exact Or.inr (Or.inr (Or.inr (Or.inr (Or.inr (Or.inr (Or.inr (Or.inl (key _ (by decide) e))))))))
      · exact Or.inr (Or.inr (Or.inr (Or.inr (Or.inr (Or.inr (Or.inr (Or.inr (Or.inl (key _ (by decide) e)))))))))
      · exact Or.inr (Or.inr (Or.inr (Or.inr (Or.inr (Or.inr (Or.inr (Or.inr (Or.inr (key _ (by decide) e))))))))))
    obtain ⟨w2, F2, e1, e2, e3, e4⟩ := c_wrong (l := l) (δ := δ) (w := wup w1 z (.inr (6, f0_6))) (x := z) (i := skp T n p) (zz := (z + 1, m + 7)) wup_s
    refine ⟨w2, z + 1, m + 7, z, F2, ?_, e2, e3, fun a a1 a2 a3 => by rw [e4 a (by omega), wup_n (by omega), k3 a a2], by omega, by omega, by omega⟩
    rw [N_X4_part]; unfold B_X4_part
    simp (disch := first | rfl | exact okv_i | exact okv_o | exact okv_a | exact b_ft _ | (simp only [wt_c, wt_0, vc_i, vc_l, vc_r] <;> decide) | omega | exact i32_r _ | exact b2i_r _ | exact b2i_01 _ | exact zAnd_r _ _ | exact zOr_r _ _ | exact zXor_r _ _ | exact zShl_r _ _ | exact zShr_r _ _ | exact zByte_r _ | exact zcmp_r _ _ | decide) only [Bool.decide_eq_true, Bool.decide_eq_false, ↓if_pos, ↓if_neg, ↓reduceIte, Nat.reduceEqDiff, Int.reduceLE, Int.reduceLT, Int.reduceEq, Int.reduceNe, Nat.reduceBEq, Int.reduceAdd, Int.reduceMul, Int.reduceSub, Int.reduceNeg, Nat.reduceAdd, not_false_eq_true, not_true_eq_false, decide_true, decide_false, Bool.not_true, Bool.not_false, Bool.true_and, Bool.false_and, Bool.and_true, Bool.and_false, Bool.true_or, Bool.false_or, Bool.or_true, Bool.or_false, Bool.not_not, decide_not, Decidable.not_not, ite_not, b2i_t, b2i_f, ne_eq, Bool.not_eq_true, Bool.not_eq_false, decide_eq_true_eq, decide_eq_false_iff_not, Bool.false_eq_true, Bool.true_eq_false, reduceCtorEq, if_true, if_false, ite_self, ite_b0, ite_b1, ite_0b, ite_1b, ite_bb, x_done, x_blk, x_lp, x_er, erL_0, erL_t, erL_f, kl_n, kl_i, kl_r, kl_l, bd_i, bd_r, bk_i, bk_e, bk_n, bk_r, bd_ite, bk_ite, lk_i, lk_e, lk_n, lk_r, lk_ite, ite_nx, b2i_i, b2i_n, b2i_0, b2i_1, b2i_e, bres_r, bres_ite, mres_v, mres_n, sF_1, sF_2, sA_1, sA_2, zcmp_lt, zcmp_gt, zcmp_le, zcmp_ge, zcmp_eq, List.lookup_cons, List.lookup_nil, mresX_v, mresX_n, mresX_t, bd_t, bres_t, y_rO, y_dO, y_dA, yO_o, yO_n, dR_e, rOx_s, rOx_n, dAx_s, dAx_n, wup_s, wup_n, fup_s, fup_n, beq_self_eq_true, Nat.reduceBEq, Nat.reduceLT, Nat.reduceSub, x_aload_n0, x_callG1, x_istore_n1, x_iload_n1, x_dup, y_get, yGet_o, yLk_s, x_iconst, x_iadd, y_put, y_putF, yPut_o, yPk_s, x_new, x_i2c, x_callG4, x_areturn, x_istore_n2, x_iload_n2, x_callG2, x_astore_n3, x_isub, x_aload_n3, x_astore4, x_bipush, x_icmp_ne, x_goto, x_aload4, x_athrow, g0, k1, g1, g2, x_lookup 268 (show -2147483648 ≤ lkv T n (skp T n p) ∧ lkv T n (skp T n p) ≤ 2147483647 by omega) (lk268 hn), e1]
  | @con s p d q L k hc hk =>
    intro N w z m hRI
    refine ⟨fun _ hN hR => ?_, fun z => absurd z (by decide), fun z => absurd z (by decide)⟩
    obtain ⟨hI, hL, hz, hδ⟩ := hRI
    have hp := hI.2.1
    have n800 := hI.2.2.1
    have hd0 := hI.2.2.2.1
    have hq0 := hI.2.2.2.2
    have sb := skp_b (T := T) hp.2
    obtain ⟨M, rfl⟩ : ∃ M, N = M + 1 := ⟨N - 1, by omega⟩
    obtain ⟨w1, k1, k2, k3⟩ := c_look (l := l) (δ := δ) (zz := (z, m)) hI hR
    obtain ⟨F0, g0, -⟩ := hR.ob
    obtain ⟨F1, g1, g2, g3, g4, g5⟩ := k2.ob
    rcases hk with rfl | rfl
    · rw [(lkv_e (c := 84) hI.1 (by omega) (by omega)).mpr hc] at k1
      have lt := chr_lt (T := T) (n := n) (a := skp T n p) (by rw [hc]; exact (by decide : (0 : Int) < Fo.sgA 10))
      have hR2 := k2.at g1 (skp T n p + 1)
      have hI2 : RsI T n (skp T n p + 1) d q := ⟨hI.1, ⟨by omega, by omega⟩, n800, hd0, hq0⟩
      have fr2 : ∀ a, a ≠ ro → wup w1 ro (.inr (4, fup F1 2 (.inl (skp T n p + 1)))) a = w a := fun a ha => by rw [wup_n ha, k3 a ha]
      obtain ⟨w3, F3, i1, i2, i3, i4, i5, i6⟩ := c_atomI (l := l) (δ := δ) (w := wup (wup w1 ro (.inr (4, fup F1 2 (.inl (skp T n p + 1))))) z (.inr (5, f0_5))) (r := z) (k := 84) (vm := 0) (vn := 0) (zz := (z + 1, m + 3)) wup_s (by decide)
      refine ⟨w3, z + 1, m + 3, z, ?_, hR2.keep (by rw [i6 ro (by omega), wup_n (by omega)]) (by rw [i6 ta (by omega), wup_n (by omega)]) (by rw [i6 ll (by omega), wup_n (by omega)]), ?_, ⟨by omega, by omega⟩, fun a a1 a2 a3 => by rw [i6 a (by omega), wup_n (by omega), fr2 a a2], by omega, by omega⟩
      · rw [N_X4_part]; unfold B_X4_part
        simp (disch := first | rfl | exact okv_i | exact okv_o | exact okv_a | exact b_ft _ | (simp only [wt_c, wt_0, vc_i, vc_l, vc_r] <;> decide) | omega | exact i32_r _ | exact b2i_r _ | exact b2i_01 _ | exact zAnd_r _ _ | exact zOr_r _ _ | exact zXor_r _ _ | exact zShl_r _ _ | exact zShr_r _ _ | exact zByte_r _ | exact zcmp_r _ _ | decide) only [Bool.decide_eq_true, Bool.decide_eq_false, ↓if_pos, ↓if_neg, ↓reduceIte, Nat.reduceEqDiff, Int.reduceLE, Int.reduceLT, Int.reduceEq, Int.reduceNe, Nat.reduceBEq, Int.reduceAdd, Int.reduceMul, Int.reduceSub, Int.reduceNeg, Nat.reduceAdd, not_false_eq_true, not_true_eq_false, decide_true, decide_false, Bool.not_true, Bool.not_false, Bool.true_and, Bool.false_and, Bool.and_true, Bool.and_false, Bool.true_or, Bool.false_or, Bool.or_true, Bool.or_false, Bool.not_not, decide_not, Decidable.not_not, ite_not, b2i_t, b2i_f, ne_eq, Bool.not_eq_true, Bool.not_eq_false, decide_eq_true_eq, decide_eq_false_iff_not, Bool.false_eq_true, Bool.true_eq_false, reduceCtorEq, if_true, if_false, ite_self, ite_b0, ite_b1, ite_0b, ite_1b, ite_bb, x_done, x_blk, x_lp, x_er, erL_0, erL_t, erL_f, kl_n, kl_i, kl_r, kl_l, bd_i, bd_r, bk_i, bk_e, bk_n, bk_r, bd_ite, bk_ite, lk_i, lk_e, lk_n, lk_r, lk_ite, ite_nx, b2i_i, b2i_n, b2i_0, b2i_1, b2i_e, bres_r, bres_ite, mres_v, mres_n, sF_1, sF_2, sA_1, sA_2, zcmp_lt, zcmp_gt, zcmp_le, zcmp_ge, zcmp_eq, List.lookup_cons, List.lookup_nil, mresX_v, mresX_n, mresX_t, bd_t, bres_t, y_rO, y_dO, y_dA, yO_o, yO_n, dR_e, rOx_s, rOx_n, dAx_s, dAx_n, wup_s, wup_n, fup_s, fup_n, beq_self_eq_true, Nat.reduceBEq, Nat.reduceLT, Nat.reduceSub, x_aload_n0, x_callG1, x_istore_n1, x_iload_n1, x_dup, y_get, yGet_o, yLk_s, x_iconst, x_iadd, y_put, y_putF, yPut_o, yPk_s, x_new, x_i2c, x_callG4, x_areturn, x_istore_n2, x_iload_n2, x_callG2, x_astore_n3, x_isub, x_aload_n3, x_astore4, x_bipush, x_icmp_ne, x_goto, x_aload4, x_athrow, g0, k1, g1, g2, x_lookup 96 (show -2147483648 ≤ (84 : Int) ∧ (84 : Int) ≤ 2147483647 by decide) (show ((6 : Nat) : Int) + Op.lookupswitch.offset (#[(40, 195), (45, 167), (61, 137), (63, 246), (64, 246), (65, 112), (66, 112), (69, 137), (70, 90), (84, 90)] : Array (Int × Int)).toList 262 84 = ((96 : Nat) : Int) by decide), i1]
      · rw [FR_atom (q := q) (Or.inl ⟨by omega, rfl, rfl⟩)]
        exact ⟨⟨by omega, by omega⟩, F3, i2, i3, i4, i5⟩
    · rw [(lkv_e (c := 70) hI.1 (by omega) (by omega)).mpr hc] at k1
      have lt := chr_lt (T := T) (n := n) (a := skp T n p) (by rw [hc]; exact (by decide : (0 : Int) < Fo.sgA 11))
      have hR2 := k2.at g1 (skp T n p + 1)
      have hI2 : RsI T n (skp T n p + 1) d q := ⟨hI.1, ⟨by omega, by omega⟩, n800, hd0, hq0⟩
      have fr2 : ∀ a, a ≠ ro → wup w1 ro (.inr (4, fup F1 2 (.inl (skp T n p + 1)))) a = w a := fun a ha => by rw [wup_n ha, k3 a ha]
      obtain ⟨w3, F3, i1, i2, i3, i4, i5, i6⟩ := c_atomI (l := l) (δ := δ) (w := wup (wup w1 ro (.inr (4, fup F1 2 (.inl (skp T n p + 1))))) z (.inr (5, f0_5))) (r := z) (k := 70) (vm := 0) (vn := 0) (zz := (z + 1, m + 3)) wup_s (by decide)
      refine ⟨w3, z + 1, m + 3, z, ?_, hR2.keep (by rw [i6 ro (by omega), wup_n (by omega)]) (by rw [i6 ta (by omega), wup_n (by omega)]) (by rw [i6 ll (by omega), wup_n (by omega)]), ?_, ⟨by omega, by omega⟩, fun a a1 a2 a3 => by rw [i6 a (by omega), wup_n (by omega), fr2 a a2], by omega, by omega⟩
      · rw [N_X4_part]; unfold B_X4_part
        simp (disch := first | rfl | exact okv_i | exact okv_o | exact okv_a | exact b_ft _ | (simp only [wt_c, wt_0, vc_i, vc_l, vc_r] <;> decide) | omega | exact i32_r _ | exact b2i_r _ | exact b2i_01 _ | exact zAnd_r _ _ | exact zOr_r _ _ | exact zXor_r _ _ | exact zShl_r _ _ | exact zShr_r _ _ | exact zByte_r _ | exact zcmp_r _ _ | decide) only [Bool.decide_eq_true, Bool.decide_eq_false, ↓if_pos, ↓if_neg, ↓reduceIte, Nat.reduceEqDiff, Int.reduceLE, Int.reduceLT, Int.reduceEq, Int.reduceNe, Nat.reduceBEq, Int.reduceAdd, Int.reduceMul, Int.reduceSub, Int.reduceNeg, Nat.reduceAdd, not_false_eq_true, not_true_eq_false, decide_true, decide_false, Bool.not_true, Bool.not_false, Bool.true_and, Bool.false_and, Bool.and_true, Bool.and_false, Bool.true_or, Bool.false_or, Bool.or_true, Bool.or_false, Bool.not_not, decide_not, Decidable.not_not, ite_not, b2i_t, b2i_f, ne_eq, Bool.not_eq_true, Bool.not_eq_false, decide_eq_true_eq, decide_eq_false_iff_not, Bool.false_eq_true, Bool.true_eq_false, reduceCtorEq, if_true, if_false, ite_self, ite_b0, ite_b1, ite_0b, ite_1b, ite_bb, x_done, x_blk, x_lp, x_er, erL_0, erL_t, erL_f, kl_n, kl_i, kl_r, kl_l, bd_i, bd_r, bk_i, bk_e, bk_n, bk_r, bd_ite, bk_ite, lk_i, lk_e, lk_n, lk_r, lk_ite, ite_nx, b2i_i, b2i_n, b2i_0, b2i_1, b2i_e, bres_r, bres_ite, mres_v, mres_n, sF_1, sF_2, sA_1, sA_2, zcmp_lt, zcmp_gt, zcmp_le, zcmp_ge, zcmp_eq, List.lookup_cons, List.lookup_nil, mresX_v, mresX_n, mresX_t, bd_t, bres_t, y_rO, y_dO, y_dA, yO_o, yO_n, dR_e, rOx_s, rOx_n, dAx_s, dAx_n, wup_s, wup_n, fup_s, fup_n, beq_self_eq_true, Nat.reduceBEq, Nat.reduceLT, Nat.reduceSub, x_aload_n0, x_callG1, x_istore_n1, x_iload_n1, x_dup, y_get, yGet_o, yLk_s, x_iconst, x_iadd, y_put, y_putF, yPut_o, yPk_s, x_new, x_i2c, x_callG4, x_areturn, x_istore_n2, x_iload_n2, x_callG2, x_astore_n3, x_isub, x_aload_n3, x_astore4, x_bipush, x_icmp_ne, x_goto, x_aload4, x_athrow, g0, k1, g1, g2, x_lookup 96 (show -2147483648 ≤ (70 : Int) ∧ (70 : Int) ≤ 2147483647 by decide) (show ((6 : Nat) : Int) + Op.lookupswitch.offset (#[(40, 195), (45, 167), (61, 137), (63, 246), (64, 246), (65, 112), (66, 112), (69, 137), (70, 90), (84, 90)] : Array (Int × Int)).toList 262 70 = ((96 : Nat) : Int) by decide), i1]
      · rw [FR_atom (q := q) (Or.inl ⟨by omega, rfl, rfl⟩)]
        exact ⟨⟨by omega, by omega⟩, F3, i2, i3, i4, i5⟩
  | @un0 s p d q L k hc hk hf =>
    intro N w z m hRI
    refine ⟨fun _ hN hR => ?_, fun z => absurd z (by decide), fun z => absurd z (by decide)⟩
    obtain ⟨hI, hL, hz, hδ⟩ := hRI
    have hp := hI.2.1
    have n800 := hI.2.2.1
    have hd0 := hI.2.2.2.1
    have hq0 := hI.2.2.2.2
    have sb := skp_b (T := T) hp.2
    obtain ⟨M, rfl⟩ : ∃ M, N = M + 1 := ⟨N - 1, by omega⟩
    obtain ⟨w1, k1, k2, k3⟩ := c_look (l := l) (δ := δ) (zz := (z, m)) hI hR
    obtain ⟨F0, g0, -⟩ := hR.ob
    obtain ⟨F1, g1, g2, g3, g4, g5⟩ := k2.ob
    rcases hk with rfl | rfl
    · rw [(lkv_e (c := 65) hI.1 (by omega) (by omega)).mpr hc] at k1
      have lt := chr_lt (T := T) (n := n) (a := skp T n p) (by rw [hc]; exact (by decide : (0 : Int) < Fo.sgA 6))
      have hR2 := k2.at g1 (skp T n p + 1)
      have hI2 : RsI T n (skp T n p + 1) d q := ⟨hI.1, ⟨by omega, by omega⟩, n800, hd0, hq0⟩
      have fr2 : ∀ a, a ≠ ro → wup w1 ro (.inr (4, fup F1 2 (.inl (skp T n p + 1)))) a = w a := fun a ha => by rw [wup_n ha, k3 a ha]
      have sb2 := skp_b (T := T) (n := n) (a := skp T n p + 1) (by omega)
      have hR3 : RS (wup (wup w1 ro (.inr (4, fup F1 2 (.inl (skp T n p + 1))))) z (.inr (5, f0_5))) ro ta ll T n (skp T n p + 1) d q L := hR2.keep (wup_n (by omega)) (wup_n (by omega)) (wup_n (by omega))
      obtain ⟨w3, ⟨w4, F4, e1, e2, e3, e4⟩, e5⟩ := c_var0 (l := l) (δ := δ) (z := z + 1) (m := m + 3) hI2 hL hR3 (by omega) hf
      obtain ⟨F3, q3, -⟩ := hR3.ob
      refine thr_R (w1 := w3) (z1 := z + 1) (m1 := m + 3) ⟨w4, F4, ?_, e2, e3, e4⟩ (fun a a1 a2 a3 => by rw [e5 a a2, wup_n (by omega), fr2 a a2]) (by omega) (by omega) (by omega)
      rw [N_X4_part]; unfold B_X4_part
      simp (disch := first | rfl | exact okv_i | exact okv_o | exact okv_a | exact b_ft _ | (simp only [wt_c, wt_0, vc_i, vc_l, vc_r] <;> decide) | omega | exact i32_r _ | exact b2i_r _ | exact b2i_01 _ | exact zAnd_r _ _ | exact zOr_r _ _ | exact zXor_r _ _ | exact zShl_r _ _ | exact zShr_r _ _ | exact zByte_r _ | exact zcmp_r _ _ | decide) only [Bool.decide_eq_true, Bool.decide_eq_false, ↓if_pos, ↓if_neg, ↓reduceIte, Nat.reduceEqDiff, Int.reduceLE, Int.reduceLT, Int.reduceEq, Int.reduceNe, Nat.reduceBEq, Int.reduceAdd, Int.reduceMul, Int.reduceSub, Int.reduceNeg, Nat.reduceAdd, not_false_eq_true, not_true_eq_false, decide_true, decide_false, Bool.not_true, Bool.not_false, Bool.true_and, Bool.false_and, Bool.and_true, Bool.and_false, Bool.true_or, Bool.false_or, Bool.or_true, Bool.or_false, Bool.not_not, decide_not, Decidable.not_not, ite_not, b2i_t, b2i_f, ne_eq, Bool.not_eq_true, Bool.not_eq_false, decide_eq_true_eq, decide_eq_false_iff_not, Bool.false_eq_true, Bool.true_eq_false, reduceCtorEq, if_true, if_false, ite_self, ite_b0, ite_b1, ite_0b, ite_1b, ite_bb, x_done, x_blk, x_lp, x_er, erL_0, erL_t, erL_f, kl_n, kl_i, kl_r, kl_l, bd_i, bd_r, bk_i, bk_e, bk_n, bk_r, bd_ite, bk_ite, lk_i, lk_e, lk_n, lk_r, lk_ite, ite_nx, b2i_i, b2i_n, b2i_0, b2i_1, b2i_e, bres_r, bres_ite, mres_v, mres_n, sF_1, sF_2, sA_1, sA_2, zcmp_lt, zcmp_gt, zcmp_le, zcmp_ge, zcmp_eq, List.lookup_cons, List.lookup_nil, mresX_v, mresX_n, mresX_t, bd_t, bres_t, y_rO, y_dO, y_dA, yO_o, yO_n, dR_e, rOx_s, rOx_n, dAx_s, dAx_n, wup_s, wup_n, fup_s, fup_n, beq_self_eq_true, Nat.reduceBEq, Nat.reduceLT, Nat.reduceSub, x_aload_n0, x_callG1, x_istore_n1, x_iload_n1, x_dup, y_get, yGet_o, yLk_s, x_iconst, x_iadd, y_put, y_putF, yPut_o, yPk_s, x_new, x_i2c, x_callG4, x_areturn, x_istore_n2, x_iload_n2, x_callG2, x_astore_n3, x_isub, x_aload_n3, x_astore4, x_bipush, x_icmp_ne, x_goto, x_aload4, x_athrow, g0, k1, g1, g2, q3, x_lookup 118 (show -2147483648 ≤ (65 : Int) ∧ (65 : Int) ≤ 2147483647 by decide) (show ((6 : Nat) : Int) + Op.lookupswitch.offset (#[(40, 195), (45, 167), (61, 137), (63, 246), (64, 246), (65, 112), (66, 112), (69, 137), (70, 90), (84, 90)] : Array (Int × Int)).toList 262 65 = ((118 : Nat) : Int) by decide), e1]
    · rw [(lkv_e (c := 66) hI.1 (by omega) (by omega)).mpr hc] at k1
      have lt := chr_lt (T := T) (n := n) (a := skp T n p) (by rw [hc]; exact (by decide : (0 : Int) < Fo.sgA 7))
      have hR2 := k2.at g1 (skp T n p + 1)
      have hI2 : RsI T n (skp T n p + 1) d q := ⟨hI.1, ⟨by omega, by omega⟩, n800, hd0, hq0⟩
      have fr2 : ∀ a, a ≠ ro → wup w1 ro (.inr (4, fup F1 2 (.inl (skp T n p + 1)))) a = w a := fun a ha => by rw [wup_n ha, k3 a ha]
      have sb2 := skp_b (T := T) (n := n) (a := skp T n p + 1) (by omega)
      have hR3 : RS (wup (wup w1 ro (.inr (4, fup F1 2 (.inl (skp T n p + 1))))) z (.inr (5, f0_5))) ro ta ll T n (skp T n p + 1) d q L := hR2.keep (wup_n (by omega)) (wup_n (by omega)) (wup_n (by omega))
      obtain ⟨w3, ⟨w4, F4, e1, e2, e3, e4⟩, e5⟩ := c_var0 (l := l) (δ := δ) (z := z + 1) (m := m + 3) hI2 hL hR3 (by omega) hf
      obtain ⟨F3, q3, -⟩ := hR3.ob
      refine thr_R (w1 := w3) (z1 := z + 1) (m1 := m + 3) ⟨w4, F4, ?_, e2, e3, e4⟩ (fun a a1 a2 a3 => by rw [e5 a a2, wup_n (by omega), fr2 a a2]) (by omega) (by omega) (by omega)
      rw [N_X4_part]; unfold B_X4_part
      simp (disch := first | rfl | exact okv_i | exact okv_o | exact okv_a | exact b_ft _ | (simp only [wt_c, wt_0, vc_i, vc_l, vc_r] <;> decide) | omega | exact i32_r _ | exact b2i_r _ | exact b2i_01 _ | exact zAnd_r _ _ | exact zOr_r _ _ | exact zXor_r _ _ | exact zShl_r _ _ | exact zShr_r _ _ | exact zByte_r _ | exact zcmp_r _ _ | decide) only [Bool.decide_eq_true, Bool.decide_eq_false, ↓if_pos, ↓if_neg, ↓reduceIte, Nat.reduceEqDiff, Int.reduceLE, Int.reduceLT, Int.reduceEq, Int.reduceNe, Nat.reduceBEq, Int.reduceAdd, Int.reduceMul, Int.reduceSub, Int.reduceNeg, Nat.reduceAdd, not_false_eq_true, not_true_eq_false, decide_true, decide_false, Bool.not_true, Bool.not_false, Bool.true_and, Bool.false_and, Bool.and_true, Bool.and_false, Bool.true_or, Bool.false_or, Bool.or_true, Bool.or_false, Bool.not_not, decide_not, Decidable.not_not, ite_not, b2i_t, b2i_f, ne_eq, Bool.not_eq_true, Bool.not_eq_false, decide_eq_true_eq, decide_eq_false_iff_not, Bool.false_eq_true, Bool.true_eq_false, reduceCtorEq, if_true, if_false, ite_self, ite_b0, ite_b1, ite_0b, ite_1b, ite_bb, x_done, x_blk, x_lp, x_er, erL_0, erL_t, erL_f, kl_n, kl_i, kl_r, kl_l, bd_i, bd_r, bk_i, bk_e, bk_n, bk_r, bd_ite, bk_ite, lk_i, lk_e, lk_n, lk_r, lk_ite, ite_nx, b2i_i, b2i_n, b2i_0, b2i_1, b2i_e, bres_r, bres_ite, mres_v, mres_n, sF_1, sF_2, sA_1, sA_2, zcmp_lt, zcmp_gt, zcmp_le, zcmp_ge, zcmp_eq, List.lookup_cons, List.lookup_nil, mresX_v, mresX_n, mresX_t, bd_t, bres_t, y_rO, y_dO, y_dA, yO_o, yO_n, dR_e, rOx_s, rOx_n, dAx_s, dAx_n, wup_s, wup_n, fup_s, fup_n, beq_self_eq_true, Nat.reduceBEq, Nat.reduceLT, Nat.reduceSub, x_aload_n0, x_callG1, x_istore_n1, x_iload_n1, x_dup, y_get, yGet_o, yLk_s, x_iconst, x_iadd, y_put, y_putF, yPut_o, yPk_s, x_new, x_i2c, x_callG4, x_areturn, x_istore_n2, x_iload_n2, x_callG2, x_astore_n3, x_isub, x_aload_n3, x_astore4, x_bipush, x_icmp_ne, x_goto, x_aload4, x_athrow, g0, k1, g1, g2, q3, x_lookup 118 (show -2147483648 ≤ (66 : Int) ∧ (66 : Int) ≤ 2147483647 by decide) (show ((6 : Nat) : Int) + Op.lookupswitch.offset (#[(40, 195), (45, 167), (61, 137), (63, 246), (64, 246), (65, 112), (66, 112), (69, 137), (70, 90), (84, 90)] : Array (Int × Int)).toList 262 66 = ((118 : Nat) : Int) by decide), e1]
  | @un1 s p d q L k v hc hk hf hm =>
    intro N w z m hRI
    refine ⟨fun _ hN hR => ?_, fun z => absurd z (by decide), fun z => absurd z (by decide)⟩
    obtain ⟨hI, hL, hz, hδ⟩ := hRI
    have hp := hI.2.1
    have n800 := hI.2.2.1
    have hd0 := hI.2.2.2.1
    have hq0 := hI.2.2.2.2
    have sb := skp_b (T := T) hp.2
    obtain ⟨M, rfl⟩ : ∃ M, N = M + 1 := ⟨N - 1, by omega⟩
    obtain ⟨w1, k1, k2, k3⟩ := c_look (l := l) (δ := δ) (zz := (z, m)) hI hR
    obtain ⟨F0, g0, -⟩ := hR.ob
    obtain ⟨F1, g1, g2, g3, g4, g5⟩ := k2.ob
    rcases hk with rfl | rfl
    · rw [(lkv_e (c := 65) hI.1 (by omega) (by omega)).mpr hc] at k1
      have lt := chr_lt (T := T) (n := n) (a := skp T n p) (by rw [hc]; exact (by decide : (0 : Int) < Fo.sgA 6))
      have hR2 := k2.at g1 (skp T n p + 1)
      have hI2 : RsI T n (skp T n p + 1) d q := ⟨hI.1, ⟨by omega, by omega⟩, n800, hd0, hq0⟩
      have fr2 : ∀ a, a ≠ ro → wup w1 ro (.inr (4, fup F1 2 (.inl (skp T n p + 1)))) a = w a := fun a ha => by rw [wup_n ha, k3 a ha]
      have sb2 := skp_b (T := T) (n := n) (a := skp T n p + 1) (by omega)
      have hR3 : RS (wup (wup w1 ro (.inr (4, fup F1 2 (.inl (skp T n p + 1))))) z (.inr (5, f0_5))) ro ta ll T n (skp T n p + 1) d q L := hR2.keep (wup_n (by omega)) (wup_n (by omega)) (wup_n (by omega))
      have hb := fnd_n hL (show 1 ≤ fnd L (chr T n (skp T n (skp T n p + 1))) q.toNat by omega)
      obtain ⟨w3, e1, e2, e3⟩ := c_var1 (l := l) (δ := δ) (zz := (z + 1, m + 3)) hI2 hL hR3 hf hm
      obtain ⟨F3, q3, -⟩ := hR3.ob
      obtain ⟨w4, F4, i1, i2, i3, i4, i5, i6⟩ := c_atomI (l := l) (δ := δ) (w := w3) (r := z) (k := 65) (vm := v) (vn := 0) (zz := (z + 1, m + 3)) (by rw [e3 z (by omega), wup_s]) (by decide)
      refine ⟨w4, z + 1, m + 3, z, ?_, e2.keep (i6 ro (by omega)) (i6 ta (by omega)) (i6 ll (by omega)), ?_, ⟨by omega, by omega⟩, fun a a1 a2 a3 => by rw [i6 a (by omega), e3 a a2, wup_n (by omega), fr2 a a2], by omega, by omega⟩
      · rw [N_X4_part]; unfold B_X4_part
        simp (disch := first | rfl | exact okv_i | exact okv_o | exact okv_a | exact b_ft _ | (simp only [wt_c, wt_0, vc_i, vc_l, vc_r] <;> decide) | omega | exact i32_r _ | exact b2i_r _ | exact b2i_01 _ | exact zAnd_r _ _ | exact zOr_r _ _ | exact zXor_r _ _ | exact zShl_r _ _ | exact zShr_r _ _ | exact zByte_r _ | exact zcmp_r _ _ | decide) only [Bool.decide_eq_true, Bool.decide_eq_false, ↓if_pos, ↓if_neg, ↓reduceIte, Nat.reduceEqDiff, Int.reduceLE, Int.reduceLT, Int.reduceEq, Int.reduceNe, Nat.reduceBEq, Int.reduceAdd, Int.reduceMul, Int.reduceSub, Int.reduceNeg, Nat.reduceAdd, not_false_eq_true, not_true_eq_false, decide_true, decide_false, Bool.not_true, Bool.not_false, Bool.true_and, Bool.false_and, Bool.and_true, Bool.and_false, Bool.true_or, Bool.false_or, Bool.or_true, Bool.or_false, Bool.not_not, decide_not, Decidable.not_not, ite_not, b2i_t, b2i_f, ne_eq, Bool.not_eq_true, Bool.not_eq_false, decide_eq_true_eq, decide_eq_false_iff_not, Bool.false_eq_true, Bool.true_eq_false, reduceCtorEq, if_true, if_false, ite_self, ite_b0, ite_b1, ite_0b, ite_1b, ite_bb, x_done, x_blk, x_lp, x_er, erL_0, erL_t, erL_f, kl_n, kl_i, kl_r, kl_l, bd_i, bd_r, bk_i, bk_e, bk_n, bk_r, bd_ite, bk_ite, lk_i, lk_e, lk_n, lk_r, lk_ite, ite_nx, b2i_i, b2i_n, b2i_0, b2i_1, b2i_e, bres_r, bres_ite, mres_v, mres_n, sF_1, sF_2, sA_1, sA_2, zcmp_lt, zcmp_gt, zcmp_le, zcmp_ge, zcmp_eq, List.lookup_cons, List.lookup_nil, mresX_v, mresX_n, mresX_t, bd_t, bres_t, y_rO, y_dO, y_dA, yO_o, yO_n, dR_e, rOx_s, rOx_n, dAx_s, dAx_n, wup_s, wup_n, fup_s, fup_n, beq_self_eq_true, Nat.reduceBEq, Nat.reduceLT, Nat.reduceSub, x_aload_n0, x_callG1, x_istore_n1, x_iload_n1, x_dup, y_get, yGet_o, yLk_s, x_iconst, x_iadd, y_put, y_putF, yPut_o, yPk_s, x_new, x_i2c, x_callG4, x_areturn, x_istore_n2, x_iload_n2, x_callG2, x_astore_n3, x_isub, x_aload_n3, x_astore4, x_bipush, x_icmp_ne, x_goto, x_aload4, x_athrow, g0, k1, g1, g2, q3, x_lookup 118 (show -2147483648 ≤ (65 : Int) ∧ (65 : Int) ≤ 2147483647 by decide) (show ((6 : Nat) : Int) + Op.lookupswitch.offset (#[(40, 195), (45, 167), (61, 137), (63, 246), (64, 246), (65, 112), (66, 112), (69, 137), (70, 90), (84, 90)] : Array (Int × Int)).toList 262 65 = ((118 : Nat) : Int) by decide), e1, i1]
      · rw [FR_atom (q := q) (Or.inr (Or.inl ⟨by omega, ⟨hm, by omega⟩, rfl⟩))]
        exact ⟨⟨by omega, by omega⟩, F4, i2, i3, i4, i5⟩
    · rw [(lkv_e (c := 66) hI.1 (by omega) (by omega)).mpr hc] at k1
      have lt := chr_lt (T := T) (n := n) (a := skp T n p) (by rw [hc]; exact (by decide : (0 : Int) < Fo.sgA 7))
      have hR2 := k2.at g1 (skp T n p + 1)
      have hI2 : RsI T n (skp T n p + 1) d q := ⟨hI.1, ⟨by omega, by omega⟩, n800, hd0, hq0⟩
      have fr2 : ∀ a, a ≠ ro → wup w1 ro (.inr (4, fup F1 2 (.inl (skp T n p + 1)))) a = w a := fun a ha => by rw [wup_n ha, k3 a ha]
      have sb2 := skp_b (T := T) (n := n) (a := skp T n p + 1) (by omega)
      have hR3 : RS (wup (wup w1 ro (.inr (4, fup F1 2 (.inl (skp T n p + 1))))) z (.inr (5, f0_5))) ro ta ll T n (skp T n p + 1) d q L := hR2.keep (wup_n (by omega)) (wup_n (by omega)) (wup_n (by omega))
      have hb := fnd_n hL (show 1 ≤ fnd L (chr T n (skp T n (skp T n p + 1))) q.toNat by omega)
      obtain ⟨w3, e1, e2, e3⟩ := c_var1 (l := l) (δ := δ) (zz := (z + 1, m + 3)) hI2 hL hR3 hf hm
      obtain ⟨F3, q3, -⟩ := hR3.ob
      obtain ⟨w4, F4, i1, i2, i3, i4, i5, i6⟩ := c_atomI (l := l) (δ := δ) (w := w3) (r := z) (k := 66) (vm := v) (vn := 0) (zz := (z + 1, m + 3)) (by rw [e3 z (by omega), wup_s]) (by decide)
      refine ⟨w4, z + 1, m + 3, z, ?_, e2.keep (i6 ro (by omega)) (i6 ta (by omega)) (i6 ll (by omega)), ?_, ⟨by omega, by omega⟩, fun a a1 a2 a3 => by rw [i6 a (by omega), e3 a a2, wup_n (by omega), fr2 a a2], by omega, by omega⟩
      · rw [N_X4_part]; unfold B_X4_part
        simp (disch := first | rfl | exact okv_i | exact okv_o | exact okv_a | exact b_ft _ | (simp only [wt_c, wt_0, vc_i, vc_l, vc_r] <;> decide) | omega | exact i32_r _ | exact b2i_r _ | exact b2i_01 _ | exact zAnd_r _ _ | exact zOr_r _ _ | exact zXor_r _ _ | exact zShl_r _ _ | exact zShr_r _ _ | exact zByte_r _ | exact zcmp_r _ _ | decide) only [Bool.decide_eq_true, Bool.decide_eq_false, ↓if_pos, ↓if_neg, ↓reduceIte, Nat.reduceEqDiff, Int.reduceLE, Int.reduceLT, Int.reduceEq, Int.reduceNe, Nat.reduceBEq, Int.reduceAdd, Int.reduceMul, Int.reduceSub, Int.reduceNeg, Nat.reduceAdd, not_false_eq_true, not_true_eq_false, decide_true, decide_false, Bool.not_true, Bool.not_false, Bool.true_and, Bool.false_and, Bool.and_true, Bool.and_false, Bool.true_or, Bool.false_or, Bool.or_true, Bool.or_false, Bool.not_not, decide_not, Decidable.not_not, ite_not, b2i_t, b2i_f, ne_eq, Bool.not_eq_true, Bool.not_eq_false, decide_eq_true_eq, decide_eq_false_iff_not, Bool.false_eq_true, Bool.true_eq_false, reduceCtorEq, if_true, if_false, ite_self, ite_b0, ite_b1, ite_0b, ite_1b, ite_bb, x_done, x_blk, x_lp, x_er, erL_0, erL_t, erL_f, kl_n, kl_i, kl_r, kl_l, bd_i, bd_r, bk_i, bk_e, bk_n, bk_r, bd_ite, bk_ite, lk_i, lk_e, lk_n, lk_r, lk_ite, ite_nx, b2i_i, b2i_n, b2i_0, b2i_1, b2i_e, bres_r, bres_ite, mres_v, mres_n, sF_1, sF_2, sA_1, sA_2, zcmp_lt, zcmp_gt, zcmp_le, zcmp_ge, zcmp_eq, List.lookup_cons, List.lookup_nil, mresX_v, mresX_n, mresX_t, bd_t, bres_t, y_rO, y_dO, y_dA, yO_o, yO_n, dR_e, rOx_s, rOx_n, dAx_s, dAx_n, wup_s, wup_n, fup_s, fup_n, beq_self_eq_true, Nat.reduceBEq, Nat.reduceLT, Nat.reduceSub, x_aload_n0, x_callG1, x_istore_n1, x_iload_n1, x_dup, y_get, yGet_o, yLk_s, x_iconst, x_iadd, y_put, y_putF, yPut_o, yPk_s, x_new, x_i2c, x_callG4, x_areturn, x_istore_n2, x_iload_n2, x_callG2, x_astore_n3, x_isub, x_aload_n3, x_astore4, x_bipush, x_icmp_ne, x_goto, x_aload4, x_athrow, g0, k1, g1, g2, q3, x_lookup 118 (show -2147483648 ≤ (66 : Int) ∧ (66 : Int) ≤ 2147483647 by decide) (show ((6 : Nat) : Int) + Op.lookupswitch.offset (#[(40, 195), (45, 167), (61, 137), (63, 246), (64, 246), (65, 112), (66, 112), (69, 137), (70, 90), (84, 90)] : Array (Int × Int)).toList 262 66 = ((118 : Nat) : Int) by decide), e1, i1]
      · rw [FR_atom (q := q) (Or.inr (Or.inl ⟨by omega, ⟨hm, by omega⟩, rfl⟩))]
        exact ⟨⟨by omega, by omega⟩, F4, i2, i3, i4, i5⟩
  | @bi0 s p d q L k hc hk hf =>
    intro N w z m hRI
    refine ⟨fun _ hN hR => ?_, fun z => absurd z (by decide), fun z => absurd z (by decide)⟩
    obtain ⟨hI, hL, hz, hδ⟩ := hRI
    have hp := hI.2.1
    have n800 := hI.2.2.1
    have hd0 := hI.2.2.2.1
    have hq0 := hI.2.2.2.2
    have sb := skp_b (T := T) hp.2
    obtain ⟨M, rfl⟩ : ∃ M, N = M + 1 := ⟨N - 1, by omega⟩
    obtain ⟨w1, k1, k2, k3⟩ := c_look (l := l) (δ := δ) (zz := (z, m)) hI hR
    obtain ⟨F0, g0, -⟩ := hR.ob
    obtain ⟨F1, g1, g2, g3, g4, g5⟩ := k2.ob
    rcases hk with rfl | rfl
    · rw [(lkv_e (c := 69) hI.1 (by omega) (by omega)).mpr hc] at k1
      have lt := chr_lt (T := T) (n := n) (a := skp T n p) (by rw [hc]; exact (by decide : (0 : Int) < Fo.sgA 8))
      have hR2 := k2.at g1 (skp T n p + 1)
      have hI2 : RsI T n (skp T n p + 1) d q := ⟨hI.1, ⟨by omega, by omega⟩, n800, hd0, hq0⟩
      have fr2 : ∀ a, a ≠ ro → wup w1 ro (.inr (4, fup F1 2 (.inl (skp T n p + 1)))) a = w a := fun a ha => by rw [wup_n ha, k3 a ha]
      have sb2 := skp_b (T := T) (n := n) (a := skp T n p + 1) (by omega)
      obtain ⟨w3, ⟨w4, F4, e1, e2, e3, e4⟩, e5⟩ := c_var0 (l := l) (δ := δ) (z := z) (m := m) hI2 hL hR2 (by omega) hf
      refine thr_R (w1 := w3) (z1 := z) (m1 := m) ⟨w4, F4, ?_, e2, e3, e4⟩ (fun a a1 a2 a3 => by rw [e5 a a2, fr2 a a2]) (by omega) (by omega) (by omega)
      rw [N_X4_part]; unfold B_X4_part
      simp (disch := first | rfl | exact okv_i | exact okv_o | exact okv_a | exact b_ft _ | (simp only [wt_c, wt_0, vc_i, vc_l, vc_r] <;> decide) | omega | exact i32_r _ | exact b2i_r _ | exact b2i_01 _ | exact zAnd_r _ _ | exact zOr_r _ _ | exact zXor_r _ _ | exact zShl_r _ _ | exact zShr_r _ _ | exact zByte_r _ | exact zcmp_r _ _ | decide) only [Bool.decide_eq_true, Bool.decide_eq_false, ↓if_pos, ↓if_neg, ↓reduceIte, Nat.reduceEqDiff, Int.reduceLE, Int.reduceLT, Int.reduceEq, Int.reduceNe, Nat.reduceBEq, Int.reduceAdd, Int.reduceMul, Int.reduceSub, Int.reduceNeg, Nat.reduceAdd, not_false_eq_true, not_true_eq_false, decide_true, decide_false, Bool.not_true, Bool.not_false, Bool.true_and, Bool.false_and, Bool.and_true, Bool.and_false, Bool.true_or, Bool.false_or, Bool.or_true, Bool.or_false, Bool.not_not, decide_not, Decidable.not_not, ite_not, b2i_t, b2i_f, ne_eq, Bool.not_eq_true, Bool.not_eq_false, decide_eq_true_eq, decide_eq_false_iff_not, Bool.false_eq_true, Bool.true_eq_false, reduceCtorEq, if_true, if_false, ite_self, ite_b0, ite_b1, ite_0b, ite_1b, ite_bb, x_done, x_blk, x_lp, x_er, erL_0, erL_t, erL_f, kl_n, kl_i, kl_r, kl_l, bd_i, bd_r, bk_i, bk_e, bk_n, bk_r, bd_ite, bk_ite, lk_i, lk_e, lk_n, lk_r, lk_ite, ite_nx, b2i_i, b2i_n, b2i_0, b2i_1, b2i_e, bres_r, bres_ite, mres_v, mres_n, sF_1, sF_2, sA_1, sA_2, zcmp_lt, zcmp_gt, zcmp_le, zcmp_ge, zcmp_eq, List.lookup_cons, List.lookup_nil, mresX_v, mresX_n, mresX_t, bd_t, bres_t, y_rO, y_dO, y_dA, yO_o, yO_n, dR_e, rOx_s, rOx_n, dAx_s, dAx_n, wup_s, wup_n, fup_s, fup_n, beq_self_eq_true, Nat.reduceBEq, Nat.reduceLT, Nat.reduceSub, x_aload_n0, x_callG1, x_istore_n1, x_iload_n1, x_dup, y_get, yGet_o, yLk_s, x_iconst, x_iadd, y_put, y_putF, yPut_o, yPk_s, x_new, x_i2c, x_callG4, x_areturn, x_istore_n2, x_iload_n2, x_callG2, x_astore_n3, x_isub, x_aload_n3, x_astore4, x_bipush, x_icmp_ne, x_goto, x_aload4, x_athrow, g0, k1, g1, g2, x_lookup 143 (show -2147483648 ≤ (69 : Int) ∧ (69 : Int) ≤ 2147483647 by decide) (show ((6 : Nat) : Int) + Op.lookupswitch.offset (#[(40, 195), (45, 167), (61, 137), (63, 246), (64, 246), (65, 112), (66, 112), (69, 137), (70, 90), (84, 90)] : Array (Int × Int)).toList 262 69 = ((143 : Nat) : Int) by decide), e1]
    · rw [(lkv_e (c := 61) hI.1 (by omega) (by omega)).mpr hc] at k1
      have lt := chr_lt (T := T) (n := n) (a := skp T n p) (by rw [hc]; exact (by decide : (0 : Int) < Fo.sgA 9))
      have hR2 := k2.at g1 (skp T n p + 1)
      have hI2 : RsI T n (skp T n p + 1) d q := ⟨hI.1, ⟨by omega, by omega⟩, n800, hd0, hq0⟩
      have fr2 : ∀ a, a ≠ ro → wup w1 ro (.inr (4, fup F1 2 (.inl (skp T n p + 1)))) a = w a := fun a ha => by rw [wup_n ha, k3 a ha]
      have sb2 := skp_b (T := T) (n := n) (a := skp T n p + 1) (by omega)
      obtain ⟨w3, ⟨w4, F4, e1, e2, e3, e4⟩, e5⟩ := c_var0 (l := l) (δ := δ) (z := z) (m := m) hI2 hL hR2 (by omega) hf
      refine thr_R (w1 := w3) (z1 := z) (m1 := m) ⟨w4, F4, ?_, e2, e3, e4⟩ (fun a a1 a2 a3 => by rw [e5 a a2, fr2 a a2]) (by omega) (by omega) (by omega)
      rw [N_X4_part]; unfold B_X4_part
      simp (disch := first | rfl | exact okv_i | exact okv_o | exact okv_a | exact b_ft _ | (simp only [wt_c, wt_0, vc_i, vc_l, vc_r] <;> decide) | omega | exact i32_r _ | exact b2i_r _ | exact b2i_01 _ | exact zAnd_r _ _ | exact zOr_r _ _ | exact zXor_r _ _ | exact zShl_r _ _ | exact zShr_r _ _ | exact zByte_r _ | exact zcmp_r _ _ | decide) only [Bool.decide_eq_true, Bool.decide_eq_false, ↓if_pos, ↓if_neg, ↓reduceIte, Nat.reduceEqDiff, Int.reduceLE, Int.reduceLT, Int.reduceEq, Int.reduceNe, Nat.reduceBEq, Int.reduceAdd, Int.reduceMul, Int.reduceSub, Int.reduceNeg, Nat.reduceAdd, not_false_eq_true, not_true_eq_false, decide_true, decide_false, Bool.not_true, Bool.not_false, Bool.true_and, Bool.false_and, Bool.and_true, Bool.and_false, Bool.true_or, Bool.false_or, Bool.or_true, Bool.or_false, Bool.not_not, decide_not, Decidable.not_not, ite_not, b2i_t, b2i_f, ne_eq, Bool.not_eq_true, Bool.not_eq_false, decide_eq_true_eq, decide_eq_false_iff_not, Bool.false_eq_true, Bool.true_eq_false, reduceCtorEq, if_true, if_false, ite_self, ite_b0, ite_b1, ite_0b, ite_1b, ite_bb, x_done, x_blk, x_lp, x_er, erL_0, erL_t, erL_f, kl_n, kl_i, kl_r, kl_l, bd_i, bd_r, bk_i, bk_e, bk_n, bk_r, bd_ite, bk_ite, lk_i, lk_e, lk_n, lk_r, lk_ite, ite_nx, b2i_i, b2i_n, b2i_0, b2i_1, b2i_e, bres_r, bres_ite, mres_v, mres_n, sF_1, sF_2, sA_1, sA_2, zcmp_lt, zcmp_gt, zcmp_le, zcmp_ge, zcmp_eq, List.lookup_cons, List.lookup_nil, mresX_v, mresX_n, mresX_t, bd_t, bres_t, y_rO, y_dO, y_dA, yO_o, yO_n, dR_e, rOx_s, rOx_n, dAx_s, dAx_n, wup_s, wup_n, fup_s, fup_n, beq_self_eq_true, Nat.reduceBEq, Nat.reduceLT, Nat.reduceSub, x_aload_n0, x_callG1, x_istore_n1, x_iload_n1, x_dup, y_get, yGet_o, yLk_s, x_iconst, x_iadd, y_put, y_putF, yPut_o, yPk_s, x_new, x_i2c, x_callG4, x_areturn, x_istore_n2, x_iload_n2, x_callG2, x_astore_n3, x_isub, x_aload_n3, x_astore4, x_bipush, x_icmp_ne, x_goto, x_aload4, x_athrow, g0, k1, g1, g2, x_lookup 143 (show -2147483648 ≤ (61 : Int) ∧ (61 : Int) ≤ 2147483647 by decide) (show ((6 : Nat) : Int) + Op.lookupswitch.offset (#[(40, 195), (45, 167), (61, 137), (63, 246), (64, 246), (65, 112), (66, 112), (69, 137), (70, 90), (84, 90)] : Array (Int × Int)).toList 262 61 = ((143 : Nat) : Int) by decide), e1]
  | @bi1 s p d q L k v hc hk hf hm hg =>
    intro N w z m hRI
    refine ⟨fun _ hN hR => ?_, fun z => absurd z (by decide), fun z => absurd z (by decide)⟩
    obtain ⟨hI, hL, hz, hδ⟩ := hRI
    have hp := hI.2.1
    have n800 := hI.2.2.1
    have hd0 := hI.2.2.2.1
    have hq0 := hI.2.2.2.2
    have sb := skp_b (T := T) hp.2
    obtain ⟨M, rfl⟩ : ∃ M, N = M + 1 := ⟨N - 1, by omega⟩
    obtain ⟨w1, k1, k2, k3⟩ := c_look (l := l) (δ := δ) (zz := (z, m)) hI hR
    obtain ⟨F0, g0, -⟩ := hR.ob
    obtain ⟨F1, g1, g2, g3, g4, g5⟩ := k2.ob
    rcases hk with rfl | rfl
    · rw [(lkv_e (c := 69) hI.1 (by omega) (by omega)).mpr hc] at k1
      have lt := chr_lt (T := T) (n := n) (a := skp T n p) (by rw [hc]; exact (by decide : (0 : Int) < Fo.sgA 8))
      have hR2 := k2.at g1 (skp T n p + 1)
      have hI2 : RsI T n (skp T n p + 1) d q := ⟨hI.1, ⟨by omega, by omega⟩, n800, hd0, hq0⟩
      have fr2 : ∀ a, a ≠ ro → wup w1 ro (.inr (4, fup F1 2 (.inl (skp T n p + 1)))) a = w a := fun a ha => by rw [wup_n ha, k3 a ha]
      have sb2 := skp_b (T := T) (n := n) (a := skp T n p + 1) (by omega)
      have hb := fnd_n hL (show 1 ≤ fnd L (chr T n (skp T n (skp T n p + 1))) q.toNat by omega)
      obtain ⟨w3, e1, e2, e3⟩ := c_var1 (l := l) (δ := δ) (zz := (z, m)) hI2 hL hR2 hf hm
      have hI3 : RsI T n (skp T n (skp T n p + 1) + 1) d q := ⟨hI.1, ⟨by omega, by omega⟩, n800, hd0, hq0⟩
      have sb3 := skp_b (T := T) (n := n) (a := skp T n (skp T n p + 1) + 1) (by omega)
      obtain ⟨F2, q2, -⟩ := e2.ob
      have hR3 : RS (wup w3 z (.inr (5, f0_5))) ro ta ll T n (skp T n (skp T n p + 1) + 1) d q L := e2.keep (wup_n (by omega)) (wup_n (by omega)) (wup_n (by omega))
      obtain ⟨F3, q3, -⟩ := hR3.ob
      obtain ⟨w4, ⟨w5, F5, j1, j2, j3, j4⟩, j5⟩ := c_var0 (l := l) (δ := δ) (z := z + 1) (m := m + 3) hI3 hL hR3 (by omega) hg
      refine thr_R (w1 := w4) (z1 := z + 1) (m1 := m + 3) ⟨w5, F5, ?_, j2, j3, j4⟩ (fun a a1 a2 a3 => by rw [j5 a a2, wup_n (by omega), e3 a a2, fr2 a a2]) (by omega) (by omega) (by omega)
      rw [N_X4_part]; unfold B_X4_part
      simp (disch := first | rfl | exact okv_i | exact okv_o | exact okv_a | exact b_ft _ | (simp only [wt_c, wt_0, vc_i, vc_l, vc_r] <;> decide) | omega | exact i32_r _ | exact b2i_r _ | exact b2i_01 _ | exact zAnd_r _ _ | exact zOr_r _ _ | exact zXor_r _ _ | exact zShl_r _ _ | exact zShr_r _ _ | exact zByte_r _ | exact zcmp_r _ _ | decide) only [Bool.decide_eq_true, Bool.decide_eq_false, ↓if_pos, ↓if_neg, ↓reduceIte, Nat.reduceEqDiff, Int.reduceLE, Int.reduceLT, Int.reduceEq, Int.reduceNe, Nat.reduceBEq, Int.reduceAdd, Int.reduceMul, Int.reduceSub, Int.reduceNeg, Nat.reduceAdd, not_false_eq_true, not_true_eq_false, decide_true, decide_false, Bool.not_true, Bool.not_false, Bool.true_and, Bool.false_and, Bool.and_true, Bool.and_false, Bool.true_or, Bool.false_or, Bool.or_true, Bool.or_false, Bool.not_not, decide_not, Decidable.not_not, ite_not, b2i_t, b2i_f, ne_eq, Bool.not_eq_true, Bool.not_eq_false, decide_eq_true_eq, decide_eq_false_iff_not, Bool.false_eq_true, Bool.true_eq_false, reduceCtorEq, if_true, if_false, ite_self, ite_b0, ite_b1, ite_0b, ite_1b, ite_bb, x_done, x_blk, x_lp, x_er, erL_0, erL_t, erL_f, kl_n, kl_i, kl_r, kl_l, bd_i, bd_r, bk_i, bk_e, bk_n, bk_r, bd_ite, bk_ite, lk_i, lk_e, lk_n, lk_r, lk_ite, ite_nx, b2i_i, b2i_n, b2i_0, b2i_1, b2i_e, bres_r, bres_ite, mres_v, mres_n, sF_1, sF_2, sA_1, sA_2, zcmp_lt, zcmp_gt, zcmp_le, zcmp_ge, zcmp_eq, List.lookup_cons, List.lookup_nil, mresX_v, mresX_n, mresX_t, bd_t, bres_t, y_rO, y_dO, y_dA, yO_o, yO_n, dR_e, rOx_s, rOx_n, dAx_s, dAx_n, wup_s, wup_n, fup_s, fup_n, beq_self_eq_true, Nat.reduceBEq, Nat.reduceLT, Nat.reduceSub, x_aload_n0, x_callG1, x_istore_n1, x_iload_n1, x_dup, y_get, yGet_o, yLk_s, x_iconst, x_iadd, y_put, y_putF, yPut_o, yPk_s, x_new, x_i2c, x_callG4, x_areturn, x_istore_n2, x_iload_n2, x_callG2, x_astore_n3, x_isub, x_aload_n3, x_astore4, x_bipush, x_icmp_ne, x_goto, x_aload4, x_athrow, g0, k1, g1, g2, q2, q3, x_lookup 143 (show -2147483648 ≤ (69 : Int) ∧ (69 : Int) ≤ 2147483647 by decide) (show ((6 : Nat) : Int) + Op.lookupswitch.offset (#[(40, 195), (45, 167), (61, 137), (63, 246), (64, 246), (65, 112), (66, 112), (69, 137), (70, 90), (84, 90)] : Array (Int × Int)).toList 262 69 = ((143 : Nat) : Int) by decide), e1, j1]
    · rw [(lkv_e (c := 61) hI.1 (by omega) (by omega)).mpr hc] at k1
      have lt := chr_lt (T := T) (n := n) (a := skp T n p) (by rw [hc]; exact (by decide : (0 : Int) < Fo.sgA 9))
      have hR2 := k2.at g1 (skp T n p + 1)
      have hI2 : RsI T n (skp T n p + 1) d q := ⟨hI.1, ⟨by omega, by omega⟩, n800, hd0, hq0⟩
      have fr2 : ∀ a, a ≠ ro → wup w1 ro (.inr (4, fup F1 2 (.inl (skp T n p + 1)))) a = w a := fun a ha => by rw [wup_n ha, k3 a ha]
      have sb2 := skp_b (T := T) (n := n) (a := skp T n p + 1) (by omega)
      have hb := fnd_n hL (show 1 ≤ fnd L (chr T n (skp T n (skp T n p + 1))) q.toNat by omega)
      obtain ⟨w3, e1, e2, e3⟩ := c_var1 (l := l) (δ := δ) (zz := (z, m)) hI2 hL hR2 hf hm
      have hI3 : RsI T n (skp T n (skp T n p + 1) + 1) d q := ⟨hI.1, ⟨by omega, by omega⟩, n800, hd0, hq0⟩
      have sb3 := skp_b (T := T) (n := n) (a := skp T n (skp T n p + 1) + 1) (by omega)
      obtain ⟨F2, q2, -⟩ := e2.ob
      have hR3 : RS (wup w3 z (.inr (5, f0_5))) ro ta ll T n (skp T n (skp T n p + 1) + 1) d q L := e2.keep (wup_n (by omega)) (wup_n (by omega)) (wup_n (by omega))
      obtain ⟨F3, q3, -⟩ := hR3.ob
      obtain ⟨w4, ⟨w5, F5, j1, j2, j3, j4⟩, j5⟩ := c_var0 (l := l) (δ := δ) (z := z + 1) (m := m + 3) hI3 hL hR3 (by omega) hg
      refine thr_R (w1 := w4) (z1 := z + 1) (m1 := m + 3) ⟨w5, F5, ?_, j2, j3, j4⟩ (fun a a1 a2 a3 => by rw [j5 a a2, wup_n (by omega), e3 a a2, fr2 a a2]) (by omega) (by omega) (by omega)
      rw [N_X4_part]; unfold B_X4_part
      simp (disch := first | rfl | exact okv_i | exact okv_o | exact okv_a | exact b_ft _ | (simp only [wt_c, wt_0, vc_i, vc_l, vc_r] <;> decide) | omega | exact i32_r _ | exact b2i_r _ | exact b2i_01 _ | exact zAnd_r _ _ | exact zOr_r _ _ | exact zXor_r _ _ | exact zShl_r _ _ | exact zShr_r _ _ | exact zByte_r _ | exact zcmp_r _ _ | decide) only [Bool.decide_eq_true, Bool.decide_eq_false, ↓if_pos, ↓if_neg, ↓reduceIte, Nat.reduceEqDiff, Int.reduceLE, Int.reduceLT, Int.reduceEq, Int.reduceNe, Nat.reduceBEq, Int.reduceAdd, Int.reduceMul, Int.reduceSub, Int.reduceNeg, Nat.reduceAdd, not_false_eq_true, not_true_eq_false, decide_true, decide_false, Bool.not_true, Bool.not_false, Bool.true_and, Bool.false_and, Bool.and_true, Bool.and_false, Bool.true_or, Bool.false_or, Bool.or_true, Bool.or_false, Bool.not_not, decide_not, Decidable.not_not, ite_not, b2i_t, b2i_f, ne_eq, Bool.not_eq_true, Bool.not_eq_false, decide_eq_true_eq, decide_eq_false_iff_not, Bool.false_eq_true, Bool.true_eq_false, reduceCtorEq, if_true, if_false, ite_self, ite_b0, ite_b1, ite_0b, ite_1b, ite_bb, x_done, x_blk, x_lp, x_er, erL_0, erL_t, erL_f, kl_n, kl_i, kl_r, kl_l, bd_i, bd_r, bk_i, bk_e, bk_n, bk_r, bd_ite, bk_ite, lk_i, lk_e, lk_n, lk_r, lk_ite, ite_nx, b2i_i, b2i_n, b2i_0, b2i_1, b2i_e, bres_r, bres_ite, mres_v, mres_n, sF_1, sF_2, sA_1, sA_2, zcmp_lt, zcmp_gt, zcmp_le, zcmp_ge, zcmp_eq, List.lookup_cons, List.lookup_nil, mresX_v, mresX_n, mresX_t, bd_t, bres_t, y_rO, y_dO, y_dA, yO_o, yO_n, dR_e, rOx_s, rOx_n, dAx_s, dAx_n, wup_s, wup_n, fup_s, fup_n, beq_self_eq_true, Nat.reduceBEq, Nat.reduceLT, Nat.reduceSub, x_aload_n0, x_callG1, x_istore_n1, x_iload_n1, x_dup, y_get, yGet_o, yLk_s, x_iconst, x_iadd, y_put, y_putF, yPut_o, yPk_s, x_new, x_i2c, x_callG4, x_areturn, x_istore_n2, x_iload_n2, x_callG2, x_astore_n3, x_isub, x_aload_n3, x_astore4, x_bipush, x_icmp_ne, x_goto, x_aload4, x_athrow, g0, k1, g1, g2, q2, q3, x_lookup 143 (show -2147483648 ≤ (61 : Int) ∧ (61 : Int) ≤ 2147483647 by decide) (show ((6 : Nat) : Int) + Op.lookupswitch.offset (#[(40, 195), (45, 167), (61, 137), (63, 246), (64, 246), (65, 112), (66, 112), (69, 137), (70, 90), (84, 90)] : Array (Int × Int)).toList 262 61 = ((143 : Nat) : Int) by decide), e1, j1]
  | @bi2 s p d q L k v v' hc hk hf hm hg hm' =>
    intro N w z m hRI
    refine ⟨fun _ hN hR => ?_, fun z => absurd z (by decide), fun z => absurd z (by decide)⟩
    obtain ⟨hI, hL, hz, hδ⟩ := hRI
    have hp := hI.2.1
    have n800 := hI.2.2.1
    have hd0 := hI.2.2.2.1
    have hq0 := hI.2.2.2.2
    have sb := skp_b (T := T) hp.2
    obtain ⟨M, rfl⟩ : ∃ M, N = M + 1 := ⟨N - 1, by omega⟩
    obtain ⟨w1, k1, k2, k3⟩ := c_look (l := l) (δ := δ) (zz := (z, m)) hI hR
    obtain ⟨F0, g0, -⟩ := hR.ob
    obtain ⟨F1, g1, g2, g3, g4, g5⟩ := k2.ob
    rcases hk with rfl | rfl
    · rw [(lkv_e (c := 69) hI.1 (by omega) (by omega)).mpr hc] at k1
      have lt := chr_lt (T := T) (n := n) (a := skp T n p) (by rw [hc]; exact (by decide : (0 : Int) < Fo.sgA 8))
      have hR2 := k2.at g1 (skp T n p + 1)
      have hI2 : RsI T n (skp T n p + 1) d q := ⟨hI.1, ⟨by omega, by omega⟩, n800, hd0, hq0⟩
      have fr2 : ∀ a, a ≠ ro → wup w1 ro (.inr (4, fup F1 2 (.inl (skp T n p + 1)))) a = w a := fun a ha => by rw [wup_n ha, k3 a ha]
      have sb2 := skp_b (T := T) (n := n) (a := skp T n p + 1) (by omega)
      have hb := fnd_n hL (show 1 ≤ fnd L (chr T n (skp T n (skp T n p + 1))) q.toNat by omega)
      obtain ⟨w3, e1, e2, e3⟩ := c_var1 (l := l) (δ := δ) (zz := (z, m)) hI2 hL hR2 hf hm
      have hI3 : RsI T n (skp T n (skp T n p + 1) + 1) d q := ⟨hI.1, ⟨by omega, by omega⟩, n800, hd0, hq0⟩
      have sb3 := skp_b (T := T) (n := n) (a := skp T n (skp T n p + 1) + 1) (by omega)
      obtain ⟨F2, q2, -⟩ := e2.ob
      have hR3 : RS (wup w3 z (.inr (5, f0_5))) ro ta ll T n (skp T n (skp T n p + 1) + 1) d q L := e2.keep (wup_n (by omega)) (wup_n (by omega)) (wup_n (by omega))
      obtain ⟨F3, q3, -⟩ := hR3.ob
      have hb2 := fnd_n hL (show 1 ≤ fnd L (chr T n (skp T n (skp T n (skp T n p + 1) + 1))) q.toNat by omega)
      obtain ⟨w4, j1, j2, j3⟩ := c_var1 (l := l) (δ := δ) (zz := (z + 1, m + 3)) hI3 hL hR3 hg hm'
      obtain ⟨w5, F5, i1, i2, i3, i4, i5, i6⟩ := c_atomI (l := l) (δ := δ) (w := w4) (r := z) (k := 69) (vm := v) (vn := v') (zz := (z + 1, m + 3)) (by rw [j3 z (by omega), wup_s]) (by decide)
      refine ⟨w5, z + 1, m + 3, z, ?_, j2.keep (i6 ro (by omega)) (i6 ta (by omega)) (i6 ll (by omega)), ?_, ⟨by omega, by omega⟩, fun a a1 a2 a3 => by rw [i6 a (by omega), j3 a a2, wup_n (by omega), e3 a a2, fr2 a a2], by omega, by omega⟩
      · rw [N_X4_part]; unfold B_X4_part
        simp (disch := first | rfl | exact okv_i | exact okv_o | exact okv_a | exact b_ft _ | (simp only [wt_c, wt_0, vc_i, vc_l, vc_r] <;> decide) | omega | exact i32_r _ | exact b2i_r _ | exact b2i_01 _ | exact zAnd_r _ _ | exact zOr_r _ _ | exact zXor_r _ _ | exact zShl_r _ _ | exact zShr_r _ _ | exact zByte_r _ | exact zcmp_r _ _ | decide) only [Bool.decide_eq_true, Bool.decide_eq_false, ↓if_pos, ↓if_neg, ↓reduceIte, Nat.reduceEqDiff, Int.reduceLE, Int.reduceLT, Int.reduceEq, Int.reduceNe, Nat.reduceBEq, Int.reduceAdd, Int.reduceMul, Int.reduceSub, Int.reduceNeg, Nat.reduceAdd, not_false_eq_true, not_true_eq_false, decide_true, decide_false, Bool.not_true, Bool.not_false, Bool.true_and, Bool.false_and, Bool.and_true, Bool.and_false, Bool.true_or, Bool.false_or, Bool.or_true, Bool.or_false, Bool.not_not, decide_not, Decidable.not_not, ite_not, b2i_t, b2i_f, ne_eq, Bool.not_eq_true, Bool.not_eq_false, decide_eq_true_eq, decide_eq_false_iff_not, Bool.false_eq_true, Bool.true_eq_false, reduceCtorEq, if_true, if_false, ite_self, ite_b0, ite_b1, ite_0b, ite_1b, ite_bb, x_done, x_blk, x_lp, x_er, erL_0, erL_t, erL_f, kl_n, kl_i, kl_r, kl_l, bd_i, bd_r, bk_i, bk_e, bk_n, bk_r, bd_ite, bk_ite, lk_i, lk_e, lk_n, lk_r, lk_ite, ite_nx, b2i_i, b2i_n, b2i_0, b2i_1, b2i_e, bres_r, bres_ite, mres_v, mres_n, sF_1, sF_2, sA_1, sA_2, zcmp_lt, zcmp_gt, zcmp_le, zcmp_ge, zcmp_eq, List.lookup_cons, List.lookup_nil, mresX_v, mresX_n, mresX_t, bd_t, bres_t, y_rO, y_dO, y_dA, yO_o, yO_n, dR_e, rOx_s, rOx_n, dAx_s, dAx_n, wup_s, wup_n, fup_s, fup_n, beq_self_eq_true, Nat.reduceBEq, Nat.reduceLT, Nat.reduceSub, x_aload_n0, x_callG1, x_istore_n1, x_iload_n1, x_dup, y_get, yGet_o, yLk_s, x_iconst, x_iadd, y_put, y_putF, yPut_o, yPk_s, x_new, x_i2c, x_callG4, x_areturn, x_istore_n2, x_iload_n2, x_callG2, x_astore_n3, x_isub, x_aload_n3, x_astore4, x_bipush, x_icmp_ne, x_goto, x_aload4, x_athrow, g0, k1, g1, g2, q2, q3, x_lookup 143 (show -2147483648 ≤ (69 : Int) ∧ (69 : Int) ≤ 2147483647 by decide) (show ((6 : Nat) : Int) + Op.lookupswitch.offset (#[(40, 195), (45, 167), (61, 137), (63, 246), (64, 246), (65, 112), (66, 112), (69, 137), (70, 90), (84, 90)] : Array (Int × Int)).toList 262 69 = ((143 : Nat) : Int) by decide), e1, j1, i1]
      · rw [FR_atom (q := q) (Or.inr (Or.inr ⟨by omega, ⟨hm, by omega⟩, ⟨hm', by omega⟩⟩))]
        exact ⟨⟨by omega, by omega⟩, F5, i2, i3, i4, i5⟩
    · rw [(lkv_e (c := 61) hI.1 (by omega) (by omega)).mpr hc] at k1
      have lt := chr_lt (T := T) (n := n) (a := skp T n p) (by rw [hc]; exact (by decide : (0 : Int) < Fo.sgA 9))
      have hR2 := k2.at g1 (skp T n p + 1)
      have hI2 : RsI T n (skp T n p + 1) d q := ⟨hI.1, ⟨by omega, by omega⟩, n800, hd0, hq0⟩
      have fr2 : ∀ a, a ≠ ro → wup w1 ro (.inr (4, fup F1 2 (.inl (skp T n p + 1)))) a = w a := fun a ha => by rw [wup_n ha, k3 a ha]
      have sb2 := skp_b (T := T) (n := n) (a := skp T n p + 1) (by omega)
      have hb := fnd_n hL (show 1 ≤ fnd L (chr T n (skp T n (skp T n p + 1))) q.toNat by omega)
      obtain ⟨w3, e1, e2, e3⟩ := c_var1 (l := l) (δ := δ) (zz := (z, m)) hI2 hL hR2 hf hm
      have hI3 : RsI T n (skp T n (skp T n p + 1) + 1) d q := ⟨hI.1, ⟨by omega, by omega⟩, n800, hd0, hq0⟩
      have sb3 := skp_b (T := T) (n := n) (a := skp T n (skp T n p + 1) + 1) (by omega)
      obtain ⟨F2, q2, -⟩ := e2.ob
      have hR3 : RS (wup w3 z (.inr (5, f0_5))) ro ta ll T n (skp T n (skp T n p + 1) + 1) d q L := e2.keep (wup_n (by omega)) (wup_n (by omega)) (wup_n (by omega))
      obtain ⟨F3, q3, -⟩ := hR3.ob
      have hb2 := fnd_n hL (show 1 ≤ fnd L (chr T n (skp T n (skp T n (skp T n p + 1) + 1))) q.toNat by omega)
      obtain ⟨w4, j1, j2, j3⟩ := c_var1 (l := l) (δ := δ) (zz := (z + 1, m + 3)) hI3 hL hR3 hg hm'
      obtain ⟨w5, F5, i1, i2, i3, i4, i5, i6⟩ := c_atomI (l := l) (δ := δ) (w := w4) (r := z) (k := 61) (vm := v) (vn := v') (zz := (z + 1, m + 3)) (by rw [j3 z (by omega), wup_s]) (by decide)
      refine ⟨w5, z + 1, m + 3, z, ?_, j2.keep (i6 ro (by omega)) (i6 ta (by omega)) (i6 ll (by omega)), ?_, ⟨by omega, by omega⟩, fun a a1 a2 a3 => by rw [i6 a (by omega), j3 a a2, wup_n (by omega), e3 a a2, fr2 a a2], by omega, by omega⟩
      · rw [N_X4_part]; unfold B_X4_part
        simp (disch := first | rfl | exact okv_i | exact okv_o | exact okv_a | exact b_ft _ | (simp only [wt_c, wt_0, vc_i, vc_l, vc_r] <;> decide) | omega | exact i32_r _ | exact b2i_r _ | exact b2i_01 _ | exact zAnd_r _ _ | exact zOr_r _ _ | exact zXor_r _ _ | exact zShl_r _ _ | exact zShr_r _ _ | exact zByte_r _ | exact zcmp_r _ _ | decide) only [Bool.decide_eq_true, Bool.decide_eq_false, ↓if_pos, ↓if_neg, ↓reduceIte, Nat.reduceEqDiff, Int.reduceLE, Int.reduceLT, Int.reduceEq, Int.reduceNe, Nat.reduceBEq, Int.reduceAdd, Int.reduceMul, Int.reduceSub, Int.reduceNeg, Nat.reduceAdd, not_false_eq_true, not_true_eq_false, decide_true, decide_false, Bool.not_true, Bool.not_false, Bool.true_and, Bool.false_and, Bool.and_true, Bool.and_false, Bool.true_or, Bool.false_or, Bool.or_true, Bool.or_false, Bool.not_not, decide_not, Decidable.not_not, ite_not, b2i_t, b2i_f, ne_eq, Bool.not_eq_true, Bool.not_eq_false, decide_eq_true_eq, decide_eq_false_iff_not, Bool.false_eq_true, Bool.true_eq_false, reduceCtorEq, if_true, if_false, ite_self, ite_b0, ite_b1, ite_0b, ite_1b, ite_bb, x_done, x_blk, x_lp, x_er, erL_0, erL_t, erL_f, kl_n, kl_i, kl_r, kl_l, bd_i, bd_r, bk_i, bk_e, bk_n, bk_r, bd_ite, bk_ite, lk_i, lk_e, lk_n, lk_r, lk_ite, ite_nx, b2i_i, b2i_n, b2i_0, b2i_1, b2i_e, bres_r, bres_ite, mres_v, mres_n, sF_1, sF_2, sA_1, sA_2, zcmp_lt, zcmp_gt, zcmp_le, zcmp_ge, zcmp_eq, List.lookup_cons, List.lookup_nil, mresX_v, mresX_n, mresX_t, bd_t, bres_t, y_rO, y_dO, y_dA, yO_o, yO_n, dR_e, rOx_s, rOx_n, dAx_s, dAx_n, wup_s, wup_n, fup_s, fup_n, beq_self_eq_true, Nat.reduceBEq, Nat.reduceLT, Nat.reduceSub, x_aload_n0, x_callG1, x_istore_n1, x_iload_n1, x_dup, y_get, yGet_o, yLk_s, x_iconst, x_iadd, y_put, y_putF, yPut_o, yPk_s, x_new, x_i2c, x_callG4, x_areturn, x_istore_n2, x_iload_n2, x_callG2, x_astore_n3, x_isub, x_aload_n3, x_astore4, x_bipush, x_icmp_ne, x_goto, x_aload4, x_athrow, g0, k1, g1, g2, q2, q3, x_lookup 143 (show -2147483648 ≤ (61 : Int) ∧ (61 : Int) ≤ 2147483647 by decide) (show ((6 : Nat) : Int) + Op.lookupswitch.offset (#[(40, 195), (45, 167), (61, 137), (63, 246), (64, 246), (65, 112), (66, 112), (69, 137), (70, 90), (84, 90)] : Array (Int × Int)).toList 262 61 = ((143 : Nat) : Int) by decide), e1, j1, i1]
      · rw [FR_atom (q := q) (Or.inr (Or.inr ⟨by omega, ⟨hm, by omega⟩, ⟨hm', by omega⟩⟩))]
        exact ⟨⟨by omega, by omega⟩, F5, i2, i3, i4, i5⟩
  | @notD s p d q L hc hd =>
    intro N w z m hRI
    refine ⟨fun _ hN hR => ?_, fun z => absurd z (by decide), fun z => absurd z (by decide)⟩
    obtain ⟨hI, hL, hz, hδ⟩ := hRI
    have hp := hI.2.1
    have n800 := hI.2.2.1
    have hd0 := hI.2.2.2.1
    have hq0 := hI.2.2.2.2
    have sb := skp_b (T := T) hp.2
    obtain ⟨M, rfl⟩ : ∃ M, N = M + 1 := ⟨N - 1, by omega⟩
    obtain ⟨w1, k1, k2, k3⟩ := c_look (l := l) (δ := δ) (zz := (z, m)) hI hR
    obtain ⟨F0, g0, -⟩ := hR.ob
    obtain ⟨F1, g1, g2, g3, g4, g5⟩ := k2.ob
    rw [(lkv_e (c := 45) hI.1 (by omega) (by omega)).mpr hc] at k1
    have hI1 : RsI T n (skp T n p) d q := ⟨hI.1, ⟨by omega, by omega⟩, n800, hd0, hq0⟩
    obtain ⟨w2, F2, e1, e2, e3, e4⟩ := c_nest0 (l := l) (δ := δ) (m := m) hI1 k2 hz.1 hd
    refine thr_R (w1 := w1) (z1 := z) (m1 := m) ⟨w2, F2, ?_, e2, e3, e4⟩ (fun a a1 a2 a3 => k3 a a2) (by omega) (by omega) (by omega)
    rw [N_X4_part]; unfold B_X4_part
    simp (disch := first | rfl | exact okv_i | exact okv_o | exact okv_a | exact b_ft _ | (simp only [wt_c, wt_0, vc_i, vc_l, vc_r] <;> decide) | omega | exact i32_r _ | exact b2i_r _ | exact b2i_01 _ | exact zAnd_r _ _ | exact zOr_r _ _ | exact zXor_r _ _ | exact zShl_r _ _ | exact zShr_r _ _ | exact zByte_r _ | exact zcmp_r _ _ | decide) only [Bool.decide_eq_true, Bool.decide_eq_false, ↓if_pos, ↓if_neg, ↓reduceIte, Nat.reduceEqDiff, Int.reduceLE, Int.reduceLT, Int.reduceEq, Int.reduceNe, Nat.reduceBEq, Int.reduceAdd, Int.reduceMul, Int.reduceSub, Int.reduceNeg, Nat.reduceAdd, not_false_eq_true, not_true_eq_false, decide_true, decide_false, Bool.not_true, Bool.not_false, Bool.true_and, Bool.false_and, Bool.and_true, Bool.and_false, Bool.true_or, Bool.false_or, Bool.or_true, Bool.or_false, Bool.not_not, decide_not, Decidable.not_not, ite_not, b2i_t, b2i_f, ne_eq, Bool.not_eq_true, Bool.not_eq_false, decide_eq_true_eq, decide_eq_false_iff_not, Bool.false_eq_true, Bool.true_eq_false, reduceCtorEq, if_true, if_false, ite_self, ite_b0, ite_b1, ite_0b, ite_1b, ite_bb, x_done, x_blk, x_lp, x_er, erL_0, erL_t, erL_f, kl_n, kl_i, kl_r, kl_l, bd_i, bd_r, bk_i, bk_e, bk_n, bk_r, bd_ite, bk_ite, lk_i, lk_e, lk_n, lk_r, lk_ite, ite_nx, b2i_i, b2i_n, b2i_0, b2i_1, b2i_e, bres_r, bres_ite, mres_v, mres_n, sF_1, sF_2, sA_1, sA_2, zcmp_lt, zcmp_gt, zcmp_le, zcmp_ge, zcmp_eq, List.lookup_cons, List.lookup_nil, mresX_v, mresX_n, mresX_t, bd_t, bres_t, y_rO, y_dO, y_dA, yO_o, yO_n, dR_e, rOx_s, rOx_n, dAx_s, dAx_n, wup_s, wup_n, fup_s, fup_n, beq_self_eq_true, Nat.reduceBEq, Nat.reduceLT, Nat.reduceSub, x_aload_n0, x_callG1, x_istore_n1, x_iload_n1, x_dup, y_get, yGet_o, yLk_s, x_iconst, x_iadd, y_put, y_putF, yPut_o, yPk_s, x_new, x_i2c, x_callG4, x_areturn, x_istore_n2, x_iload_n2, x_callG2, x_astore_n3, x_isub, x_aload_n3, x_astore4, x_bipush, x_icmp_ne, x_goto, x_aload4, x_athrow, g0, k1, g1, x_lookup 173 (show -2147483648 ≤ (45 : Int) ∧ (45 : Int) ≤ 2147483647 by decide) (show ((6 : Nat) : Int) + Op.lookupswitch.offset (#[(40, 195), (45, 167), (61, 137), (63, 246), (64, 246), (65, 112), (66, 112), (69, 137), (70, 90), (84, 90)] : Array (Int × Int)).toList 262 45 = ((173 : Nat) : Int) by decide), e1]
  | @notE s p d q L e hc hd h ih =>
    intro N w z m hRI
    refine ⟨fun _ hN hR => ?_, fun z => absurd z (by decide), fun z => absurd z (by decide)⟩
    obtain ⟨hI, hL, hz, hδ⟩ := hRI
    have hp := hI.2.1
    have n800 := hI.2.2.1
    have hd0 := hI.2.2.2.1
    have hq0 := hI.2.2.2.2
    have sb := skp_b (T := T) hp.2
    obtain ⟨M, rfl⟩ : ∃ M, N = M + 1 := ⟨N - 1, by omega⟩
    obtain ⟨w1, k1, k2, k3⟩ := c_look (l := l) (δ := δ) (zz := (z, m)) hI hR
    obtain ⟨F0, g0, -⟩ := hR.ob
    obtain ⟨F1, g1, g2, g3, g4, g5⟩ := k2.ob
    rw [(lkv_e (c := 45) hI.1 (by omega) (by omega)).mpr hc] at k1
    have hI1 : RsI T n (skp T n p) d q := ⟨hI.1, ⟨by omega, by omega⟩, n800, hd0, hq0⟩
    have lt := chr_lt (T := T) (n := n) (a := skp T n p) (by rw [hc]; decide)
    obtain ⟨w2, n1, n2, n3⟩ := c_nest1 (l := l) (δ := δ) (zz := (z, m)) hI1 k2 hd
    have hI2 : RsI T n (skp T n p + 1) (d + 1) q := ⟨hI.1, ⟨by omega, by omega⟩, n800, ⟨by omega, by omega⟩, hq0⟩
    have fr2 : ∀ a, a ≠ ro → w2 a = w a := fun a ha => by rw [n3 a ha, k3 a ha]
    obtain ⟨F2, q2, -⟩ := n2.ob
    have hR3 : RS (wup w2 z (.inr (7, f0_7))) ro ta ll T n (skp T n p + 1) (d + 1) q L := n2.keep (wup_n (by omega)) (wup_n (by omega)) (wup_n (by omega))
    obtain ⟨F3, q3, -⟩ := hR3.ob
    have hx := (ih M (wup w2 z (.inr (7, f0_7))) (z + 1) (m + 1) ⟨hI2, hL, ⟨by omega, by omega, by omega⟩, by omega⟩).1 rfl (by omega) hR3
    obtain ⟨w4, z4, m4, x4, F4, a1, a2, a3, a4, a5, a6, a7⟩ := hx
    refine ⟨w4, z4, m4, x4, F4, ?_, a2, a3, fun a b1 b2 b3 => by rw [a4 a (by omega) b2 b3, wup_n (by omega), fr2 a b2], by omega, by omega, by omega⟩
    rw [N_X4_part]; unfold B_X4_part
    simp (disch := first | rfl | exact okv_i | exact okv_o | exact okv_a | exact b_ft _ | (simp only [wt_c, wt_0, vc_i, vc_l, vc_r] <;> decide) | omega | exact i32_r _ | exact b2i_r _ | exact b2i_01 _ | exact zAnd_r _ _ | exact zOr_r _ _ | exact zXor_r _ _ | exact zShl_r _ _ | exact zShr_r _ _ | exact zByte_r _ | exact zcmp_r _ _ | decide) only [Bool.decide_eq_true, Bool.decide_eq_false, ↓if_pos, ↓if_neg, ↓reduceIte, Nat.reduceEqDiff, Int.reduceLE, Int.reduceLT, Int.reduceEq, Int.reduceNe, Nat.reduceBEq, Int.reduceAdd, Int.reduceMul, Int.reduceSub, Int.reduceNeg, Nat.reduceAdd, not_false_eq_true, not_true_eq_false, decide_true, decide_false, Bool.not_true, Bool.not_false, Bool.true_and, Bool.false_and, Bool.and_true, Bool.and_false, Bool.true_or, Bool.false_or, Bool.or_true, Bool.or_false, Bool.not_not, decide_not, Decidable.not_not, ite_not, b2i_t, b2i_f, ne_eq, Bool.not_eq_true, Bool.not_eq_false, decide_eq_true_eq, decide_eq_false_iff_not, Bool.false_eq_true, Bool.true_eq_false, reduceCtorEq, if_true, if_false, ite_self, ite_b0, ite_b1, ite_0b, ite_1b, ite_bb, x_done, x_blk, x_lp, x_er, erL_0, erL_t, erL_f, kl_n, kl_i, kl_r, kl_l, bd_i, bd_r, bk_i, bk_e, bk_n, bk_r, bd_ite, bk_ite, lk_i, lk_e, lk_n, lk_r, lk_ite, ite_nx, b2i_i, b2i_n, b2i_0, b2i_1, b2i_e, bres_r, bres_ite, mres_v, mres_n, sF_1, sF_2, sA_1, sA_2, zcmp_lt, zcmp_gt, zcmp_le, zcmp_ge, zcmp_eq, List.lookup_cons, List.lookup_nil, mresX_v, mresX_n, mresX_t, bd_t, bres_t, y_rO, y_dO, y_dA, yO_o, yO_n, dR_e, rOx_s, rOx_n, dAx_s, dAx_n, wup_s, wup_n, fup_s, fup_n, beq_self_eq_true, Nat.reduceBEq, Nat.reduceLT, Nat.reduceSub, x_aload_n0, x_callG1, x_istore_n1, x_iload_n1, x_dup, y_get, yGet_o, yLk_s, x_iconst, x_iadd, y_put, y_putF, yPut_o, yPk_s, x_new, x_i2c, x_callG4, x_areturn, x_istore_n2, x_iload_n2, x_callG2, x_astore_n3, x_isub, x_aload_n3, x_astore4, x_bipush, x_icmp_ne, x_goto, x_aload4, x_athrow, g0, k1, g1, q2, q3, x_lookup 173 (show -2147483648 ≤ (45 : Int) ∧ (45 : Int) ≤ 2147483647 by decide) (show ((6 : Nat) : Int) + Op.lookupswitch.offset (#[(40, 195), (45, 167), (61, 137), (63, 246), (64, 246), (65, 112), (66, 112), (69, 137), (70, 90), (84, 90)] : Array (Int × Int)).toList 262 45 = ((173 : Nat) : Int) by decide), n1, a1]
  | @notF s p d q L f x hc hd h ih =>
    intro N w z m hRI
    refine ⟨fun _ hN hR => ?_, fun z => absurd z (by decide), fun z => absurd z (by decide)⟩
    obtain ⟨hI, hL, hz, hδ⟩ := hRI
    have hp := hI.2.1
    have n800 := hI.2.2.1
    have hd0 := hI.2.2.2.1
    have hq0 := hI.2.2.2.2
    have sb := skp_b (T := T) hp.2
    obtain ⟨M, rfl⟩ : ∃ M, N = M + 1 := ⟨N - 1, by omega⟩
    obtain ⟨w1, k1, k2, k3⟩ := c_look (l := l) (δ := δ) (zz := (z, m)) hI hR
    obtain ⟨F0, g0, -⟩ := hR.ob
    obtain ⟨F1, g1, g2, g3, g4, g5⟩ := k2.ob
    rw [(lkv_e (c := 45) hI.1 (by omega) (by omega)).mpr hc] at k1
    have hI1 : RsI T n (skp T n p) d q := ⟨hI.1, ⟨by omega, by omega⟩, n800, hd0, hq0⟩
    have lt := chr_lt (T := T) (n := n) (a := skp T n p) (by rw [hc]; decide)
    obtain ⟨w2, n1, n2, n3⟩ := c_nest1 (l := l) (δ := δ) (zz := (z, m)) hI1 k2 hd
    have hI2 : RsI T n (skp T n p + 1) (d + 1) q := ⟨hI.1, ⟨by omega, by omega⟩, n800, ⟨by omega, by omega⟩, hq0⟩
    have fr2 : ∀ a, a ≠ ro → w2 a = w a := fun a ha => by rw [n3 a ha, k3 a ha]
    obtain ⟨F2, q2, -⟩ := n2.ob
    have hR3 : RS (wup w2 z (.inr (7, f0_7))) ro ta ll T n (skp T n p + 1) (d + 1) q L := n2.keep (wup_n (by omega)) (wup_n (by omega)) (wup_n (by omega))
    obtain ⟨F3, q3, -⟩ := hR3.ob
    have hx := (ih M (wup w2 z (.inr (7, f0_7))) (z + 1) (m + 1) ⟨hI2, hL, ⟨by omega, by omega, by omega⟩, by omega⟩).1 rfl (by omega) hR3
    obtain ⟨w4, z4, m4, r4, a1, a2, a3, a4, a5, a6, a7⟩ := hx
    have e4 : w4 z = some (.inr (7, f0_7)) := by rw [a5 z (by omega) (by omega) (by omega), wup_s]
    obtain ⟨w5, F5, i1, i2, i3, i4⟩ := c_notI (l := l) (δ := δ) (w := w4) (r := z) (p := r4) (zz := (z4, m4)) e4
    have hR5 : RS w5 ro ta ll T n x (d + 1) q L := a2.keep (i4 ro (by omega)) (i4 ta (by omega)) (i4 ll (by omega))
    obtain ⟨F6, q6, q62, q63, -⟩ := hR5.ob
    obtain ⟨b1, b2, b3, -⟩ := h.b (by omega) hq0.1 hq0.2 (by omega) hL
    refine ⟨wup w5 ro (.inr (4, fup F6 3 (.inl d))), z4, m4, z, ?_, hR5.dp q6 d, ?_, ⟨by omega, by omega⟩, fun a c1 c2 c3 => by rw [wup_n c2, i4 a (by omega), a5 a (by omega) c2 c3, wup_n (by omega), fr2 a c2], by omega, by omega⟩
    · rw [N_X4_part]; unfold B_X4_part
      simp (disch := first | rfl | exact okv_i | exact okv_o | exact okv_a | exact b_ft _ | (simp only [wt_c, wt_0, vc_i, vc_l, vc_r] <;> decide) | omega | exact i32_r _ | exact b2i_r _ | exact b2i_01 _ | exact zAnd_r _ _ | exact zOr_r _ _ | exact zXor_r _ _ | exact zShl_r _ _ | exact zShr_r _ _ | exact zByte_r _ | exact zcmp_r _ _ | decide) only [Bool.decide_eq_true, Bool.decide_eq_false, ↓if_pos, ↓if_neg, ↓reduceIte, Nat.reduceEqDiff, Int.reduceLE, Int.reduceLT, Int.reduceEq, Int.reduceNe, Nat.reduceBEq, Int.reduceAdd, Int.reduceMul, Int.reduceSub, Int.reduceNeg, Nat.reduceAdd, not_false_eq_true, not_true_eq_false, decide_true, decide_false, Bool.not_true, Bool.not_false, Bool.true_and, Bool.false_and, Bool.and_true, Bool.and_false, Bool.true_or, Bool.false_or, Bool.or_true, Bool.or_false, Bool.not_not, decide_not, Decidable.not_not, ite_not, b2i_t, b2i_f, ne_eq, Bool.not_eq_true, Bool.not_eq_false, decide_eq_true_eq, decide_eq_false_iff_not, Bool.false_eq_true, Bool.true_eq_false, reduceCtorEq, if_true, if_false, ite_self, ite_b0, ite_b1, ite_0b, ite_1b, ite_bb, x_done, x_blk, x_lp, x_er, erL_0, erL_t, erL_f, kl_n, kl_i, kl_r, kl_l, bd_i, bd_r, bk_i, bk_e, bk_n, bk_r, bd_ite, bk_ite, lk_i, lk_e, lk_n, lk_r, lk_ite, ite_nx, b2i_i, b2i_n, b2i_0, b2i_1, b2i_e, bres_r, bres_ite, mres_v, mres_n, sF_1, sF_2, sA_1, sA_2, zcmp_lt, zcmp_gt, zcmp_le, zcmp_ge, zcmp_eq, List.lookup_cons, List.lookup_nil, mresX_v, mresX_n, mresX_t, bd_t, bres_t, y_rO, y_dO, y_dA, yO_o, yO_n, dR_e, rOx_s, rOx_n, dAx_s, dAx_n, wup_s, wup_n, fup_s, fup_n, beq_self_eq_true, Nat.reduceBEq, Nat.reduceLT, Nat.reduceSub, x_aload_n0, x_callG1, x_istore_n1, x_iload_n1, x_dup, y_get, yGet_o, yLk_s, x_iconst, x_iadd, y_put, y_putF, yPut_o, yPk_s, x_new, x_i2c, x_callG4, x_areturn, x_istore_n2, x_iload_n2, x_callG2, x_astore_n3, x_isub, x_aload_n3, x_astore4, x_bipush, x_icmp_ne, x_goto, x_aload4, x_athrow, g0, k1, g1, q2, q3, q6, q63, Int.add_sub_cancel, x_lookup 173 (show -2147483648 ≤ (45 : Int) ∧ (45 : Int) ≤ 2147483647 by decide) (show ((6 : Nat) : Int) + Op.lookupswitch.offset (#[(40, 195), (45, 167), (61, 137), (63, 246), (64, 246), (65, 112), (66, 112), (69, 137), (70, 90), (84, 90)] : Array (Int × Int)).toList 262 45 = ((173 : Nat) : Int) by decide), n1, a1, i1]
    · rw [FR_not]
      refine ⟨⟨by omega, by omega⟩, F5, r4, by rw [wup_n (by omega)]; exact i2, i3, FR.mono (fun a ha => ⟨⟨by omega, ha.2⟩, ?_⟩) b3 _ _ _ a3⟩
      rw [wup_n (by omega), i4 a (by omega)]
  | @parD s p d q L hc hd =>
    intro N w z m hRI
    refine ⟨fun _ hN hR => ?_, fun z => absurd z (by decide), fun z => absurd z (by decide)⟩
    obtain ⟨hI, hL, hz, hδ⟩ := hRI
    have hp := hI.2.1
    have n800 := hI.2.2.1
    have hd0 := hI.2.2.2.1
    have hq0 := hI.2.2.2.2
    have sb := skp_b (T := T) hp.2
    obtain ⟨M, rfl⟩ : ∃ M, N = M + 1 := ⟨N - 1, by omega⟩
    obtain ⟨w1, k1, k2, k3⟩ := c_look (l := l) (δ := δ) (zz := (z, m)) hI hR
    obtain ⟨F0, g0, -⟩ := hR.ob
    obtain ⟨F1, g1, g2, g3, g4, g5⟩ := k2.ob
    rw [(lkv_e (c := 40) hI.1 (by omega) (by omega)).mpr hc] at k1
    have hI1 : RsI T n (skp T n p) d q := ⟨hI.1, ⟨by omega, by omega⟩, n800, hd0, hq0⟩
    obtain ⟨w2, F2, e1, e2, e3, e4⟩ := c_nest0 (l := l) (δ := δ) (m := m) hI1 k2 hz.1 hd
    refine thr_R (w1 := w1) (z1 := z) (m1 := m) ⟨w2, F2, ?_, e2, e3, e4⟩ (fun a a1 a2 a3 => k3 a a2) (by omega) (by omega) (by omega)
    rw [N_X4_part]; unfold B_X4_part
    simp (disch := first | rfl | exact okv_i | exact okv_o | exact okv_a | exact b_ft _ | (simp only [wt_c, wt_0, vc_i, vc_l, vc_r] <;> decide) | omega | exact i32_r _ | exact b2i_r _ | exact b2i_01 _ | exact zAnd_r _ _ | exact zOr_r _ _ | exact zXor_r _ _ | exact zShl_r _ _ | exact zShr_r _ _ | exact zByte_r _ | exact zcmp_r _ _ | decide) only [Bool.decide_eq_true, Bool.decide_eq_false, ↓if_pos, ↓if_neg, ↓reduceIte, Nat.reduceEqDiff, Int.reduceLE, Int.reduceLT, Int.reduceEq, Int.reduceNe, Nat.reduceBEq, Int.reduceAdd, Int.reduceMul, Int.reduceSub, Int.reduceNeg, Nat.reduceAdd, not_false_eq_true, not_true_eq_false, decide_true, decide_false, Bool.not_true, Bool.not_false, Bool.true_and, Bool.false_and, Bool.and_true, Bool.and_false, Bool.true_or, Bool.false_or, Bool.or_true, Bool.or_false, Bool.not_not, decide_not, Decidable.not_not, ite_not, b2i_t, b2i_f, ne_eq, Bool.not_eq_true, Bool.not_eq_false, decide_eq_true_eq, decide_eq_false_iff_not, Bool.false_eq_true, Bool.true_eq_false, reduceCtorEq, if_true, if_false, ite_self, ite_b0, ite_b1, ite_0b, ite_1b, ite_bb, x_done, x_blk, x_lp, x_er, erL_0, erL_t, erL_f, kl_n, kl_i, kl_r, kl_l, bd_i, bd_r, bk_i, bk_e, bk_n, bk_r, bd_ite, bk_ite, lk_i, lk_e, lk_n, lk_r, lk_ite, ite_nx, b2i_i, b2i_n, b2i_0, b2i_1, b2i_e, bres_r, bres_ite, mres_v, mres_n, sF_1, sF_2, sA_1, sA_2, zcmp_lt, zcmp_gt, zcmp_le, zcmp_ge, zcmp_eq, List.lookup_cons, List.lookup_nil, mresX_v, mresX_n, mresX_t, bd_t, bres_t, y_rO, y_dO, y_dA, yO_o, yO_n, dR_e, rOx_s, rOx_n, dAx_s, dAx_n, wup_s, wup_n, fup_s, fup_n, beq_self_eq_true, Nat.reduceBEq, Nat.reduceLT, Nat.reduceSub, x_aload_n0, x_callG1, x_istore_n1, x_iload_n1, x_dup, y_get, yGet_o, yLk_s, x_iconst, x_iadd, y_put, y_putF, yPut_o, yPk_s, x_new, x_i2c, x_callG4, x_areturn, x_istore_n2, x_iload_n2, x_callG2, x_astore_n3, x_isub, x_aload_n3, x_astore4, x_bipush, x_icmp_ne, x_goto, x_aload4, x_athrow, g0, k1, g1, x_lookup 201 (show -2147483648 ≤ (40 : Int) ∧ (40 : Int) ≤ 2147483647 by decide) (show ((6 : Nat) : Int) + Op.lookupswitch.offset (#[(40, 195), (45, 167), (61, 137), (63, 246), (64, 246), (65, 112), (66, 112), (69, 137), (70, 90), (84, 90)] : Array (Int × Int)).toList 262 40 = ((201 : Nat) : Int) by decide), e1]
  | @parE s p d q L e hc hd h ih =>
    intro N w z m hRI
    refine ⟨fun _ hN hR => ?_, fun z => absurd z (by decide), fun z => absurd z (by decide)⟩
    obtain ⟨hI, hL, hz, hδ⟩ := hRI
    have hp := hI.2.1
    have n800 := hI.2.2.1
    have hd0 := hI.2.2.2.1
    have hq0 := hI.2.2.2.2
    have sb := skp_b (T := T) hp.2
    obtain ⟨M, rfl⟩ : ∃ M, N = M + 1 := ⟨N - 1, by omega⟩
    obtain ⟨w1, k1, k2, k3⟩ := c_look (l := l) (δ := δ) (zz := (z, m)) hI hR
    obtain ⟨F0, g0, -⟩ := hR.ob
    obtain ⟨F1, g1, g2, g3, g4, g5⟩ := k2.ob
    rw [(lkv_e (c := 40) hI.1 (by omega) (by omega)).mpr hc] at k1
    have hI1 : RsI T n (skp T n p) d q := ⟨hI.1, ⟨by omega, by omega⟩, n800, hd0, hq0⟩
    have lt := chr_lt (T := T) (n := n) (a := skp T n p) (by rw [hc]; decide)
    obtain ⟨w2, n1, n2, n3⟩ := c_nest1 (l := l) (δ := δ) (zz := (z, m)) hI1 k2 hd
    have hI2 : RsI T n (skp T n p + 1) (d + 1) q := ⟨hI.1, ⟨by omega, by omega⟩, n800, ⟨by omega, by omega⟩, hq0⟩
    have fr2 : ∀ a, a ≠ ro → w2 a = w a := fun a ha => by rw [n3 a ha, k3 a ha]
    obtain ⟨F2, q2, -⟩ := n2.ob
    have hx := (ih M w2 z m ⟨hI2, hL, hz, hδ⟩).2.1 rfl (by omega) n2
    obtain ⟨w4, z4, m4, x4, F4, a1, a2, a3, a4, a5, a6, a7⟩ := hx
    refine ⟨w4, z4, m4, x4, F4, ?_, a2, a3, fun a b1 b2 b3 => by rw [a4 a b1 b2 b3, fr2 a b2], by omega, by omega, by omega⟩
    rw [N_X4_part]; unfold B_X4_part
    simp (disch := first | rfl | exact okv_i | exact okv_o | exact okv_a | exact b_ft _ | (simp only [wt_c, wt_0, vc_i, vc_l, vc_r] <;> decide) | omega | exact i32_r _ | exact b2i_r _ | exact b2i_01 _ | exact zAnd_r _ _ | exact zOr_r _ _ | exact zXor_r _ _ | exact zShl_r _ _ | exact zShr_r _ _ | exact zByte_r _ | exact zcmp_r _ _ | decide) only [Bool.decide_eq_true, Bool.decide_eq_false, ↓if_pos, ↓if_neg, ↓reduceIte, Nat.reduceEqDiff, Int.reduceLE, Int.reduceLT, Int.reduceEq, Int.reduceNe, Nat.reduceBEq, Int.reduceAdd, Int.reduceMul, Int.reduceSub, Int.reduceNeg, Nat.reduceAdd, not_false_eq_true, not_true_eq_false, decide_true, decide_false, Bool.not_true, Bool.not_false, Bool.true_and, Bool.false_and, Bool.and_true, Bool.and_false, Bool.true_or, Bool.false_or, Bool.or_true, Bool.or_false, Bool.not_not, decide_not, Decidable.not_not, ite_not, b2i_t, b2i_f, ne_eq, Bool.not_eq_true, Bool.not_eq_false, decide_eq_true_eq, decide_eq_false_iff_not, Bool.false_eq_true, Bool.true_eq_false, reduceCtorEq, if_true, if_false, ite_self, ite_b0, ite_b1, ite_0b, ite_1b, ite_bb, x_done, x_blk, x_lp, x_er, erL_0, erL_t, erL_f, kl_n, kl_i, kl_r, kl_l, bd_i, bd_r, bk_i, bk_e, bk_n, bk_r, bd_ite, bk_ite, lk_i, lk_e, lk_n, lk_r, lk_ite, ite_nx, b2i_i, b2i_n, b2i_0, b2i_1, b2i_e, bres_r, bres_ite, mres_v, mres_n, sF_1, sF_2, sA_1, sA_2, zcmp_lt, zcmp_gt, zcmp_le, zcmp_ge, zcmp_eq, List.lookup_cons, List.lookup_nil, mresX_v, mresX_n, mresX_t, bd_t, bres_t, y_rO, y_dO, y_dA, yO_o, yO_n, dR_e, rOx_s, rOx_n, dAx_s, dAx_n, wup_s, wup_n, fup_s, fup_n, beq_self_eq_true, Nat.reduceBEq, Nat.reduceLT, Nat.reduceSub, x_aload_n0, x_callG1, x_istore_n1, x_iload_n1, x_dup, y_get, yGet_o, yLk_s, x_iconst, x_iadd, y_put, y_putF, yPut_o, yPk_s, x_new, x_i2c, x_callG4, x_areturn, x_istore_n2, x_iload_n2, x_callG2, x_astore_n3, x_isub, x_aload_n3, x_astore4, x_bipush, x_icmp_ne, x_goto, x_aload4, x_athrow, g0, k1, g1, q2, x_lookup 201 (show -2147483648 ≤ (40 : Int) ∧ (40 : Int) ≤ 2147483647 by decide) (show ((6 : Nat) : Int) + Op.lookupswitch.offset (#[(40, 195), (45, 167), (61, 137), (63, 246), (64, 246), (65, 112), (66, 112), (69, 137), (70, 90), (84, 90)] : Array (Int × Int)).toList 262 40 = ((201 : Nat) : Int) by decide), n1, a1]
  | @parB s p d q L f x hc hd h hx0 ih =>
    intro N w z m hRI
    refine ⟨fun _ hN hR => ?_, fun z => absurd z (by decide), fun z => absurd z (by decide)⟩
    obtain ⟨hI, hL, hz, hδ⟩ := hRI
    have hp := hI.2.1
    have n800 := hI.2.2.1
    have hd0 := hI.2.2.2.1
    have hq0 := hI.2.2.2.2
    have sb := skp_b (T := T) hp.2
    obtain ⟨M, rfl⟩ : ∃ M, N = M + 1 := ⟨N - 1, by omega⟩
    obtain ⟨w1, k1, k2, k3⟩ := c_look (l := l) (δ := δ) (zz := (z, m)) hI hR
    obtain ⟨F0, g0, -⟩ := hR.ob
    obtain ⟨F1, g1, g2, g3, g4, g5⟩ := k2.ob
    rw [(lkv_e (c := 40) hI.1 (by omega) (by omega)).mpr hc] at k1
    have hI1 : RsI T n (skp T n p) d q := ⟨hI.1, ⟨by omega, by omega⟩, n800, hd0, hq0⟩
    have lt := chr_lt (T := T) (n := n) (a := skp T n p) (by rw [hc]; decide)
    obtain ⟨w2, n1, n2, n3⟩ := c_nest1 (l := l) (δ := δ) (zz := (z, m)) hI1 k2 hd
    have hI2 : RsI T n (skp T n p + 1) (d + 1) q := ⟨hI.1, ⟨by omega, by omega⟩, n800, ⟨by omega, by omega⟩, hq0⟩
    have fr2 : ∀ a, a ≠ ro → w2 a = w a := fun a ha => by rw [n3 a ha, k3 a ha]
    obtain ⟨F2, q2, -⟩ := n2.ob
    have hx := (ih M w2 z m ⟨hI2, hL, hz, hδ⟩).2.1 rfl (by omega) n2
    obtain ⟨w4, z4, m4, r4, a1, a2, a3, a4, a5, a6, a7⟩ := hx
    obtain ⟨b1, b2, b3, -, b4, -⟩ := h.b (by omega) hq0.1 hq0.2 (by omega) hL
    obtain ⟨b4, b5, -⟩ := b4 rfl
    have hI4 : RsI T n x (d + 1) q := ⟨hI.1, ⟨by omega, by omega⟩, n800, ⟨by omega, by omega⟩, hq0⟩
    obtain ⟨w5, l1, l2, l3⟩ := c_look (l := l) (δ := δ) (zz := (z4, m4)) hI4 a2
    rw [b5] at l1 l2
    obtain ⟨F4, q4, -⟩ := a2.ob
    obtain ⟨F5, q5, q52, q53, -⟩ := l2.ob
    have lr := lkv_r (n := n) (a := x) hI.1 (by omega)
    have ln : ¬ lkv T n x = 41 := fun e => hx0 ((lkv_e hI.1 (by omega) (by decide)).mp e)
    obtain ⟨w6, F6, e1, e2, e3, e4⟩ := c_want0 (l := l) (δ := δ) (z := z4) (m := m4) l2 (by omega)
    refine thr_R (w1 := w5) (z1 := z4) (m1 := m4) ⟨w6, F6, ?_, e2, e3, e4⟩ (fun a c1 c2 c3 => by rw [l3 a c2, a5 a c1 c2 c3, fr2 a c2]) (by omega) (by omega) (by omega)
    rw [N_X4_part]; unfold B_X4_part
    simp (disch := first | rfl | exact okv_i | exact okv_o | exact okv_a | exact b_ft _ | (simp only [wt_c, wt_0, vc_i, vc_l, vc_r] <;> decide) | omega | exact i32_r _ | exact b2i_r _ | exact b2i_01 _ | exact zAnd_r _ _ | exact zOr_r _ _ | exact zXor_r _ _ | exact zShl_r _ _ | exact zShr_r _ _ | exact zByte_r _ | exact zcmp_r _ _ | decide) only [Bool.decide_eq_true, Bool.decide_eq_false, ↓if_pos, ↓if_neg, ↓reduceIte, Nat.reduceEqDiff, Int.reduceLE, Int.reduceLT, Int.reduceEq, Int.reduceNe, Nat.reduceBEq, Int.reduceAdd, Int.reduceMul, Int.reduceSub, Int.reduceNeg, Nat.reduceAdd, not_false_eq_true, not_true_eq_false, decide_true, decide_false, Bool.not_true, Bool.not_false, Bool.true_and, Bool.false_and, Bool.and_true, Bool.and_false, Bool.true_or, Bool.false_or, Bool.or_true, Bool.or_false, Bool.not_not, decide_not, Decidable.not_not, ite_not, b2i_t, b2i_f, ne_eq, Bool.not_eq_true, Bool.not_eq_false, decide_eq_true_eq, decide_eq_false_iff_not, Bool.false_eq_true, Bool.true_eq_false, reduceCtorEq, if_true, if_false, ite_self, ite_b0, ite_b1, ite_0b, ite_1b, ite_bb, x_done, x_blk, x_lp, x_er, erL_0, erL_t, erL_f, kl_n, kl_i, kl_r, kl_l, bd_i, bd_r, bk_i, bk_e, bk_n, bk_r, bd_ite, bk_ite, lk_i, lk_e, lk_n, lk_r, lk_ite, ite_nx, b2i_i, b2i_n, b2i_0, b2i_1, b2i_e, bres_r, bres_ite, mres_v, mres_n, sF_1, sF_2, sA_1, sA_2, zcmp_lt, zcmp_gt, zcmp_le, zcmp_ge, zcmp_eq, List.lookup_cons, List.lookup_nil, mresX_v, mresX_n, mresX_t, bd_t, bres_t, y_rO, y_dO, y_dA, yO_o, yO_n, dR_e, rOx_s, rOx_n, dAx_s, dAx_n, wup_s, wup_n, fup_s, fup_n, beq_self_eq_true, Nat.reduceBEq, Nat.reduceLT, Nat.reduceSub, x_aload_n0, x_callG1, x_istore_n1, x_iload_n1, x_dup, y_get, yGet_o, yLk_s, x_iconst, x_iadd, y_put, y_putF, yPut_o, yPk_s, x_new, x_i2c, x_callG4, x_areturn, x_istore_n2, x_iload_n2, x_callG2, x_astore_n3, x_isub, x_aload_n3, x_astore4, x_bipush, x_icmp_ne, x_goto, x_aload4, x_athrow, g0, k1, g1, q2, q4, q5, x_lookup 201 (show -2147483648 ≤ (40 : Int) ∧ (40 : Int) ≤ 2147483647 by decide) (show ((6 : Nat) : Int) + Op.lookupswitch.offset (#[(40, 195), (45, 167), (61, 137), (63, 246), (64, 246), (65, 112), (66, 112), (69, 137), (70, 90), (84, 90)] : Array (Int × Int)).toList 262 40 = ((201 : Nat) : Int) by decide), n1, a1, l1, e1]
  | @parF s p d q L f x hc hd h hx0 ih =>
    intro N w z m hRI
    refine ⟨fun _ hN hR => ?_, fun z => absurd z (by decide), fun z => absurd z (by decide)⟩
    obtain ⟨hI, hL, hz, hδ⟩ := hRI
    have hp := hI.2.1
    have n800 := hI.2.2.1
    have hd0 := hI.2.2.2.1
    have hq0 := hI.2.2.2.2
    have sb := skp_b (T := T) hp.2
    obtain ⟨M, rfl⟩ : ∃ M, N = M + 1 := ⟨N - 1, by omega⟩
    obtain ⟨w1, k1, k2, k3⟩ := c_look (l := l) (δ := δ) (zz := (z, m)) hI hR
    obtain ⟨F0, g0, -⟩ := hR.ob
    obtain ⟨F1, g1, g2, g3, g4, g5⟩ := k2.ob
    rw [(lkv_e (c := 40) hI.1 (by omega) (by omega)).mpr hc] at k1
    have hI1 : RsI T n (skp T n p) d q := ⟨hI.1, ⟨by omega, by omega⟩, n800, hd0, hq0⟩
    have lt := chr_lt (T := T) (n := n) (a := skp T n p) (by rw [hc]; decide)
    obtain ⟨w2, n1, n2, n3⟩ := c_nest1 (l := l) (δ := δ) (zz := (z, m)) hI1 k2 hd
    have hI2 : RsI T n (skp T n p + 1) (d + 1) q := ⟨hI.1, ⟨by omega, by omega⟩, n800, ⟨by omega, by omega⟩, hq0⟩
    have fr2 : ∀ a, a ≠ ro → w2 a = w a := fun a ha => by rw [n3 a ha, k3 a ha]
    obtain ⟨F2, q2, -⟩ := n2.ob
    have hx := (ih M w2 z m ⟨hI2, hL, hz, hδ⟩).2.1 rfl (by omega) n2
    obtain ⟨w4, z4, m4, r4, a1, a2, a3, a4, a5, a6, a7⟩ := hx
    obtain ⟨b1, b2, b3, -, b4, -⟩ := h.b (by omega) hq0.1 hq0.2 (by omega) hL
    obtain ⟨b4, b5, -⟩ := b4 rfl
    have hI4 : RsI T n x (d + 1) q := ⟨hI.1, ⟨by omega, by omega⟩, n800, ⟨by omega, by omega⟩, hq0⟩
    obtain ⟨w5, l1, l2, l3⟩ := c_look (l := l) (δ := δ) (zz := (z4, m4)) hI4 a2
    rw [b5] at l1 l2
    obtain ⟨F4, q4, -⟩ := a2.ob
    obtain ⟨F5, q5, q52, q53, -⟩ := l2.ob
    rw [(lkv_e (c := 41) hI.1 (by omega) (by decide)).mpr hx0] at l1
    have ltx := chr_lt (T := T) (n := n) (a := x) (by rw [hx0]; decide)
    have hR6 := l2.at q5 (x + 1)
    have hR7 := hR6.dp wup_s d
    refine ⟨_, z4, m4, r4, ?_, hR7, FR.mono (fun a ha => ⟨ha, ?_⟩) b3 _ _ _ a3, a4, fun a c1 c2 c3 => by rw [wup_n c2, wup_n c2, l3 a c2, a5 a c1 c2 c3, fr2 a c2], by omega, by omega⟩
    · rw [N_X4_part]; unfold B_X4_part
      simp (disch := first | rfl | exact okv_i | exact okv_o | exact okv_a | exact b_ft _ | (simp only [wt_c, wt_0, vc_i, vc_l, vc_r] <;> decide) | omega | exact i32_r _ | exact b2i_r _ | exact b2i_01 _ | exact zAnd_r _ _ | exact zOr_r _ _ | exact zXor_r _ _ | exact zShl_r _ _ | exact zShr_r _ _ | exact zByte_r _ | exact zcmp_r _ _ | decide) only [Bool.decide_eq_true, Bool.decide_eq_false, ↓if_pos, ↓if_neg, ↓reduceIte, Nat.reduceEqDiff, Int.reduceLE, Int.reduceLT, Int.reduceEq, Int.reduceNe, Nat.reduceBEq, Int.reduceAdd, Int.reduceMul, Int.reduceSub, Int.reduceNeg, Nat.reduceAdd, not_false_eq_true, not_true_eq_false, decide_true, decide_false, Bool.not_true, Bool.not_false, Bool.true_and, Bool.false_and, Bool.and_true, Bool.and_false, Bool.true_or, Bool.false_or, Bool.or_true, Bool.or_false, Bool.not_not, decide_not, Decidable.not_not, ite_not, b2i_t, b2i_f, ne_eq, Bool.not_eq_true, Bool.not_eq_false, decide_eq_true_eq, decide_eq_false_iff_not, Bool.false_eq_true, Bool.true_eq_false, reduceCtorEq, if_true, if_false, ite_self, ite_b0, ite_b1, ite_0b, ite_1b, ite_bb, x_done, x_blk, x_lp, x_er, erL_0, erL_t, erL_f, kl_n, kl_i, kl_r, kl_l, bd_i, bd_r, bk_i, bk_e, bk_n, bk_r, bd_ite, bk_ite, lk_i, lk_e, lk_n, lk_r, lk_ite, ite_nx, b2i_i, b2i_n, b2i_0, b2i_1, b2i_e, bres_r, bres_ite, mres_v, mres_n, sF_1, sF_2, sA_1, sA_2, zcmp_lt, zcmp_gt, zcmp_le, zcmp_ge, zcmp_eq, List.lookup_cons, List.lookup_nil, mresX_v, mresX_n, mresX_t, bd_t, bres_t, y_rO, y_dO, y_dA, yO_o, yO_n, dR_e, rOx_s, rOx_n, dAx_s, dAx_n, wup_s, wup_n, fup_s, fup_n, beq_self_eq_true, Nat.reduceBEq, Nat.reduceLT, Nat.reduceSub, x_aload_n0, x_callG1, x_istore_n1, x_iload_n1, x_dup, y_get, yGet_o, yLk_s, x_iconst, x_iadd, y_put, y_putF, yPut_o, yPk_s, x_new, x_i2c, x_callG4, x_areturn, x_istore_n2, x_iload_n2, x_callG2, x_astore_n3, x_isub, x_aload_n3, x_astore4, x_bipush, x_icmp_ne, x_goto, x_aload4, x_athrow, g0, k1, g1, q2, q4, q5, q52, q53, Int.add_sub_cancel, x_lookup 201 (show -2147483648 ≤ (40 : Int) ∧ (40 : Int) ≤ 2147483647 by decide) (show ((6 : Nat) : Int) + Op.lookupswitch.offset (#[(40, 195), (45, 167), (61, 137), (63, 246), (64, 246), (65, 112), (66, 112), (69, 137), (70, 90), (84, 90)] : Array (Int × Int)).toList 262 40 = ((201 : Nat) : Int) by decide), n1, a1, l1, c_want1]
    · rw [wup_n (by omega), wup_n (by omega), l3 a (by omega)]
  | @eacD s p d q L a hc hdn =>
    intro N w z m hRI
    refine ⟨fun _ hN hR => ?_, fun z => absurd z (by decide), fun z => absurd z (by decide)⟩
    obtain ⟨hI, hL, hz, hδ⟩ := hRI
    have hp := hI.2.1
    have n800 := hI.2.2.1
    have hd0 := hI.2.2.2.1
    have hq0 := hI.2.2.2.2
    have sb := skp_b (T := T) hp.2
    obtain ⟨M, rfl⟩ : ∃ M, N = M + 1 := ⟨N - 1, by omega⟩
    obtain ⟨w1, k1, k2, k3⟩ := c_look (l := l) (δ := δ) (zz := (z, m)) hI hR
    obtain ⟨F0, g0, -⟩ := hR.ob
    obtain ⟨F1, g1, g2, g3, g4, g5⟩ := k2.ob
    cases a with
    | true =>
      rw [(lkv_e (c := 64) hI.1 (by omega) (by omega)).mpr hc] at k1
      have hI1 : RsI T n (skp T n p) d q := ⟨hI.1, ⟨by omega, by omega⟩, n800, hd0, hq0⟩
      obtain ⟨K, rfl⟩ : ∃ K, M = K + 1 := ⟨M - 1, by omega⟩
      have he : Thr w1 z m (skp T n p) ((R_rea l δ (K + 1)).2.1.1 [.inr (.inr (some ro)), .inl 1] (w1, z, m)) := by
        by_cases hq : q < 8
        · obtain ⟨w2, F2, e1, e2, e3, e4⟩ := c_nest0 (l := l) (δ := δ) (m := m) hI1 k2 hz.1 (fun hd => hdn ⟨hq, hd⟩)
          refine ⟨w2, F2, ?_, e2, e3, e4⟩
          rw [N_X4_each]; unfold B_X4_each
          simp (disch := first | rfl | exact okv_i | exact okv_o | exact okv_a | exact b_ft _ | (simp only [wt_c, wt_0, vc_i, vc_l, vc_r] <;> decide) | omega | exact i32_r _ | exact b2i_r _ | exact b2i_01 _ | exact zAnd_r _ _ | exact zOr_r _ _ | exact zXor_r _ _ | exact zShl_r _ _ | exact zShr_r _ _ | exact zByte_r _ | exact zcmp_r _ _ | decide) only [Bool.decide_eq_true, Bool.decide_eq_false, ↓if_pos, ↓if_neg, ↓reduceIte, Nat.reduceEqDiff, Int.reduceLE, Int.reduceLT, Int.reduceEq, Int.reduceNe, Nat.reduceBEq, Int.reduceAdd, Int.reduceMul, Int.reduceSub, Int.reduceNeg, Nat.reduceAdd, not_false_eq_true, not_true_eq_false, decide_true, decide_false, Bool.not_true, Bool.not_false, Bool.true_and, Bool.false_and, Bool.and_true, Bool.and_false, Bool.true_or, Bool.false_or, Bool.or_true, Bool.or_false, Bool.not_not, decide_not, Decidable.not_not, ite_not, b2i_t, b2i_f, ne_eq, Bool.not_eq_true, Bool.not_eq_false, decide_eq_true_eq, decide_eq_false_iff_not, Bool.false_eq_true, Bool.true_eq_false, reduceCtorEq, if_true, if_false, ite_self, ite_b0, ite_b1, ite_0b, ite_1b, ite_bb, x_done, x_blk, x_lp, x_er, erL_0, erL_t, erL_f, kl_n, kl_i, kl_r, kl_l, bd_i, bd_r, bk_i, bk_e, bk_n, bk_r, bd_ite, bk_ite, lk_i, lk_e, lk_n, lk_r, lk_ite, ite_nx, b2i_i, b2i_n, b2i_0, b2i_1, b2i_e, bres_r, bres_ite, mres_v, mres_n, sF_1, sF_2, sA_1, sA_2, zcmp_lt, zcmp_gt, zcmp_le, zcmp_ge, zcmp_eq, List.lookup_cons, List.lookup_nil, mresX_v, mresX_n, mresX_t, bd_t, bres_t, y_rO, y_dO, y_dA, yO_o, yO_n, dR_e, rOx_s, rOx_n, dAx_s, dAx_n, wup_s, wup_n, fup_s, fup_n, beq_self_eq_true, Nat.reduceBEq, Nat.reduceLT, Nat.reduceSub, x_aload_n0, y_get, yGet_o, yLk_s, x_bipush, x_icmp_ge, x_iconst, x_goto, x_callG2, x_callG1, x_istore_n2, x_dup, x_iadd, y_put, y_putF, yPut_o, yPk_s, x_iload_n2, y_iast, ySt_a, x_istore_n3, x_new, x_iload_n3, x_iload_n1, x_callG4, x_astore4, x_isub, x_aload4, x_areturn, g1, g4, c_want1, e1]
        · obtain ⟨w2, F2, e1, e2, e3, e4⟩ := c_want0 (l := l) (δ := δ) (m := m) k2 hz.1
          refine ⟨w2, F2, ?_, e2, e3, e4⟩
          rw [N_X4_each]; unfold B_X4_each
          simp (disch := first | rfl | exact okv_i | exact okv_o | exact okv_a | exact b_ft _ | (simp only [wt_c, wt_0, vc_i, vc_l, vc_r] <;> decide) | omega | exact i32_r _ | exact b2i_r _ | exact b2i_01 _ | exact zAnd_r _ _ | exact zOr_r _ _ | exact zXor_r _ _ | exact zShl_r _ _ | exact zShr_r _ _ | exact zByte_r _ | exact zcmp_r _ _ | decide) only [Bool.decide_eq_true, Bool.decide_eq_false, ↓if_pos, ↓if_neg, ↓reduceIte, Nat.reduceEqDiff, Int.reduceLE, Int.reduceLT, Int.reduceEq, Int.reduceNe, Nat.reduceBEq, Int.reduceAdd, Int.reduceMul, Int.reduceSub, Int.reduceNeg, Nat.reduceAdd, not_false_eq_true, not_true_eq_false, decide_true, decide_false, Bool.not_true, Bool.not_false, Bool.true_and, Bool.false_and, Bool.and_true, Bool.and_false, Bool.true_or, Bool.false_or, Bool.or_true, Bool.or_false, Bool.not_not, decide_not, Decidable.not_not, ite_not, b2i_t, b2i_f, ne_eq, Bool.not_eq_true, Bool.not_eq_false, decide_eq_true_eq, decide_eq_false_iff_not, Bool.false_eq_true, Bool.true_eq_false, reduceCtorEq, if_true, if_false, ite_self, ite_b0, ite_b1, ite_0b, ite_1b, ite_bb, x_done, x_blk, x_lp, x_er, erL_0, erL_t, erL_f, kl_n, kl_i, kl_r, kl_l, bd_i, bd_r, bk_i, bk_e, bk_n, bk_r, bd_ite, bk_ite, lk_i, lk_e, lk_n, lk_r, lk_ite, ite_nx, b2i_i, b2i_n, b2i_0, b2i_1, b2i_e, bres_r, bres_ite, mres_v, mres_n, sF_1, sF_2, sA_1, sA_2, zcmp_lt, zcmp_gt, zcmp_le, zcmp_ge, zcmp_eq, List.lookup_cons, List.lookup_nil, mresX_v, mresX_n, mresX_t, bd_t, bres_t, y_rO, y_dO, y_dA, yO_o, yO_n, dR_e, rOx_s, rOx_n, dAx_s, dAx_n, wup_s, wup_n, fup_s, fup_n, beq_self_eq_true, Nat.reduceBEq, Nat.reduceLT, Nat.reduceSub, x_aload_n0, y_get, yGet_o, yLk_s, x_bipush, x_icmp_ge, x_iconst, x_goto, x_callG2, x_callG1, x_istore_n2, x_dup, x_iadd, y_put, y_putF, yPut_o, yPk_s, x_iload_n2, y_iast, ySt_a, x_istore_n3, x_new, x_iload_n3, x_iload_n1, x_callG4, x_astore4, x_isub, x_aload4, x_areturn, g1, g4, e1]
      obtain ⟨w2, F2, e1, e2, e3, e4⟩ := he
      refine thr_R (w1 := w1) (z1 := z) (m1 := m) ⟨w2, F2, ?_, e2, e3, e4⟩ (fun a a1 a2 a3 => k3 a a2) (by omega) (by omega) (by omega)
      rw [N_X4_part]; unfold B_X4_part
      simp (disch := first | rfl | exact okv_i | exact okv_o | exact okv_a | exact b_ft _ | (simp only [wt_c, wt_0, vc_i, vc_l, vc_r] <;> decide) | omega | exact i32_r _ | exact b2i_r _ | exact b2i_01 _ | exact zAnd_r _ _ | exact zOr_r _ _ | exact zXor_r _ _ | exact zShl_r _ _ | exact zShr_r _ _ | exact zByte_r _ | exact zcmp_r _ _ | decide) only [Bool.decide_eq_true, Bool.decide_eq_false, ↓if_pos, ↓if_neg, ↓reduceIte, Nat.reduceEqDiff, Int.reduceLE, Int.reduceLT, Int.reduceEq, Int.reduceNe, Nat.reduceBEq, Int.reduceAdd, Int.reduceMul, Int.reduceSub, Int.reduceNeg, Nat.reduceAdd, not_false_eq_true, not_true_eq_false, decide_true, decide_false, Bool.not_true, Bool.not_false, Bool.true_and, Bool.false_and, Bool.and_true, Bool.and_false, Bool.true_or, Bool.false_or, Bool.or_true, Bool.or_false, Bool.not_not, decide_not, Decidable.not_not, ite_not, b2i_t, b2i_f, ne_eq, Bool.not_eq_true, Bool.not_eq_false, decide_eq_true_eq, decide_eq_false_iff_not, Bool.false_eq_true, Bool.true_eq_false, reduceCtorEq, if_true, if_false, ite_self, ite_b0, ite_b1, ite_0b, ite_1b, ite_bb, x_done, x_blk, x_lp, x_er, erL_0, erL_t, erL_f, kl_n, kl_i, kl_r, kl_l, bd_i, bd_r, bk_i, bk_e, bk_n, bk_r, bd_ite, bk_ite, lk_i, lk_e, lk_n, lk_r, lk_ite, ite_nx, b2i_i, b2i_n, b2i_0, b2i_1, b2i_e, bres_r, bres_ite, mres_v, mres_n, sF_1, sF_2, sA_1, sA_2, zcmp_lt, zcmp_gt, zcmp_le, zcmp_ge, zcmp_eq, List.lookup_cons, List.lookup_nil, mresX_v, mresX_n, mresX_t, bd_t, bres_t, y_rO, y_dO, y_dA, yO_o, yO_n, dR_e, rOx_s, rOx_n, dAx_s, dAx_n, wup_s, wup_n, fup_s, fup_n, beq_self_eq_true, Nat.reduceBEq, Nat.reduceLT, Nat.reduceSub, x_aload_n0, x_callG1, x_istore_n1, x_iload_n1, x_dup, y_get, yGet_o, yLk_s, x_iconst, x_iadd, y_put, y_putF, yPut_o, yPk_s, x_new, x_i2c, x_callG4, x_areturn, x_istore_n2, x_iload_n2, x_callG2, x_astore_n3, x_isub, x_aload_n3, x_astore4, x_bipush, x_icmp_ne, x_goto, x_aload4, x_athrow, g0, k1, g1, x_lookup 252 (show -2147483648 ≤ (64 : Int) ∧ (64 : Int) ≤ 2147483647 by decide) (show ((6 : Nat) : Int) + Op.lookupswitch.offset (#[(40, 195), (45, 167), (61, 137), (63, 246), (64, 246), (65, 112), (66, 112), (69, 137), (70, 90), (84, 90)] : Array (Int × Int)).toList 262 64 = ((252 : Nat) : Int) by decide), e1]
    | false =>
      rw [(lkv_e (c := 63) hI.1 (by omega) (by omega)).mpr hc] at k1
      have hI1 : RsI T n (skp T n p) d q := ⟨hI.1, ⟨by omega, by omega⟩, n800, hd0, hq0⟩
      obtain ⟨K, rfl⟩ : ∃ K, M = K + 1 := ⟨M - 1, by omega⟩
      have he : Thr w1 z m (skp T n p) ((R_rea l δ (K + 1)).2.1.1 [.inr (.inr (some ro)), .inl 0] (w1, z, m)) := by
        by_cases hq : q < 8
        · obtain ⟨w2, F2, e1, e2, e3, e4⟩ := c_nest0 (l := l) (δ := δ) (m := m) hI1 k2 hz.1 (fun hd => hdn ⟨hq, hd⟩)
          refine ⟨w2, F2, ?_, e2, e3, e4⟩
          rw [N_X4_each]; unfold B_X4_each
          simp (disch := first | rfl | exact okv_i | exact okv_o | exact okv_a | exact b_ft _ | (simp only [wt_c, wt_0, vc_i, vc_l, vc_r] <;> decide) | omega | exact i32_r _ | exact b2i_r _ | exact b2i_01 _ | exact zAnd_r _ _ | exact zOr_r _ _ | exact zXor_r _ _ | exact zShl_r _ _ | exact zShr_r _ _ | exact zByte_r _ | exact zcmp_r _ _ | decide) only [Bool.decide_eq_true, Bool.decide_eq_false, ↓if_pos, ↓if_neg, ↓reduceIte, Nat.reduceEqDiff, Int.reduceLE, Int.reduceLT, Int.reduceEq, Int.reduceNe, Nat.reduceBEq, Int.reduceAdd, Int.reduceMul, Int.reduceSub, Int.reduceNeg, Nat.reduceAdd, not_false_eq_true, not_true_eq_false, decide_true, decide_false, Bool.not_true, Bool.not_false, Bool.true_and, Bool.false_and, Bool.and_true, Bool.and_false, Bool.true_or, Bool.false_or, Bool.or_true, Bool.or_false, Bool.not_not, decide_not, Decidable.not_not, ite_not, b2i_t, b2i_f, ne_eq, Bool.not_eq_true, Bool.not_eq_false, decide_eq_true_eq, decide_eq_false_iff_not, Bool.false_eq_true, Bool.true_eq_false, reduceCtorEq, if_true, if_false, ite_self, ite_b0, ite_b1, ite_0b, ite_1b, ite_bb, x_done, x_blk, x_lp, x_er, erL_0, erL_t, erL_f, kl_n, kl_i, kl_r, kl_l, bd_i, bd_r, bk_i, bk_e, bk_n, bk_r, bd_ite, bk_ite, lk_i, lk_e, lk_n, lk_r, lk_ite, ite_nx, b2i_i, b2i_n, b2i_0, b2i_1, b2i_e, bres_r, bres_ite, mres_v, mres_n, sF_1, sF_2, sA_1, sA_2, zcmp_lt, zcmp_gt, zcmp_le, zcmp_ge, zcmp_eq, List.lookup_cons, List.lookup_nil, mresX_v, mresX_n, mresX_t, bd_t, bres_t, y_rO, y_dO, y_dA, yO_o, yO_n, dR_e, rOx_s, rOx_n, dAx_s, dAx_n, wup_s, wup_n, fup_s, fup_n, beq_self_eq_true, Nat.reduceBEq, Nat.reduceLT, Nat.reduceSub, x_aload_n0, y_get, yGet_o, yLk_s, x_bipush, x_icmp_ge, x_iconst, x_goto, x_callG2, x_callG1, x_istore_n2, x_dup, x_iadd, y_put, y_putF, yPut_o, yPk_s, x_iload_n2, y_iast, ySt_a, x_istore_n3, x_new, x_iload_n3, x_iload_n1, x_callG4, x_astore4, x_isub, x_aload4, x_areturn, g1, g4, c_want1, e1]
        · obtain ⟨w2, F2, e1, e2, e3, e4⟩ := c_want0 (l := l) (δ := δ) (m := m) k2 hz.1
          refine ⟨w2, F2, ?_, e2, e3, e4⟩
          rw [N_X4_each]; unfold B_X4_each
          simp (disch := first | rfl | exact okv_i | exact okv_o | exact okv_a | exact b_ft _ | (simp only [wt_c, wt_0, vc_i, vc_l, vc_r] <;> decide) | omega | exact i32_r _ | exact b2i_r _ | exact b2i_01 _ | exact zAnd_r _ _ | exact zOr_r _ _ | exact zXor_r _ _ | exact zShl_r _ _ | exact zShr_r _ _ | exact zByte_r _ | exact zcmp_r _ _ | decide) only [Bool.decide_eq_true, Bool.decide_eq_false, ↓if_pos, ↓if_neg, ↓reduceIte, Nat.reduceEqDiff, Int.reduceLE, Int.reduceLT, Int.reduceEq, Int.reduceNe, Nat.reduceBEq, Int.reduceAdd, Int.reduceMul, Int.reduceSub, Int.reduceNeg, Nat.reduceAdd, not_false_eq_true, not_true_eq_false, decide_true, decide_false, Bool.not_true, Bool.not_false, Bool.true_and, Bool.false_and, Bool.and_true, Bool.and_false, Bool.true_or, Bool.false_or, Bool.or_true, Bool.or_false, Bool.not_not, decide_not, Decidable.not_not, ite_not, b2i_t, b2i_f, ne_eq, Bool.not_eq_true, Bool.not_eq_false, decide_eq_true_eq, decide_eq_false_iff_not, Bool.false_eq_true, Bool.true_eq_false, reduceCtorEq, if_true, if_false, ite_self, ite_b0, ite_b1, ite_0b, ite_1b, ite_bb, x_done, x_blk, x_lp, x_er, erL_0, erL_t, erL_f, kl_n, kl_i, kl_r, kl_l, bd_i, bd_r, bk_i, bk_e, bk_n, bk_r, bd_ite, bk_ite, lk_i, lk_e, lk_n, lk_r, lk_ite, ite_nx, b2i_i, b2i_n, b2i_0, b2i_1, b2i_e, bres_r, bres_ite, mres_v, mres_n, sF_1, sF_2, sA_1, sA_2, zcmp_lt, zcmp_gt, zcmp_le, zcmp_ge, zcmp_eq, List.lookup_cons, List.lookup_nil, mresX_v, mresX_n, mresX_t, bd_t, bres_t, y_rO, y_dO, y_dA, yO_o, yO_n, dR_e, rOx_s, rOx_n, dAx_s, dAx_n, wup_s, wup_n, fup_s, fup_n, beq_self_eq_true, Nat.reduceBEq, Nat.reduceLT, Nat.reduceSub, x_aload_n0, y_get, yGet_o, yLk_s, x_bipush, x_icmp_ge, x_iconst, x_goto, x_callG2, x_callG1, x_istore_n2, x_dup, x_iadd, y_put, y_putF, yPut_o, yPk_s, x_iload_n2, y_iast, ySt_a, x_istore_n3, x_new, x_iload_n3, x_iload_n1, x_callG4, x_astore4, x_isub, x_aload4, x_areturn, g1, g4, e1]
      obtain ⟨w2, F2, e1, e2, e3, e4⟩ := he
      refine thr_R (w1 := w1) (z1 := z) (m1 := m) ⟨w2, F2, ?_, e2, e3, e4⟩ (fun a a1 a2 a3 => k3 a a2) (by omega) (by omega) (by omega)
      rw [N_X4_part]; unfold B_X4_part
      simp (disch := first | rfl | exact okv_i | exact okv_o | exact okv_a | exact b_ft _ | (simp only [wt_c, wt_0, vc_i, vc_l, vc_r] <;> decide) | omega | exact i32_r _ | exact b2i_r _ | exact b2i_01 _ | exact zAnd_r _ _ | exact zOr_r _ _ | exact zXor_r _ _ | exact zShl_r _ _ | exact zShr_r _ _ | exact zByte_r _ | exact zcmp_r _ _ | decide) only [Bool.decide_eq_true, Bool.decide_eq_false, ↓if_pos, ↓if_neg, ↓reduceIte, Nat.reduceEqDiff, Int.reduceLE, Int.reduceLT, Int.reduceEq, Int.reduceNe, Nat.reduceBEq, Int.reduceAdd, Int.reduceMul, Int.reduceSub, Int.reduceNeg, Nat.reduceAdd, not_false_eq_true, not_true_eq_false, decide_true, decide_false, Bool.not_true, Bool.not_false, Bool.true_and, Bool.false_and, Bool.and_true, Bool.and_false, Bool.true_or, Bool.false_or, Bool.or_true, Bool.or_false, Bool.not_not, decide_not, Decidable.not_not, ite_not, b2i_t, b2i_f, ne_eq, Bool.not_eq_true, Bool.not_eq_false, decide_eq_true_eq, decide_eq_false_iff_not, Bool.false_eq_true, Bool.true_eq_false, reduceCtorEq, if_true, if_false, ite_self, ite_b0, ite_b1, ite_0b, ite_1b, ite_bb, x_done, x_blk, x_lp, x_er, erL_0, erL_t, erL_f, kl_n, kl_i, kl_r, kl_l, bd_i, bd_r, bk_i, bk_e, bk_n, bk_r, bd_ite, bk_ite, lk_i, lk_e, lk_n, lk_r, lk_ite, ite_nx, b2i_i, b2i_n, b2i_0, b2i_1, b2i_e, bres_r, bres_ite, mres_v, mres_n, sF_1, sF_2, sA_1, sA_2, zcmp_lt, zcmp_gt, zcmp_le, zcmp_ge, zcmp_eq, List.lookup_cons, List.lookup_nil, mresX_v, mresX_n, mresX_t, bd_t, bres_t, y_rO, y_dO, y_dA, yO_o, yO_n, dR_e, rOx_s, rOx_n, dAx_s, dAx_n, wup_s, wup_n, fup_s, fup_n, beq_self_eq_true, Nat.reduceBEq, Nat.reduceLT, Nat.reduceSub, x_aload_n0, x_callG1, x_istore_n1, x_iload_n1, x_dup, y_get, yGet_o, yLk_s, x_iconst, x_iadd, y_put, y_putF, yPut_o, yPk_s, x_new, x_i2c, x_callG4, x_areturn, x_istore_n2, x_iload_n2, x_callG2, x_astore_n3, x_isub, x_aload_n3, x_astore4, x_bipush, x_icmp_ne, x_goto, x_aload4, x_athrow, g0, k1, g1, x_lookup 252 (show -2147483648 ≤ (63 : Int) ∧ (63 : Int) ≤ 2147483647 by decide) (show ((6 : Nat) : Int) + Op.lookupswitch.offset (#[(40, 195), (45, 167), (61, 137), (63, 246), (64, 246), (65, 112), (66, 112), (69, 137), (70, 90), (84, 90)] : Array (Int × Int)).toList 262 63 = ((252 : Nat) : Int) by decide), e1]
  | @eacL s p d q L a hc hdn hl =>
    intro N w z m hRI
    refine ⟨fun _ hN hR => ?_, fun z => absurd z (by decide), fun z => absurd z (by decide)⟩
    obtain ⟨hI, hL, hz, hδ⟩ := hRI
    have hp := hI.2.1
    have n800 := hI.2.2.1
    have hd0 := hI.2.2.2.1
    have hq0 := hI.2.2.2.2
    have sb := skp_b (T := T) hp.2
    obtain ⟨M, rfl⟩ : ∃ M, N = M + 1 := ⟨N - 1, by omega⟩
    obtain ⟨w1, k1, k2, k3⟩ := c_look (l := l) (δ := δ) (zz := (z, m)) hI hR
    obtain ⟨F0, g0, -⟩ := hR.ob
    obtain ⟨F1, g1, g2, g3, g4, g5⟩ := k2.ob
    cases a with
    | true =>
      rw [(lkv_e (c := 64) hI.1 (by omega) (by omega)).mpr hc] at k1
      have hI1 : RsI T n (skp T n p) d q := ⟨hI.1, ⟨by omega, by omega⟩, n800, hd0, hq0⟩
      have lt := chr_lt (T := T) (n := n) (a := skp T n p) (by rw [hc]; decide)
      obtain ⟨K, rfl⟩ : ∃ K, M = K + 1 := ⟨M - 1, by omega⟩
      obtain ⟨w2, n1, n2, n3⟩ := c_nest1 (l := l) (δ := δ) (zz := (z, m)) hI1 k2 hdn.2
      have hI2 : RsI T n (skp T n p + 1) (d + 1) q := ⟨hI.1, ⟨by omega, by omega⟩, n800, ⟨by omega, by omega⟩, hq0⟩
      have fr2 : ∀ a, a ≠ ro → w2 a = w a := fun a ha => by rw [n3 a ha, k3 a ha]
      obtain ⟨F2, q2, -⟩ := n2.ob
      have sb2 := skp_b (T := T) (n := n) (a := skp T n p + 1) (by omega)
      obtain ⟨w3, ⟨w4, F4, e1, e2, e3, e4⟩, e5⟩ := c_letter0 (l := l) (δ := δ) (m := m) hI2 n2 hz.1 hl
      have he : (R_rea l δ (K + 1)).2.1.1 [.inr (.inr (some ro)), .inl 1] (w1, z, m) = some (.inr z, w4, z + 1, m + 7) := by
        rw [N_X4_each]; unfold B_X4_each
        have hq8 := hdn.1
        simp (disch := first | rfl | exact okv_i | exact okv_o | exact okv_a | exact b_ft _ | (simp only [wt_c, wt_0, vc_i, vc_l, vc_r] <;> decide) | omega | exact i32_r _ | exact b2i_r _ | exact b2i_01 _ | exact zAnd_r _ _ | exact zOr_r _ _ | exact zXor_r _ _ | exact zShl_r _ _ | exact zShr_r _ _ | exact zByte_r _ | exact zcmp_r _ _ | decide) only [Bool.decide_eq_true, Bool.decide_eq_false, ↓if_pos, ↓if_neg, ↓reduceIte, Nat.reduceEqDiff, Int.reduceLE, Int.reduceLT, Int.reduceEq, Int.reduceNe, Nat.reduceBEq, Int.reduceAdd, Int.reduceMul, Int.reduceSub, Int.reduceNeg, Nat.reduceAdd, not_false_eq_true, not_true_eq_false, decide_true, decide_false, Bool.not_true, Bool.not_false, Bool.true_and, Bool.false_and, Bool.and_true, Bool.and_false, Bool.true_or, Bool.false_or, Bool.or_true, Bool.or_false, Bool.not_not, decide_not, Decidable.not_not, ite_not, b2i_t, b2i_f, ne_eq, Bool.not_eq_true, Bool.not_eq_false, decide_eq_true_eq, decide_eq_false_iff_not, Bool.false_eq_true, Bool.true_eq_false, reduceCtorEq, if_true, if_false, ite_self, ite_b0, ite_b1, ite_0b, ite_1b, ite_bb, x_done, x_blk, x_lp, x_er, erL_0, erL_t, erL_f, kl_n, kl_i, kl_r, kl_l, bd_i, bd_r, bk_i, bk_e, bk_n, bk_r, bd_ite, bk_ite, lk_i, lk_e, lk_n, lk_r, lk_ite, ite_nx, b2i_i, b2i_n, b2i_0, b2i_1, b2i_e, bres_r, bres_ite, mres_v, mres_n, sF_1, sF_2, sA_1, sA_2, zcmp_lt, zcmp_gt, zcmp_le, zcmp_ge, zcmp_eq, List.lookup_cons, List.lookup_nil, mresX_v, mresX_n, mresX_t, bd_t, bres_t, y_rO, y_dO, y_dA, yO_o, yO_n, dR_e, rOx_s, rOx_n, dAx_s, dAx_n, wup_s, wup_n, fup_s, fup_n, beq_self_eq_true, Nat.reduceBEq, Nat.reduceLT, Nat.reduceSub, x_aload_n0, y_get, yGet_o, yLk_s, x_bipush, x_icmp_ge, x_iconst, x_goto, x_callG2, x_callG1, x_istore_n2, x_dup, x_iadd, y_put, y_putF, yPut_o, yPk_s, x_iload_n2, y_iast, ySt_a, x_istore_n3, x_new, x_iload_n3, x_iload_n1, x_callG4, x_astore4, x_isub, x_aload4, x_areturn, g1, g4, c_want1, n1, q2, e1]
      refine thr_R (w1 := w3) (z1 := z) (m1 := m) ⟨w4, F4, ?_, e2, e3, e4⟩ (fun a a1 a2 a3 => by rw [e5 a a2, fr2 a a2]) (by omega) (by omega) (by omega)
      rw [N_X4_part]; unfold B_X4_part
      simp (disch := first | rfl | exact okv_i | exact okv_o | exact okv_a | exact b_ft _ | (simp only [wt_c, wt_0, vc_i, vc_l, vc_r] <;> decide) | omega | exact i32_r _ | exact b2i_r _ | exact b2i_01 _ | exact zAnd_r _ _ | exact zOr_r _ _ | exact zXor_r _ _ | exact zShl_r _ _ | exact zShr_r _ _ | exact zByte_r _ | exact zcmp_r _ _ | decide) only [Bool.decide_eq_true, Bool.decide_eq_false, ↓if_pos, ↓if_neg, ↓reduceIte, Nat.reduceEqDiff, Int.reduceLE, Int.reduceLT, Int.reduceEq, Int.reduceNe, Nat.reduceBEq, Int.reduceAdd, Int.reduceMul, Int.reduceSub, Int.reduceNeg, Nat.reduceAdd, not_false_eq_true, not_true_eq_false, decide_true, decide_false, Bool.not_true, Bool.not_false, Bool.true_and, Bool.false_and, Bool.and_true, Bool.and_false, Bool.true_or, Bool.false_or, Bool.or_true, Bool.or_false, Bool.not_not, decide_not, Decidable.not_not, ite_not, b2i_t, b2i_f, ne_eq, Bool.not_eq_true, Bool.not_eq_false, decide_eq_true_eq, decide_eq_false_iff_not, Bool.false_eq_true, Bool.true_eq_false, reduceCtorEq, if_true, if_false, ite_self, ite_b0, ite_b1, ite_0b, ite_1b, ite_bb, x_done, x_blk, x_lp, x_er, erL_0, erL_t, erL_f, kl_n, kl_i, kl_r, kl_l, bd_i, bd_r, bk_i, bk_e, bk_n, bk_r, bd_ite, bk_ite, lk_i, lk_e, lk_n, lk_r, lk_ite, ite_nx, b2i_i, b2i_n, b2i_0, b2i_1, b2i_e, bres_r, bres_ite, mres_v, mres_n, sF_1, sF_2, sA_1, sA_2, zcmp_lt, zcmp_gt, zcmp_le, zcmp_ge, zcmp_eq, List.lookup_cons, List.lookup_nil, mresX_v, mresX_n, mresX_t, bd_t, bres_t, y_rO, y_dO, y_dA, yO_o, yO_n, dR_e, rOx_s, rOx_n, dAx_s, dAx_n, wup_s, wup_n, fup_s, fup_n, beq_self_eq_true, Nat.reduceBEq, Nat.reduceLT, Nat.reduceSub, x_aload_n0, x_callG1, x_istore_n1, x_iload_n1, x_dup, y_get, yGet_o, yLk_s, x_iconst, x_iadd, y_put, y_putF, yPut_o, yPk_s, x_new, x_i2c, x_callG4, x_areturn, x_istore_n2, x_iload_n2, x_callG2, x_astore_n3, x_isub, x_aload_n3, x_astore4, x_bipush, x_icmp_ne, x_goto, x_aload4, x_athrow, g0, k1, g1, x_lookup 252 (show -2147483648 ≤ (64 : Int) ∧ (64 : Int) ≤ 2147483647 by decide) (show ((6 : Nat) : Int) + Op.lookupswitch.offset (#[(40, 195), (45, 167), (61, 137), (63, 246), (64, 246), (65, 112), (66, 112), (69, 137), (70, 90), (84, 90)] : Array (Int × Int)).toList 262 64 = ((252 : Nat) : Int) by decide), he]
    | false =>
      rw [(lkv_e (c := 63) hI.1 (by omega) (by omega)).mpr hc] at k1
      have hI1 : RsI T n (skp T n p) d q := ⟨hI.1, ⟨by omega, by omega⟩, n800, hd0, hq0⟩
      have lt := chr_lt (T := T) (n := n) (a := skp T n p) (by rw [hc]; decide)
      obtain ⟨K, rfl⟩ : ∃ K, M = K + 1 := ⟨M - 1, by omega⟩
      obtain ⟨w2, n1, n2, n3⟩ := c_nest1 (l := l) (δ := δ) (zz := (z, m)) hI1 k2 hdn.2
      have hI2 : RsI T n (skp T n p + 1) (d + 1) q := ⟨hI.1, ⟨by omega, by omega⟩, n800, ⟨by omega, by omega⟩, hq0⟩
      have fr2 : ∀ a, a ≠ ro → w2 a = w a := fun a ha => by rw [n3 a ha, k3 a ha]
      obtain ⟨F2, q2, -⟩ := n2.ob
      have sb2 := skp_b (T := T) (n := n) (a := skp T n p + 1) (by omega)
      obtain ⟨w3, ⟨w4, F4, e1, e2, e3, e4⟩, e5⟩ := c_letter0 (l := l) (δ := δ) (m := m) hI2 n2 hz.1 hl
      have he : (R_rea l δ (K + 1)).2.1.1 [.inr (.inr (some ro)), .inl 0] (w1, z, m) = some (.inr z, w4, z + 1, m + 7) := by
        rw [N_X4_each]; unfold B_X4_each
        have hq8 := hdn.1
        simp (disch := first | rfl | exact okv_i | exact okv_o | exact okv_a | exact b_ft _ | (simp only [wt_c, wt_0, vc_i, vc_l, vc_r] <;> decide) | omega | exact i32_r _ | exact b2i_r _ | exact b2i_01 _ | exact zAnd_r _ _ | exact zOr_r _ _ | exact zXor_r _ _ | exact zShl_r _ _ | exact zShr_r _ _ | exact zByte_r _ | exact zcmp_r _ _ | decide) only [Bool.decide_eq_true, Bool.decide_eq_false, ↓if_pos, ↓if_neg, ↓reduceIte, Nat.reduceEqDiff, Int.reduceLE, Int.reduceLT, Int.reduceEq, Int.reduceNe, Nat.reduceBEq, Int.reduceAdd, Int.reduceMul, Int.reduceSub, Int.reduceNeg, Nat.reduceAdd, not_false_eq_true, not_true_eq_false, decide_true, decide_false, Bool.not_true, Bool.not_false, Bool.true_and, Bool.false_and, Bool.and_true, Bool.and_false, Bool.true_or, Bool.false_or, Bool.or_true, Bool.or_false, Bool.not_not, decide_not, Decidable.not_not, ite_not, b2i_t, b2i_f, ne_eq, Bool.not_eq_true, Bool.not_eq_false, decide_eq_true_eq, decide_eq_false_iff_not, Bool.false_eq_true, Bool.true_eq_false, reduceCtorEq, if_true, if_false, ite_self, ite_b0, ite_b1, ite_0b, ite_1b, ite_bb, x_done, x_blk, x_lp, x_er, erL_0, erL_t, erL_f, kl_n, kl_i, kl_r, kl_l, bd_i, bd_r, bk_i, bk_e, bk_n, bk_r, bd_ite, bk_ite, lk_i, lk_e, lk_n, lk_r, lk_ite, ite_nx, b2i_i, b2i_n, b2i_0, b2i_1, b2i_e, bres_r, bres_ite, mres_v, mres_n, sF_1, sF_2, sA_1, sA_2, zcmp_lt, zcmp_gt, zcmp_le, zcmp_ge, zcmp_eq, List.lookup_cons, List.lookup_nil, mresX_v, mresX_n, mresX_t, bd_t, bres_t, y_rO, y_dO, y_dA, yO_o, yO_n, dR_e, rOx_s, rOx_n, dAx_s, dAx_n, wup_s, wup_n, fup_s, fup_n, beq_self_eq_true, Nat.reduceBEq, Nat.reduceLT, Nat.reduceSub, x_aload_n0, y_get, yGet_o, yLk_s, x_bipush, x_icmp_ge, x_iconst, x_goto, x_callG2, x_callG1, x_istore_n2, x_dup, x_iadd, y_put, y_putF, yPut_o, yPk_s, x_iload_n2, y_iast, ySt_a, x_istore_n3, x_new, x_iload_n3, x_iload_n1, x_callG4, x_astore4, x_isub, x_aload4, x_areturn, g1, g4, c_want1, n1, q2, e1]
      refine thr_R (w1 := w3) (z1 := z) (m1 := m) ⟨w4, F4, ?_, e2, e3, e4⟩ (fun a a1 a2 a3 => by rw [e5 a a2, fr2 a a2]) (by omega) (by omega) (by omega)
      rw [N_X4_part]; unfold B_X4_part
      simp (disch := first | rfl | exact okv_i | exact okv_o | exact okv_a | exact b_ft _ | (simp only [wt_c, wt_0, vc_i, vc_l, vc_r] <;> decide) | omega | exact i32_r _ | exact b2i_r _ | exact b2i_01 _ | exact zAnd_r _ _ | exact zOr_r _ _ | exact zXor_r _ _ | exact zShl_r _ _ | exact zShr_r _ _ | exact zByte_r _ | exact zcmp_r _ _ | decide) only [Bool.decide_eq_true, Bool.decide_eq_false, ↓if_pos, ↓if_neg, ↓reduceIte, Nat.reduceEqDiff, Int.reduceLE, Int.reduceLT, Int.reduceEq, Int.reduceNe, Nat.reduceBEq, Int.reduceAdd, Int.reduceMul, Int.reduceSub, Int.reduceNeg, Nat.reduceAdd, not_false_eq_true, not_true_eq_false, decide_true, decide_false, Bool.not_true, Bool.not_false, Bool.true_and, Bool.false_and, Bool.and_true, Bool.and_false, Bool.true_or, Bool.false_or, Bool.or_true, Bool.or_false, Bool.not_not, decide_not, Decidable.not_not, ite_not, b2i_t, b2i_f, ne_eq, Bool.not_eq_true, Bool.not_eq_false, decide_eq_true_eq, decide_eq_false_iff_not, Bool.false_eq_true, Bool.true_eq_false, reduceCtorEq, if_true, if_false, ite_self, ite_b0, ite_b1, ite_0b, ite_1b, ite_bb, x_done, x_blk, x_lp, x_er, erL_0, erL_t, erL_f, kl_n, kl_i, kl_r, kl_l, bd_i, bd_r, bk_i, bk_e, bk_n, bk_r, bd_ite, bk_ite, lk_i, lk_e, lk_n, lk_r, lk_ite, ite_nx, b2i_i, b2i_n, b2i_0, b2i_1, b2i_e, bres_r, bres_ite, mres_v, mres_n, sF_1, sF_2, sA_1, sA_2, zcmp_lt, zcmp_gt, zcmp_le, zcmp_ge, zcmp_eq, List.lookup_cons, List.lookup_nil, mresX_v, mresX_n, mresX_t, bd_t, bres_t, y_rO, y_dO, y_dA, yO_o, yO_n, dR_e, rOx_s, rOx_n, dAx_s, dAx_n, wup_s, wup_n, fup_s, fup_n, beq_self_eq_true, Nat.reduceBEq, Nat.reduceLT, Nat.reduceSub, x_aload_n0, x_callG1, x_istore_n1, x_iload_n1, x_dup, y_get, yGet_o, yLk_s, x_iconst, x_iadd, y_put, y_putF, yPut_o, yPk_s, x_new, x_i2c, x_callG4, x_areturn, x_istore_n2, x_iload_n2, x_callG2, x_astore_n3, x_isub, x_aload_n3, x_astore4, x_bipush, x_icmp_ne, x_goto, x_aload4, x_athrow, g0, k1, g1, x_lookup 252 (show -2147483648 ≤ (63 : Int) ∧ (63 : Int) ≤ 2147483647 by decide) (show ((6 : Nat) : Int) + Op.lookupswitch.offset (#[(40, 195), (45, 167), (61, 137), (63, 246), (64, 246), (65, 112), (66, 112), (69, 137), (70, 90), (84, 90)] : Array (Int × Int)).toList 262 63 = ((252 : Nat) : Int) by decide), he]
  | @eacE s p d q L a e hc hdn hl h ih =>
    intro N w z m hRI
    refine ⟨fun _ hN hR => ?_, fun z => absurd z (by decide), fun z => absurd z (by decide)⟩
    obtain ⟨hI, hL, hz, hδ⟩ := hRI
    have hp := hI.2.1
    have n800 := hI.2.2.1
    have hd0 := hI.2.2.2.1
    have hq0 := hI.2.2.2.2
    have sb := skp_b (T := T) hp.2
    obtain ⟨M, rfl⟩ : ∃ M, N = M + 1 := ⟨N - 1, by omega⟩
    obtain ⟨w1, k1, k2, k3⟩ := c_look (l := l) (δ := δ) (zz := (z, m)) hI hR
    obtain ⟨F0, g0, -⟩ := hR.ob
    obtain ⟨F1, g1, g2, g3, g4, g5⟩ := k2.ob
    cases a with
    | true =>
      rw [(lkv_e (c := 64) hI.1 (by omega) (by omega)).mpr hc] at k1
      have hI1 : RsI T n (skp T n p) d q := ⟨hI.1, ⟨by omega, by omega⟩, n800, hd0, hq0⟩
      have lt := chr_lt (T := T) (n := n) (a := skp T n p) (by rw [hc]; decide)
      obtain ⟨K, rfl⟩ : ∃ K, M = K + 1 := ⟨M - 1, by omega⟩
      obtain ⟨w2, n1, n2, n3⟩ := c_nest1 (l := l) (δ := δ) (zz := (z, m)) hI1 k2 hdn.2
      have hI2 : RsI T n (skp T n p + 1) (d + 1) q := ⟨hI.1, ⟨by omega, by omega⟩, n800, ⟨by omega, by omega⟩, hq0⟩
      have fr2 : ∀ a, a ≠ ro → w2 a = w a := fun a ha => by rw [n3 a ha, k3 a ha]
      obtain ⟨F2, q2, -⟩ := n2.ob
      have sb2 := skp_b (T := T) (n := n) (a := skp T n p + 1) (by omega)
      obtain ⟨w3, t1, t2, t3⟩ := c_letter1 (l := l) (δ := δ) (zz := (z, m)) hI2 n2 hl
      have lt2 := chr_lt (T := T) (n := n) (a := skp T n (skp T n p + 1)) (by omega)
      have hR4 := t2
      obtain ⟨F3, TT, LL, u1, u2, u3, u4, u5, u6, u7, u8, u9, u10, u11⟩ := t2
      have x1 : ta ≠ ro := fun e => by rw [e, u1] at u8; cases u8
      have x2 : ll ≠ ro := fun e => by rw [e, u1] at u10; cases u10
      have x3 : ta ≠ ll := fun e => by rw [e, u10] at u8; cases u8
      obtain ⟨w4, hw4⟩ : ∃ w4, w4 = wup (wup (wup (wup w3 ro (.inr (4, fup F3 2 (.inl (skp T n (skp T n p + 1) + 1))))) ro (.inr (4, fup (fup F3 2 (.inl (skp T n (skp T n p + 1) + 1))) 4 (.inl (q + 1))))) ll (.inl (0, 9, iup LL (q + 1) (.inl (chr T n (skp T n (skp T n p + 1))))))) z (.inr (8, f0_8)) := ⟨_, rfl⟩
      have hq8 := hdn.1
      have hR5 : RS w4 ro ta ll T n (skp T n (skp T n p + 1) + 1) (d + 1) (q + 1) (iup L (q + 1) (chr T n (skp T n (skp T n p + 1)))) := by
        rw [hw4]
        refine ⟨fup (fup F3 2 (.inl (skp T n (skp T n p + 1) + 1))) 4 (.inl (q + 1)), TT, iup LL (q + 1) (.inl (chr T n (skp T n (skp T n p + 1)))), by rw [wup_n (by omega), wup_n (Ne.symm x2), wup_s], u2, u3, rfl, u5, rfl, u7, by rw [wup_n (by omega), wup_n x3, wup_n x1, wup_n x1]; exact u8, u9, by rw [wup_n (by omega), wup_s], fun v v1 v2 => ?_⟩
        by_cases e : v = q + 1
        · subst e; rw [iup_s, iup_s]
        · rw [iup_n e, iup_n e]; exact u11 v v1 (by omega)
      have fr4 : ∀ a, a < z → a ≠ ro → a ≠ ll → w4 a = w a := fun a c1 c2 c3 => by rw [hw4, wup_n (by omega), wup_n c3, wup_n c2, wup_n c2, t3 a c2, fr2 a c2]
      have hI5 : RsI T n (skp T n (skp T n p + 1) + 1) (d + 1) (q + 1) := ⟨hI.1, ⟨by omega, by omega⟩, n800, ⟨by omega, by omega⟩, ⟨by omega, by omega⟩⟩
      obtain ⟨F5, q5, -⟩ := hR5.ob
      have hx := (ih K w4 (z + 1) (m + 3) ⟨hI5, hL.up hl, ⟨by omega, by omega, by omega⟩, by omega⟩).1 rfl (by omega) hR5
      obtain ⟨w6, z6, m6, x6, F6, a1, a2, a3, a4, a5, a6, a7⟩ := hx
      have he : (R_rea l δ (K + 1)).2.1.1 [.inr (.inr (some ro)), .inl 1] (w1, z, m) = some (.inr x6, w6, z6, m6) := by
        rw [N_X4_each]; unfold B_X4_each
        simp (disch := first | rfl | exact okv_i | exact okv_o | exact okv_a | exact b_ft _ | (simp only [wt_c, wt_0, vc_i, vc_l, vc_r] <;> decide) | omega | exact i32_r _ | exact b2i_r _ | exact b2i_01 _ | exact zAnd_r _ _ | exact zOr_r _ _ | exact zXor_r _ _ | exact zShl_r _ _ | exact zShr_r _ _ | exact zByte_r _ | exact zcmp_r _ _ | decide) only [Bool.decide_eq_true, Bool.decide_eq_false, ↓if_pos, ↓if_neg, ↓reduceIte, Nat.reduceEqDiff, Int.reduceLE, Int.reduceLT, Int.reduceEq, Int.reduceNe, Nat.reduceBEq, Int.reduceAdd, Int.reduceMul, Int.reduceSub, Int.reduceNeg, Nat.reduceAdd, not_false_eq_true, not_true_eq_false, decide_true, decide_false, Bool.not_true, Bool.not_false, Bool.true_and, Bool.false_and, Bool.and_true, Bool.and_false, Bool.true_or, Bool.false_or, Bool.or_true, Bool.or_false, Bool.not_not, decide_not, Decidable.not_not, ite_not, b2i_t, b2i_f, ne_eq, Bool.not_eq_true, Bool.not_eq_false, decide_eq_true_eq, decide_eq_false_iff_not, Bool.false_eq_true, Bool.true_eq_false, reduceCtorEq, if_true, if_false, ite_self, ite_b0, ite_b1, ite_0b, ite_1b, ite_bb, x_done, x_blk, x_lp, x_er, erL_0, erL_t, erL_f, kl_n, kl_i, kl_r, kl_l, bd_i, bd_r, bk_i, bk_e, bk_n, bk_r, bd_ite, bk_ite, lk_i, lk_e, lk_n, lk_r, lk_ite, ite_nx, b2i_i, b2i_n, b2i_0, b2i_1, b2i_e, bres_r, bres_ite, mres_v, mres_n, sF_1, sF_2, sA_1, sA_2, zcmp_lt, zcmp_gt, zcmp_le, zcmp_ge, zcmp_eq, List.lookup_cons, List.lookup_nil, mresX_v, mresX_n, mresX_t, bd_t, bres_t, y_rO, y_dO, y_dA, yO_o, yO_n, dR_e, rOx_s, rOx_n, dAx_s, dAx_n, wup_s, wup_n, fup_s, fup_n, beq_self_eq_true, Nat.reduceBEq, Nat.reduceLT, Nat.reduceSub, x_aload_n0, y_get, yGet_o, yLk_s, x_bipush, x_icmp_ge, x_iconst, x_goto, x_callG2, x_callG1, x_istore_n2, x_dup, x_iadd, y_put, y_putF, yPut_o, yPk_s, x_iload_n2, y_iast, ySt_a, x_istore_n3, x_new, x_iload_n3, x_iload_n1, x_callG4, x_astore4, x_isub, x_aload4, x_areturn, g1, g4, c_want1, n1, q2, t1, u1, u4, u6, u7, u10, ← hw4, q5, a1]
      refine ⟨w6, z6, m6, x6, F6, ?_, a2, a3, fun a b1 b2 b3 => by rw [a4 a (by omega) b2 b3, fr4 a b1 b2 b3], by omega, by omega, by omega⟩
      rw [N_X4_part]; unfold B_X4_part
      simp (disch := first | rfl | exact okv_i | exact okv_o | exact okv_a | exact b_ft _ | (simp only [wt_c, wt_0, vc_i, vc_l, vc_r] <;> decide) | omega | exact i32_r _ | exact b2i_r _ | exact b2i_01 _ | exact zAnd_r _ _ | exact zOr_r _ _ | exact zXor_r _ _ | exact zShl_r _ _ | exact zShr_r _ _ | exact zByte_r _ | exact zcmp_r _ _ | decide) only [Bool.decide_eq_true, Bool.decide_eq_false, ↓if_pos, ↓if_neg, ↓reduceIte, Nat.reduceEqDiff, Int.reduceLE, Int.reduceLT, Int.reduceEq, Int.reduceNe, Nat.reduceBEq, Int.reduceAdd, Int.reduceMul, Int.reduceSub, Int.reduceNeg, Nat.reduceAdd, not_false_eq_true, not_true_eq_false, decide_true, decide_false, Bool.not_true, Bool.not_false, Bool.true_and, Bool.false_and, Bool.and_true, Bool.and_false, Bool.true_or, Bool.false_or, Bool.or_true, Bool.or_false, Bool.not_not, decide_not, Decidable.not_not, ite_not, b2i_t, b2i_f, ne_eq, Bool.not_eq_true, Bool.not_eq_false, decide_eq_true_eq, decide_eq_false_iff_not, Bool.false_eq_true, Bool.true_eq_false, reduceCtorEq, if_true, if_false, ite_self, ite_b0, ite_b1, ite_0b, ite_1b, ite_bb, x_done, x_blk, x_lp, x_er, erL_0, erL_t, erL_f, kl_n, kl_i, kl_r, kl_l, bd_i, bd_r, bk_i, bk_e, bk_n, bk_r, bd_ite, bk_ite, lk_i, lk_e, lk_n, lk_r, lk_ite, ite_nx, b2i_i, b2i_n, b2i_0, b2i_1, b2i_e, bres_r, bres_ite, mres_v, mres_n, sF_1, sF_2, sA_1, sA_2, zcmp_lt, zcmp_gt, zcmp_le, zcmp_ge, zcmp_eq, List.lookup_cons, List.lookup_nil, mresX_v, mresX_n, mresX_t, bd_t, bres_t, y_rO, y_dO, y_dA, yO_o, yO_n, dR_e, rOx_s, rOx_n, dAx_s, dAx_n, wup_s, wup_n, fup_s, fup_n, beq_self_eq_true, Nat.reduceBEq, Nat.reduceLT, Nat.reduceSub, x_aload_n0, x_callG1, x_istore_n1, x_iload_n1, x_dup, y_get, yGet_o, yLk_s, x_iconst, x_iadd, y_put, y_putF, yPut_o, yPk_s, x_new, x_i2c, x_callG4, x_areturn, x_istore_n2, x_iload_n2, x_callG2, x_astore_n3, x_isub, x_aload_n3, x_astore4, x_bipush, x_icmp_ne, x_goto, x_aload4, x_athrow, g0, k1, g1, x_lookup 252 (show -2147483648 ≤ (64 : Int) ∧ (64 : Int) ≤ 2147483647 by decide) (show ((6 : Nat) : Int) + Op.lookupswitch.offset (#[(40, 195), (45, 167), (61, 137), (63, 246), (64, 246), (65, 112), (66, 112), (69, 137), (70, 90), (84, 90)] : Array (Int × Int)).toList 262 64 = ((252 : Nat) : Int) by decide), he]
    | false =>
      rw [(lkv_e (c := 63) hI.1 (by omega) (by omega)).mpr hc] at k1
      have hI1 : RsI T n (skp T n p) d q := ⟨hI.1, ⟨by omega, by omega⟩, n800, hd0, hq0⟩
      have lt := chr_lt (T := T) (n := n) (a := skp T n p) (by rw [hc]; decide)
      obtain ⟨K, rfl⟩ : ∃ K, M = K + 1 := ⟨M - 1, by omega⟩
      obtain ⟨w2, n1, n2, n3⟩ := c_nest1 (l := l) (δ := δ) (zz := (z, m)) hI1 k2 hdn.2
      have hI2 : RsI T n (skp T n p + 1) (d + 1) q := ⟨hI.1, ⟨by omega, by omega⟩, n800, ⟨by omega, by omega⟩, hq0⟩
      have fr2 : ∀ a, a ≠ ro → w2 a = w a := fun a ha => by rw [n3 a ha, k3 a ha]
      obtain ⟨F2, q2, -⟩ := n2.ob
      have sb2 := skp_b (T := T) (n := n) (a := skp T n p + 1) (by omega)
      obtain ⟨w3, t1, t2, t3⟩ := c_letter1 (l := l) (δ := δ) (zz := (z, m)) hI2 n2 hl
      have lt2 := chr_lt (T := T) (n := n) (a := skp T n (skp T n p + 1)) (by omega)
      have hR4 := t2
      obtain ⟨F3, TT, LL, u1, u2, u3, u4, u5, u6, u7, u8, u9, u10, u11⟩ := t2
      have x1 : ta ≠ ro := fun e => by rw [e, u1] at u8; cases u8
      have x2 : ll ≠ ro := fun e => by rw [e, u1] at u10; cases u10
      have x3 : ta ≠ ll := fun e => by rw [e, u10] at u8; cases u8
      obtain ⟨w4, hw4⟩ : ∃ w4, w4 = wup (wup (wup (wup w3 ro (.inr (4, fup F3 2 (.inl (skp T n (skp T n p + 1) + 1))))) ro (.inr (4, fup (fup F3 2 (.inl (skp T n (skp T n p + 1) + 1))) 4 (.inl (q + 1))))) ll (.inl (0, 9, iup LL (q + 1) (.inl (chr T n (skp T n (skp T n p + 1))))))) z (.inr (8, f0_8)) := ⟨_, rfl⟩
      have hq8 := hdn.1
      have hR5 : RS w4 ro ta ll T n (skp T n (skp T n p + 1) + 1) (d + 1) (q + 1) (iup L (q + 1) (chr T n (skp T n (skp T n p + 1)))) := by
        rw [hw4]
        refine ⟨fup (fup F3 2 (.inl (skp T n (skp T n p + 1) + 1))) 4 (.inl (q + 1)), TT, iup LL (q + 1) (.inl (chr T n (skp T n (skp T n p + 1)))), by rw [wup_n (by omega), wup_n (Ne.symm x2), wup_s], u2, u3, rfl, u5, rfl, u7, by rw [wup_n (by omega), wup_n x3, wup_n x1, wup_n x1]; exact u8, u9, by rw [wup_n (by omega), wup_s], fun v v1 v2 => ?_⟩
        by_cases e : v = q + 1
        · subst e; rw [iup_s, iup_s]
        · rw [iup_n e, iup_n e]; exact u11 v v1 (by omega)
      have fr4 : ∀ a, a < z → a ≠ ro → a ≠ ll → w4 a = w a := fun a c1 c2 c3 => by rw [hw4, wup_n (by omega), wup_n c3, wup_n c2, wup_n c2, t3 a c2, fr2 a c2]
      have hI5 : RsI T n (skp T n (skp T n p + 1) + 1) (d + 1) (q + 1) := ⟨hI.1, ⟨by omega, by omega⟩, n800, ⟨by omega, by omega⟩, ⟨by omega, by omega⟩⟩
      obtain ⟨F5, q5, -⟩ := hR5.ob
      have hx := (ih K w4 (z + 1) (m + 3) ⟨hI5, hL.up hl, ⟨by omega, by omega, by omega⟩, by omega⟩).1 rfl (by omega) hR5
      obtain ⟨w6, z6, m6, x6, F6, a1, a2, a3, a4, a5, a6, a7⟩ := hx
      have he : (R_rea l δ (K + 1)).2.1.1 [.inr (.inr (some ro)), .inl 0] (w1, z, m) = some (.inr x6, w6, z6, m6) := by
        rw [N_X4_each]; unfold B_X4_each
        simp (disch := first | rfl | exact okv_i | exact okv_o | exact okv_a | exact b_ft _ | (simp only [wt_c, wt_0, vc_i, vc_l, vc_r] <;> decide) | omega | exact i32_r _ | exact b2i_r _ | exact b2i_01 _ | exact zAnd_r _ _ | exact zOr_r _ _ | exact zXor_r _ _ | exact zShl_r _ _ | exact zShr_r _ _ | exact zByte_r _ | exact zcmp_r _ _ | decide) only [Bool.decide_eq_true, Bool.decide_eq_false, ↓if_pos, ↓if_neg, ↓reduceIte, Nat.reduceEqDiff, Int.reduceLE, Int.reduceLT, Int.reduceEq, Int.reduceNe, Nat.reduceBEq, Int.reduceAdd, Int.reduceMul, Int.reduceSub, Int.reduceNeg, Nat.reduceAdd, not_false_eq_true, not_true_eq_false, decide_true, decide_false, Bool.not_true, Bool.not_false, Bool.true_and, Bool.false_and, Bool.and_true, Bool.and_false, Bool.true_or, Bool.false_or, Bool.or_true, Bool.or_false, Bool.not_not, decide_not, Decidable.not_not, ite_not, b2i_t, b2i_f, ne_eq, Bool.not_eq_true, Bool.not_eq_false, decide_eq_true_eq, decide_eq_false_iff_not, Bool.false_eq_true, Bool.true_eq_false, reduceCtorEq, if_true, if_false, ite_self, ite_b0, ite_b1, ite_0b, ite_1b, ite_bb, x_done, x_blk, x_lp, x_er, erL_0, erL_t, erL_f, kl_n, kl_i, kl_r, kl_l, bd_i, bd_r, bk_i, bk_e, bk_n, bk_r, bd_ite, bk_ite, lk_i, lk_e, lk_n, lk_r, lk_ite, ite_nx, b2i_i, b2i_n, b2i_0, b2i_1, b2i_e, bres_r, bres_ite, mres_v, mres_n, sF_1, sF_2, sA_1, sA_2, zcmp_lt, zcmp_gt, zcmp_le, zcmp_ge, zcmp_eq, List.lookup_cons, List.lookup_nil, mresX_v, mresX_n, mresX_t, bd_t, bres_t, y_rO, y_dO, y_dA, yO_o, yO_n, dR_e, rOx_s, rOx_n, dAx_s, dAx_n, wup_s, wup_n, fup_s, fup_n, beq_self_eq_true, Nat.reduceBEq, Nat.reduceLT, Nat.reduceSub, x_aload_n0, y_get, yGet_o, yLk_s, x_bipush, x_icmp_ge, x_iconst, x_goto, x_callG2, x_callG1, x_istore_n2, x_dup, x_iadd, y_put, y_putF, yPut_o, yPk_s, x_iload_n2, y_iast, ySt_a, x_istore_n3, x_new, x_iload_n3, x_iload_n1, x_callG4, x_astore4, x_isub, x_aload4, x_areturn, g1, g4, c_want1, n1, q2, t1, u1, u4, u6, u7, u10, ← hw4, q5, a1]
      refine ⟨w6, z6, m6, x6, F6, ?_, a2, a3, fun a b1 b2 b3 => by rw [a4 a (by omega) b2 b3, fr4 a b1 b2 b3], by omega, by omega, by omega⟩
      rw [N_X4_part]; unfold B_X4_part
      simp (disch := first | rfl | exact okv_i | exact okv_o | exact okv_a | exact b_ft _ | (simp only [wt_c, wt_0, vc_i, vc_l, vc_r] <;> decide) | omega | exact i32_r _ | exact b2i_r _ | exact b2i_01 _ | exact zAnd_r _ _ | exact zOr_r _ _ | exact zXor_r _ _ | exact zShl_r _ _ | exact zShr_r _ _ | exact zByte_r _ | exact zcmp_r _ _ | decide) only [Bool.decide_eq_true, Bool.decide_eq_false, ↓if_pos, ↓if_neg, ↓reduceIte, Nat.reduceEqDiff, Int.reduceLE, Int.reduceLT, Int.reduceEq, Int.reduceNe, Nat.reduceBEq, Int.reduceAdd, Int.reduceMul, Int.reduceSub, Int.reduceNeg, Nat.reduceAdd, not_false_eq_true, not_true_eq_false, decide_true, decide_false, Bool.not_true, Bool.not_false, Bool.true_and, Bool.false_and, Bool.and_true, Bool.and_false, Bool.true_or, Bool.false_or, Bool.or_true, Bool.or_false, Bool.not_not, decide_not, Decidable.not_not, ite_not, b2i_t, b2i_f, ne_eq, Bool.not_eq_true, Bool.not_eq_false, decide_eq_true_eq, decide_eq_false_iff_not, Bool.false_eq_true, Bool.true_eq_false, reduceCtorEq, if_true, if_false, ite_self, ite_b0, ite_b1, ite_0b, ite_1b, ite_bb, x_done, x_blk, x_lp, x_er, erL_0, erL_t, erL_f, kl_n, kl_i, kl_r, kl_l, bd_i, bd_r, bk_i, bk_e, bk_n, bk_r, bd_ite, bk_ite, lk_i, lk_e, lk_n, lk_r, lk_ite, ite_nx, b2i_i, b2i_n, b2i_0, b2i_1, b2i_e, bres_r, bres_ite, mres_v, mres_n, sF_1, sF_2, sA_1, sA_2, zcmp_lt, zcmp_gt, zcmp_le, zcmp_ge, zcmp_eq, List.lookup_cons, List.lookup_nil, mresX_v, mresX_n, mresX_t, bd_t, bres_t, y_rO, y_dO, y_dA, yO_o, yO_n, dR_e, rOx_s, rOx_n, dAx_s, dAx_n, wup_s, wup_n, fup_s, fup_n, beq_self_eq_true, Nat.reduceBEq, Nat.reduceLT, Nat.reduceSub, x_aload_n0, x_callG1, x_istore_n1, x_iload_n1, x_dup, y_get, yGet_o, yLk_s, x_iconst, x_iadd, y_put, y_putF, yPut_o, yPk_s, x_new, x_i2c, x_callG4, x_areturn, x_istore_n2, x_iload_n2, x_callG2, x_astore_n3, x_isub, x_aload_n3, x_astore4, x_bipush, x_icmp_ne, x_goto, x_aload4, x_athrow, g0, k1, g1, x_lookup 252 (show -2147483648 ≤ (63 : Int) ∧ (63 : Int) ≤ 2147483647 by decide) (show ((6 : Nat) : Int) + Op.lookupswitch.offset (#[(40, 195), (45, 167), (61, 137), (63, 246), (64, 246), (65, 112), (66, 112), (69, 137), (70, 90), (84, 90)] : Array (Int × Int)).toList 262 63 = ((252 : Nat) : Int) by decide), he]
  | @eacF s p d q L a f x hc hdn hl h ih =>
    intro N w z m hRI
    refine ⟨fun _ hN hR => ?_, fun z => absurd z (by decide), fun z => absurd z (by decide)⟩
    obtain ⟨hI, hL, hz, hδ⟩ := hRI
    have hp := hI.2.1
    have n800 := hI.2.2.1
    have hd0 := hI.2.2.2.1
    have hq0 := hI.2.2.2.2
    have sb := skp_b (T := T) hp.2
    obtain ⟨M, rfl⟩ : ∃ M, N = M + 1 := ⟨N - 1, by omega⟩
    obtain ⟨w1, k1, k2, k3⟩ := c_look (l := l) (δ := δ) (zz := (z, m)) hI hR
    obtain ⟨F0, g0, -⟩ := hR.ob
    obtain ⟨F1, g1, g2, g3, g4, g5⟩ := k2.ob
    cases a with
    | true =>
      rw [(lkv_e (c := 64) hI.1 (by omega) (by omega)).mpr hc] at k1
      have hI1 : RsI T n (skp T n p) d q := ⟨hI.1, ⟨by omega, by omega⟩, n800, hd0, hq0⟩
      have lt := chr_lt (T := T) (n := n) (a := skp T n p) (by rw [hc]; decide)
      obtain ⟨K, rfl⟩ : ∃ K, M = K + 1 := ⟨M - 1, by omega⟩
      obtain ⟨w2, n1, n2, n3⟩ := c_nest1 (l := l) (δ := δ) (zz := (z, m)) hI1 k2 hdn.2
      have hI2 : RsI T n (skp T n p + 1) (d + 1) q := ⟨hI.1, ⟨by omega, by omega⟩, n800, ⟨by omega, by omega⟩, hq0⟩
      have fr2 : ∀ a, a ≠ ro → w2 a = w a := fun a ha => by rw [n3 a ha, k3 a ha]
      obtain ⟨F2, q2, -⟩ := n2.ob
      have sb2 := skp_b (T := T) (n := n) (a := skp T n p + 1) (by omega)
      obtain ⟨w3, t1, t2, t3⟩ := c_letter1 (l := l) (δ := δ) (zz := (z, m)) hI2 n2 hl
      have lt2 := chr_lt (T := T) (n := n) (a := skp T n (skp T n p + 1)) (by omega)
      have hR4 := t2
      obtain ⟨F3, TT, LL, u1, u2, u3, u4, u5, u6, u7, u8, u9, u10, u11⟩ := t2
      have x1 : ta ≠ ro := fun e => by rw [e, u1] at u8; cases u8
      have x2 : ll ≠ ro := fun e => by rw [e, u1] at u10; cases u10
      have x3 : ta ≠ ll := fun e => by rw [e, u10] at u8; cases u8
      obtain ⟨w4, hw4⟩ : ∃ w4, w4 = wup (wup (wup (wup w3 ro (.inr (4, fup F3 2 (.inl (skp T n (skp T n p + 1) + 1))))) ro (.inr (4, fup (fup F3 2 (.inl (skp T n (skp T n p + 1) + 1))) 4 (.inl (q + 1))))) ll (.inl (0, 9, iup LL (q + 1) (.inl (chr T n (skp T n (skp T n p + 1))))))) z (.inr (8, f0_8)) := ⟨_, rfl⟩
      have hq8 := hdn.1
      have hR5 : RS w4 ro ta ll T n (skp T n (skp T n p + 1) + 1) (d + 1) (q + 1) (iup L (q + 1) (chr T n (skp T n (skp T n p + 1)))) := by
        rw [hw4]
        refine ⟨fup (fup F3 2 (.inl (skp T n (skp T n p + 1) + 1))) 4 (.inl (q + 1)), TT, iup LL (q + 1) (.inl (chr T n (skp T n (skp T n p + 1)))), by rw [wup_n (by omega), wup_n (Ne.symm x2), wup_s], u2, u3, rfl, u5, rfl, u7, by rw [wup_n (by omega), wup_n x3, wup_n x1, wup_n x1]; exact u8, u9, by rw [wup_n (by omega), wup_s], fun v v1 v2 => ?_⟩
        by_cases e : v = q + 1
        · subst e; rw [iup_s, iup_s]
        · rw [iup_n e, iup_n e]; exact u11 v v1 (by omega)
      have fr4 : ∀ a, a < z → a ≠ ro → a ≠ ll → w4 a = w a := fun a c1 c2 c3 => by rw [hw4, wup_n (by omega), wup_n c3, wup_n c2, wup_n c2, t3 a c2, fr2 a c2]
      have hI5 : RsI T n (skp T n (skp T n p + 1) + 1) (d + 1) (q + 1) := ⟨hI.1, ⟨by omega, by omega⟩, n800, ⟨by omega, by omega⟩, ⟨by omega, by omega⟩⟩
      obtain ⟨F5, q5, -⟩ := hR5.ob
      have hx := (ih K w4 (z + 1) (m + 3) ⟨hI5, hL.up hl, ⟨by omega, by omega, by omega⟩, by omega⟩).1 rfl (by omega) hR5
      obtain ⟨w6, z6, m6, r6, a1, a2, a3, a4, a5, a6, a7⟩ := hx
      have e6 : w6 z = some (.inr (8, f0_8)) := by rw [a5 z (by omega) (by omega) (by omega), hw4, wup_s]
      obtain ⟨w7, F7, i1, i2, i3, i4, i5, i6⟩ := c_eachI (l := l) (δ := δ) (w := w6) (r := z) (p := r6) (vm := q + 1) (a := true) (zz := (z6, m6)) e6
      have i1 : (M_X9_init l δ).1 [.inr (.inr (some z)), .inr (.inr (some r6)), .inl (q + 1), .inl 1] (w6, z6, m6) = some (.inl none, w7, z6, m6) := i1
      obtain ⟨b1, b2, b3, -⟩ := h.b (by omega) (by omega) (by omega) (by omega) (hL.up hl)
      have hR7 : RS w7 ro ta ll T n x (d + 1) (q + 1) (iup L (q + 1) (chr T n (skp T n (skp T n p + 1)))) := a2.keep (i6 ro (by omega)) (i6 ta (by omega)) (i6 ll (by omega))
      obtain ⟨F8, TT8, LL8, y1, y2, y3, y4, y5, y6, y7, y8, y9, y10, y11⟩ := hR7
      have he : (R_rea l δ (K + 1)).2.1.1 [.inr (.inr (some ro)), .inl 1] (w1, z, m) = some (.inl (some (.inr (.inr (some z)))), wup (wup w7 ro (.inr (4, fup F8 4 (.inl q)))) ro (.inr (4, fup (fup F8 4 (.inl q)) 3 (.inl d))), z6, m6) := by
        rw [N_X4_each]; unfold B_X4_each
        simp (disch := first | rfl | exact okv_i | exact okv_o | exact okv_a | exact b_ft _ | (simp only [wt_c, wt_0, vc_i, vc_l, vc_r] <;> decide) | omega | exact i32_r _ | exact b2i_r _ | exact b2i_01 _ | exact zAnd_r _ _ | exact zOr_r _ _ | exact zXor_r _ _ | exact zShl_r _ _ | exact zShr_r _ _ | exact zByte_r _ | exact zcmp_r _ _ | decide) only [Bool.decide_eq_true, Bool.decide_eq_false, ↓if_pos, ↓if_neg, ↓reduceIte, Nat.reduceEqDiff, Int.reduceLE, Int.reduceLT, Int.reduceEq, Int.reduceNe, Nat.reduceBEq, Int.reduceAdd, Int.reduceMul, Int.reduceSub, Int.reduceNeg, Nat.reduceAdd, not_false_eq_true, not_true_eq_false, decide_true, decide_false, Bool.not_true, Bool.not_false, Bool.true_and, Bool.false_and, Bool.and_true, Bool.and_false, Bool.true_or, Bool.false_or, Bool.or_true, Bool.or_false, Bool.not_not, decide_not, Decidable.not_not, ite_not, b2i_t, b2i_f, ne_eq, Bool.not_eq_true, Bool.not_eq_false, decide_eq_true_eq, decide_eq_false_iff_not, Bool.false_eq_true, Bool.true_eq_false, reduceCtorEq, if_true, if_false, ite_self, ite_b0, ite_b1, ite_0b, ite_1b, ite_bb, x_done, x_blk, x_lp, x_er, erL_0, erL_t, erL_f, kl_n, kl_i, kl_r, kl_l, bd_i, bd_r, bk_i, bk_e, bk_n, bk_r, bd_ite, bk_ite, lk_i, lk_e, lk_n, lk_r, lk_ite, ite_nx, b2i_i, b2i_n, b2i_0, b2i_1, b2i_e, bres_r, bres_ite, mres_v, mres_n, sF_1, sF_2, sA_1, sA_2, zcmp_lt, zcmp_gt, zcmp_le, zcmp_ge, zcmp_eq, List.lookup_cons, List.lookup_nil, mresX_v, mresX_n, mresX_t, bd_t, bres_t, y_rO, y_dO, y_dA, yO_o, yO_n, dR_e, rOx_s, rOx_n, dAx_s, dAx_n, wup_s, wup_n, fup_s, fup_n, beq_self_eq_true, Nat.reduceBEq, Nat.reduceLT, Nat.reduceSub, x_aload_n0, y_get, yGet_o, yLk_s, x_bipush, x_icmp_ge, x_iconst, x_goto, x_callG2, x_callG1, x_istore_n2, x_dup, x_iadd, y_put, y_putF, yPut_o, yPk_s, x_iload_n2, y_iast, ySt_a, x_istore_n3, x_new, x_iload_n3, x_iload_n1, x_callG4, x_astore4, x_isub, x_aload4, x_areturn, g1, g4, c_want1, n1, q2, t1, u1, u4, u6, u7, u10, ← hw4, q5, a1, i1, y1, y5, y6, Int.add_sub_cancel]
      have hR9 : RS (wup (wup w7 ro (.inr (4, fup F8 4 (.inl q)))) ro (.inr (4, fup (fup F8 4 (.inl q)) 3 (.inl d)))) ro ta ll T n x d q L := by
        refine ⟨fup (fup F8 4 (.inl q)) 3 (.inl d), TT8, LL8, wup_s, y2, y3, y4, rfl, rfl, y7, by rw [wup_n x1, wup_n x1]; exact y8, y9, by rw [wup_n x2, wup_n x2]; exact y10, fun v v1 v2 => ?_⟩
        rw [y11 v v1 (by omega), iup_n (by omega)]
      refine ⟨_, z6, m6, z, ?_, hR9, ?_, ⟨by omega, by omega⟩, fun a c1 c2 c3 => by rw [wup_n c2, wup_n c2, i6 a (by omega), a5 a (by omega) c2 c3, fr4 a c1 c2 c3], by omega, by omega⟩
      · rw [N_X4_part]; unfold B_X4_part
        simp (disch := first | rfl | exact okv_i | exact okv_o | exact okv_a | exact b_ft _ | (simp only [wt_c, wt_0, vc_i, vc_l, vc_r] <;> decide) | omega | exact i32_r _ | exact b2i_r _ | exact b2i_01 _ | exact zAnd_r _ _ | exact zOr_r _ _ | exact zXor_r _ _ | exact zShl_r _ _ | exact zShr_r _ _ | exact zByte_r _ | exact zcmp_r _ _ | decide) only [Bool.decide_eq_true, Bool.decide_eq_false, ↓if_pos, ↓if_neg, ↓reduceIte, Nat.reduceEqDiff, Int.reduceLE, Int.reduceLT, Int.reduceEq, Int.reduceNe, Nat.reduceBEq, Int.reduceAdd, Int.reduceMul, Int.reduceSub, Int.reduceNeg, Nat.reduceAdd, not_false_eq_true, not_true_eq_false, decide_true, decide_false, Bool.not_true, Bool.not_false, Bool.true_and, Bool.false_and, Bool.and_true, Bool.and_false, Bool.true_or, Bool.false_or, Bool.or_true, Bool.or_false, Bool.not_not, decide_not, Decidable.not_not, ite_not, b2i_t, b2i_f, ne_eq, Bool.not_eq_true, Bool.not_eq_false, decide_eq_true_eq, decide_eq_false_iff_not, Bool.false_eq_true, Bool.true_eq_false, reduceCtorEq, if_true, if_false, ite_self, ite_b0, ite_b1, ite_0b, ite_1b, ite_bb, x_done, x_blk, x_lp, x_er, erL_0, erL_t, erL_f, kl_n, kl_i, kl_r, kl_l, bd_i, bd_r, bk_i, bk_e, bk_n, bk_r, bd_ite, bk_ite, lk_i, lk_e, lk_n, lk_r, lk_ite, ite_nx, b2i_i, b2i_n, b2i_0, b2i_1, b2i_e, bres_r, bres_ite, mres_v, mres_n, sF_1, sF_2, sA_1, sA_2, zcmp_lt, zcmp_gt, zcmp_le, zcmp_ge, zcmp_eq, List.lookup_cons, List.lookup_nil, mresX_v, mresX_n, mresX_t, bd_t, bres_t, y_rO, y_dO, y_dA, yO_o, yO_n, dR_e, rOx_s, rOx_n, dAx_s, dAx_n, wup_s, wup_n, fup_s, fup_n, beq_self_eq_true, Nat.reduceBEq, Nat.reduceLT, Nat.reduceSub, x_aload_n0, x_callG1, x_istore_n1, x_iload_n1, x_dup, y_get, yGet_o, yLk_s, x_iconst, x_iadd, y_put, y_putF, yPut_o, yPk_s, x_new, x_i2c, x_callG4, x_areturn, x_istore_n2, x_iload_n2, x_callG2, x_astore_n3, x_isub, x_aload_n3, x_astore4, x_bipush, x_icmp_ne, x_goto, x_aload4, x_athrow, g0, k1, g1, x_lookup 252 (show -2147483648 ≤ (64 : Int) ∧ (64 : Int) ≤ 2147483647 by decide) (show ((6 : Nat) : Int) + Op.lookupswitch.offset (#[(40, 195), (45, 167), (61, 137), (63, 246), (64, 246), (65, 112), (66, 112), (69, 137), (70, 90), (84, 90)] : Array (Int × Int)).toList 262 64 = ((252 : Nat) : Int) by decide), he]
      · rw [FR_each]
        refine ⟨⟨by omega, by omega⟩, F7, r6, by rw [wup_n (by omega), wup_n (by omega)]; exact i2, i3, i4, i5, FR.mono (fun a ha => ⟨⟨by omega, ha.2⟩, ?_⟩) b3 _ _ _ a3⟩
        rw [wup_n (by omega), wup_n (by omega), i6 a (by omega)]
    | false =>
      rw [(lkv_e (c := 63) hI.1 (by omega) (by omega)).mpr hc] at k1
      have hI1 : RsI T n (skp T n p) d q := ⟨hI.1, ⟨by omega, by omega⟩, n800, hd0, hq0⟩
      have lt := chr_lt (T := T) (n := n) (a := skp T n p) (by rw [hc]; decide)
      obtain ⟨K, rfl⟩ : ∃ K, M = K + 1 := ⟨M - 1, by omega⟩
      obtain ⟨w2, n1, n2, n3⟩ := c_nest1 (l := l) (δ := δ) (zz := (z, m)) hI1 k2 hdn.2
      have hI2 : RsI T n (skp T n p + 1) (d + 1) q := ⟨hI.1, ⟨by omega, by omega⟩, n800, ⟨by omega, by omega⟩, hq0⟩
      have fr2 : ∀ a, a ≠ ro → w2 a = w a := fun a ha => by rw [n3 a ha, k3 a ha]
      obtain ⟨F2, q2, -⟩ := n2.ob
      have sb2 := skp_b (T := T) (n := n) (a := skp T n p + 1) (by omega)
      obtain ⟨w3, t1, t2, t3⟩ := c_letter1 (l := l) (δ := δ) (zz := (z, m)) hI2 n2 hl
      have lt2 := chr_lt (T := T) (n := n) (a := skp T n (skp T n p + 1)) (by omega)
      have hR4 := t2
      obtain ⟨F3, TT, LL, u1, u2, u3, u4, u5, u6, u7, u8, u9, u10, u11⟩ := t2
      have x1 : ta ≠ ro := fun e => by rw [e, u1] at u8; cases u8
      have x2 : ll ≠ ro := fun e => by rw [e, u1] at u10; cases u10
      have x3 : ta ≠ ll := fun e => by rw [e, u10] at u8; cases u8
      obtain ⟨w4, hw4⟩ : ∃ w4, w4 = wup (wup (wup (wup w3 ro (.inr (4, fup F3 2 (.inl (skp T n (skp T n p + 1) + 1))))) ro (.inr (4, fup (fup F3 2 (.inl (skp T n (skp T n p + 1) + 1))) 4 (.inl (q + 1))))) ll (.inl (0, 9, iup LL (q + 1) (.inl (chr T n (skp T n (skp T n p + 1))))))) z (.inr (8, f0_8)) := ⟨_, rfl⟩
      have hq8 := hdn.1
      have hR5 : RS w4 ro ta ll T n (skp T n (skp T n p + 1) + 1) (d + 1) (q + 1) (iup L (q + 1) (chr T n (skp T n (skp T n p + 1)))) := by
        rw [hw4]
        refine ⟨fup (fup F3 2 (.inl (skp T n (skp T n p + 1) + 1))) 4 (.inl (q + 1)), TT, iup LL (q + 1) (.inl (chr T n (skp T n (skp T n p + 1)))), by rw [wup_n (by omega), wup_n (Ne.symm x2), wup_s], u2, u3, rfl, u5, rfl, u7, by rw [wup_n (by omega), wup_n x3, wup_n x1, wup_n x1]; exact u8, u9, by rw [wup_n (by omega), wup_s], fun v v1 v2 => ?_⟩
        by_cases e : v = q + 1
        · subst e; rw [iup_s, iup_s]
        · rw [iup_n e, iup_n e]; exact u11 v v1 (by omega)
      have fr4 : ∀ a, a < z → a ≠ ro → a ≠ ll → w4 a = w a := fun a c1 c2 c3 => by rw [hw4, wup_n (by omega), wup_n c3, wup_n c2, wup_n c2, t3 a c2, fr2 a c2]
      have hI5 : RsI T n (skp T n (skp T n p + 1) + 1) (d + 1) (q + 1) := ⟨hI.1, ⟨by omega, by omega⟩, n800, ⟨by omega, by omega⟩, ⟨by omega, by omega⟩⟩
      obtain ⟨F5, q5, -⟩ := hR5.ob
      have hx := (ih K w4 (z + 1) (m + 3) ⟨hI5, hL.up hl, ⟨by omega, by omega, by omega⟩, by omega⟩).1 rfl (by omega) hR5
      obtain ⟨w6, z6, m6, r6, a1, a2, a3, a4, a5, a6, a7⟩ := hx
      have e6 : w6 z = some (.inr (8, f0_8)) := by rw [a5 z (by omega) (by omega) (by omega), hw4, wup_s]
      obtain ⟨w7, F7, i1, i2, i3, i4, i5, i6⟩ := c_eachI (l := l) (δ := δ) (w := w6) (r := z) (p := r6) (vm := q + 1) (a := false) (zz := (z6, m6)) e6
      have i1 : (M_X9_init l δ).1 [.inr (.inr (some z)), .inr (.inr (some r6)), .inl (q + 1), .inl 0] (w6, z6, m6) = some (.inl none, w7, z6, m6) := i1
      obtain ⟨b1, b2, b3, -⟩ := h.b (by omega) (by omega) (by omega) (by omega) (hL.up hl)
      have hR7 : RS w7 ro ta ll T n x (d + 1) (q + 1) (iup L (q + 1) (chr T n (skp T n (skp T n p + 1)))) := a2.keep (i6 ro (by omega)) (i6 ta (by omega)) (i6 ll (by omega))
      obtain ⟨F8, TT8, LL8, y1, y2, y3, y4, y5, y6, y7, y8, y9, y10, y11⟩ := hR7
      have he : (R_rea l δ (K + 1)).2.1.1 [.inr (.inr (some ro)), .inl 0] (w1, z, m) = some (.inl (some (.inr (.inr (some z)))), wup (wup w7 ro (.inr (4, fup F8 4 (.inl q)))) ro (.inr (4, fup (fup F8 4 (.inl q)) 3 (.inl d))), z6, m6) := by
        rw [N_X4_each]; unfold B_X4_each
        simp (disch := first | rfl | exact okv_i | exact okv_o | exact okv_a | exact b_ft _ | (simp only [wt_c, wt_0, vc_i, vc_l, vc_r] <;> decide) | omega | exact i32_r _ | exact b2i_r _ | exact b2i_01 _ | exact zAnd_r _ _ | exact zOr_r _ _ | exact zXor_r _ _ | exact zShl_r _ _ | exact zShr_r _ _ | exact zByte_r _ | exact zcmp_r _ _ | decide) only [Bool.decide_eq_true, Bool.decide_eq_false, ↓if_pos, ↓if_neg, ↓reduceIte, Nat.reduceEqDiff, Int.reduceLE, Int.reduceLT, Int.reduceEq, Int.reduceNe, Nat.reduceBEq, Int.reduceAdd, Int.reduceMul, Int.reduceSub, Int.reduceNeg, Nat.reduceAdd, not_false_eq_true, not_true_eq_false, decide_true, decide_false, Bool.not_true, Bool.not_false, Bool.true_and, Bool.false_and, Bool.and_true, Bool.and_false, Bool.true_or, Bool.false_or, Bool.or_true, Bool.or_false, Bool.not_not, decide_not, Decidable.not_not, ite_not, b2i_t, b2i_f, ne_eq, Bool.not_eq_true, Bool.not_eq_false, decide_eq_true_eq, decide_eq_false_iff_not, Bool.false_eq_true, Bool.true_eq_false, reduceCtorEq, if_true, if_false, ite_self, ite_b0, ite_b1, ite_0b, ite_1b, ite_bb, x_done, x_blk, x_lp, x_er, erL_0, erL_t, erL_f, kl_n, kl_i, kl_r, kl_l, bd_i, bd_r, bk_i, bk_e, bk_n, bk_r, bd_ite, bk_ite, lk_i, lk_e, lk_n, lk_r, lk_ite, ite_nx, b2i_i, b2i_n, b2i_0, b2i_1, b2i_e, bres_r, bres_ite, mres_v, mres_n, sF_1, sF_2, sA_1, sA_2, zcmp_lt, zcmp_gt, zcmp_le, zcmp_ge, zcmp_eq, List.lookup_cons, List.lookup_nil, mresX_v, mresX_n, mresX_t, bd_t, bres_t, y_rO, y_dO, y_dA, yO_o, yO_n, dR_e, rOx_s, rOx_n, dAx_s, dAx_n, wup_s, wup_n, fup_s, fup_n, beq_self_eq_true, Nat.reduceBEq, Nat.reduceLT, Nat.reduceSub, x_aload_n0, y_get, yGet_o, yLk_s, x_bipush, x_icmp_ge, x_iconst, x_goto, x_callG2, x_callG1, x_istore_n2, x_dup, x_iadd, y_put, y_putF, yPut_o, yPk_s, x_iload_n2, y_iast, ySt_a, x_istore_n3, x_new, x_iload_n3, x_iload_n1, x_callG4, x_astore4, x_isub, x_aload4, x_areturn, g1, g4, c_want1, n1, q2, t1, u1, u4, u6, u7, u10, ← hw4, q5, a1, i1, y1, y5, y6, Int.add_sub_cancel]
      have hR9 : RS (wup (wup w7 ro (.inr (4, fup F8 4 (.inl q)))) ro (.inr (4, fup (fup F8 4 (.inl q)) 3 (.inl d)))) ro ta ll T n x d q L := by
        refine ⟨fup (fup F8 4 (.inl q)) 3 (.inl d), TT8, LL8, wup_s, y2, y3, y4, rfl, rfl, y7, by rw [wup_n x1, wup_n x1]; exact y8, y9, by rw [wup_n x2, wup_n x2]; exact y10, fun v v1 v2 => ?_⟩
        rw [y11 v v1 (by omega), iup_n (by omega)]
      refine ⟨_, z6, m6, z, ?_, hR9, ?_, ⟨by omega, by omega⟩, fun a c1 c2 c3 => by rw [wup_n c2, wup_n c2, i6 a (by omega), a5 a (by omega) c2 c3, fr4 a c1 c2 c3], by omega, by omega⟩
      · rw [N_X4_part]; unfold B_X4_part
        simp (disch := first | rfl | exact okv_i | exact okv_o | exact okv_a | exact b_ft _ | (simp only [wt_c, wt_0, vc_i, vc_l, vc_r] <;> decide) | omega | exact i32_r _ | exact b2i_r _ | exact b2i_01 _ | exact zAnd_r _ _ | exact zOr_r _ _ | exact zXor_r _ _ | exact zShl_r _ _ | exact zShr_r _ _ | exact zByte_r _ | exact zcmp_r _ _ | decide) only [Bool.decide_eq_true, Bool.decide_eq_false, ↓if_pos, ↓if_neg, ↓reduceIte, Nat.reduceEqDiff, Int.reduceLE, Int.reduceLT, Int.reduceEq, Int.reduceNe, Nat.reduceBEq, Int.reduceAdd, Int.reduceMul, Int.reduceSub, Int.reduceNeg, Nat.reduceAdd, not_false_eq_true, not_true_eq_false, decide_true, decide_false, Bool.not_true, Bool.not_false, Bool.true_and, Bool.false_and, Bool.and_true, Bool.and_false, Bool.true_or, Bool.false_or, Bool.or_true, Bool.or_false, Bool.not_not, decide_not, Decidable.not_not, ite_not, b2i_t, b2i_f, ne_eq, Bool.not_eq_true, Bool.not_eq_false, decide_eq_true_eq, decide_eq_false_iff_not, Bool.false_eq_true, Bool.true_eq_false, reduceCtorEq, if_true, if_false, ite_self, ite_b0, ite_b1, ite_0b, ite_1b, ite_bb, x_done, x_blk, x_lp, x_er, erL_0, erL_t, erL_f, kl_n, kl_i, kl_r, kl_l, bd_i, bd_r, bk_i, bk_e, bk_n, bk_r, bd_ite, bk_ite, lk_i, lk_e, lk_n, lk_r, lk_ite, ite_nx, b2i_i, b2i_n, b2i_0, b2i_1, b2i_e, bres_r, bres_ite, mres_v, mres_n, sF_1, sF_2, sA_1, sA_2, zcmp_lt, zcmp_gt, zcmp_le, zcmp_ge, zcmp_eq, List.lookup_cons, List.lookup_nil, mresX_v, mresX_n, mresX_t, bd_t, bres_t, y_rO, y_dO, y_dA, yO_o, yO_n, dR_e, rOx_s, rOx_n, dAx_s, dAx_n, wup_s, wup_n, fup_s, fup_n, beq_self_eq_true, Nat.reduceBEq, Nat.reduceLT, Nat.reduceSub, x_aload_n0, x_callG1, x_istore_n1, x_iload_n1, x_dup, y_get, yGet_o, yLk_s, x_iconst, x_iadd, y_put, y_putF, yPut_o, yPk_s, x_new, x_i2c, x_callG4, x_areturn, x_istore_n2, x_iload_n2, x_callG2, x_astore_n3, x_isub, x_aload_n3, x_astore4, x_bipush, x_icmp_ne, x_goto, x_aload4, x_athrow, g0, k1, g1, x_lookup 252 (show -2147483648 ≤ (63 : Int) ∧ (63 : Int) ≤ 2147483647 by decide) (show ((6 : Nat) : Int) + Op.lookupswitch.offset (#[(40, 195), (45, 167), (61, 137), (63, 246), (64, 246), (65, 112), (66, 112), (69, 137), (70, 90), (84, 90)] : Array (Int × Int)).toList 262 63 = ((252 : Nat) : Int) by decide), he]
      · rw [FR_each]
        refine ⟨⟨by omega, by omega⟩, F7, r6, by rw [wup_n (by omega), wup_n (by omega)]; exact i2, i3, i4, i5, FR.mono (fun a ha => ⟨⟨by omega, ha.2⟩, ?_⟩) b3 _ _ _ a3⟩
        rw [wup_n (by omega), wup_n (by omega), i6 a (by omega)]
  | @forE s p d q L e h ih =>
    intro N w z m hRI
    refine ⟨fun z => absurd z (by decide), fun _ hN hR => ?_, fun z => absurd z (by decide)⟩
    have hRI0 := hRI
    obtain ⟨hI, hL, hz, hδ⟩ := hRI
    have hp := hI.2.1
    have n800 := hI.2.2.1
    have hd0 := hI.2.2.2.1
    have hq0 := hI.2.2.2.2
    obtain ⟨M, rfl⟩ : ∃ M, N = M + 1 := ⟨N - 1, by omega⟩
    have hx := (ih M w z m hRI0).1 rfl (by omega) hR
    obtain ⟨F0, g0, -⟩ := hR.ob
    obtain ⟨w4, z4, m4, x4, F4, a1, a2, a3, a4, a5, a6, a7⟩ := hx
    refine ⟨w4, z4, m4, x4, F4, ?_, a2, a3, a4, a5, a6, a7⟩
    rw [N_X4_formula]; unfold B_X4_formula
    simp (disch := first | rfl | exact okv_i | exact okv_o | exact okv_a | exact b_ft _ | (simp only [wt_c, wt_0, vc_i, vc_l, vc_r] <;> decide) | omega | exact i32_r _ | exact b2i_r _ | exact b2i_01 _ | exact zAnd_r _ _ | exact zOr_r _ _ | exact zXor_r _ _ | exact zShl_r _ _ | exact zShr_r _ _ | exact zByte_r _ | exact zcmp_r _ _ | decide) only [Bool.decide_eq_true, Bool.decide_eq_false, ↓if_pos, ↓if_neg, ↓reduceIte, Nat.reduceEqDiff, Int.reduceLE, Int.reduceLT, Int.reduceEq, Int.reduceNe, Nat.reduceBEq, Int.reduceAdd, Int.reduceMul, Int.reduceSub, Int.reduceNeg, Nat.reduceAdd, not_false_eq_true, not_true_eq_false, decide_true, decide_false, Bool.not_true, Bool.not_false, Bool.true_and, Bool.false_and, Bool.and_true, Bool.and_false, Bool.true_or, Bool.false_or, Bool.or_true, Bool.or_false, Bool.not_not, decide_not, Decidable.not_not, ite_not, b2i_t, b2i_f, ne_eq, Bool.not_eq_true, Bool.not_eq_false, decide_eq_true_eq, decide_eq_false_iff_not, Bool.false_eq_true, Bool.true_eq_false, reduceCtorEq, if_true, if_false, ite_self, ite_b0, ite_b1, ite_0b, ite_1b, ite_bb, x_done, x_blk, x_lp, x_er, erL_0, erL_t, erL_f, kl_n, kl_i, kl_r, kl_l, bd_i, bd_r, bk_i, bk_e, bk_n, bk_r, bd_ite, bk_ite, lk_i, lk_e, lk_n, lk_r, lk_ite, ite_nx, b2i_i, b2i_n, b2i_0, b2i_1, b2i_e, bres_r, bres_ite, mres_v, mres_n, sF_1, sF_2, sA_1, sA_2, zcmp_lt, zcmp_gt, zcmp_le, zcmp_ge, zcmp_eq, List.lookup_cons, List.lookup_nil, mresX_v, mresX_n, mresX_t, bd_t, bres_t, y_rO, y_dO, y_dA, yO_o, yO_n, dR_e, rOx_s, rOx_n, dAx_s, dAx_n, wup_s, wup_n, fup_s, fup_n, beq_self_eq_true, Nat.reduceBEq, Nat.reduceLT, Nat.reduceSub, x_aload_n0, x_callG1, x_astore_n1, x_istore_n2, x_iload_n2, x_bipush, x_icmp_eq, x_aload_n1, x_areturn, x_new, x_dup, x_astore_n3, x_aload_n3, x_callG2, x_pop, x_icmp_ne, y_get, yGet_o, yLk_s, x_iconst, x_iadd, y_put, y_putF, yPut_o, yPk_s, x_goto, x_i2c, x_callG3, g0, a1]
  | @for1 s p d q L f x h hc hc' ih =>
    intro N w z m hRI
    refine ⟨fun z => absurd z (by decide), fun _ hN hR => ?_, fun z => absurd z (by decide)⟩
    have hRI0 := hRI
    obtain ⟨hI, hL, hz, hδ⟩ := hRI
    have hp := hI.2.1
    have n800 := hI.2.2.1
    have hd0 := hI.2.2.2.1
    have hq0 := hI.2.2.2.2
    obtain ⟨M, rfl⟩ : ∃ M, N = M + 1 := ⟨N - 1, by omega⟩
    have hx := (ih M w z m hRI0).1 rfl (by omega) hR
    obtain ⟨F0, g0, -⟩ := hR.ob
    obtain ⟨w1, z1, m1, r1, a1, a2, a3, a4, a5, a6, a7⟩ := hx
    obtain ⟨b1, b2, b3, b4, -⟩ := h.b hp.2 hq0.1 hq0.2 (by omega) hL
    obtain ⟨b4, b5, b6⟩ := b4 rfl
    have hI1 : RsI T n x d q := ⟨hI.1, ⟨by omega, by omega⟩, n800, hd0, hq0⟩
    have sb := skp_b (T := T) (n := n) (a := x) (by omega)
    obtain ⟨w2, l1, l2, l3⟩ := c_look (l := l) (δ := δ) (zz := (z1, m1)) hI1 a2
    obtain ⟨F1, g1, -⟩ := a2.ob
    obtain ⟨F2, g2, -⟩ := l2.ob
    have lr := lkv_r (n := n) (a := skp T n x) hI.1 (by omega)
    have ln : ¬ lkv T n (skp T n x) = 38 := fun e => hc ((lkv_e hI.1 (by omega) (by decide)).mp e)
    have ln' : ¬ lkv T n (skp T n x) = 124 := fun e => hc' ((lkv_e hI.1 (by omega) (by decide)).mp e)
    refine ⟨w2, z1, m1, r1, ?_, l2, FR.mono (fun a ha => ⟨ha, l3 a (by omega)⟩) b3 _ _ _ a3, a4, fun a c1 c2 c3 => by rw [l3 a c2, a5 a c1 c2 c3], by omega, by omega⟩
    rw [N_X4_formula]; unfold B_X4_formula
    simp (disch := first | rfl | exact okv_i | exact okv_o | exact okv_a | exact b_ft _ | (simp only [wt_c, wt_0, vc_i, vc_l, vc_r] <;> decide) | omega | exact i32_r _ | exact b2i_r _ | exact b2i_01 _ | exact zAnd_r _ _ | exact zOr_r _ _ | exact zXor_r _ _ | exact zShl_r _ _ | exact zShr_r _ _ | exact zByte_r _ | exact zcmp_r _ _ | decide) only [Bool.decide_eq_true, Bool.decide_eq_false, ↓if_pos, ↓if_neg, ↓reduceIte, Nat.reduceEqDiff, Int.reduceLE, Int.reduceLT, Int.reduceEq, Int.reduceNe, Nat.reduceBEq, Int.reduceAdd, Int.reduceMul, Int.reduceSub, Int.reduceNeg, Nat.reduceAdd, not_false_eq_true, not_true_eq_false, decide_true, decide_false, Bool.not_true, Bool.not_false, Bool.true_and, Bool.false_and, Bool.and_true, Bool.and_false, Bool.true_or, Bool.false_or, Bool.or_true, Bool.or_false, Bool.not_not, decide_not, Decidable.not_not, ite_not, b2i_t, b2i_f, ne_eq, Bool.not_eq_true, Bool.not_eq_false, decide_eq_true_eq, decide_eq_false_iff_not, Bool.false_eq_true, Bool.true_eq_false, reduceCtorEq, if_true, if_false, ite_self, ite_b0, ite_b1, ite_0b, ite_1b, ite_bb, x_done, x_blk, x_lp, x_er, erL_0, erL_t, erL_f, kl_n, kl_i, kl_r, kl_l, bd_i, bd_r, bk_i, bk_e, bk_n, bk_r, bd_ite, bk_ite, lk_i, lk_e, lk_n, lk_r, lk_ite, ite_nx, b2i_i, b2i_n, b2i_0, b2i_1, b2i_e, bres_r, bres_ite, mres_v, mres_n, sF_1, sF_2, sA_1, sA_2, zcmp_lt, zcmp_gt, zcmp_le, zcmp_ge, zcmp_eq, List.lookup_cons, List.lookup_nil, mresX_v, mresX_n, mresX_t, bd_t, bres_t, y_rO, y_dO, y_dA, yO_o, yO_n, dR_e, rOx_s, rOx_n, dAx_s, dAx_n, wup_s, wup_n, fup_s, fup_n, beq_self_eq_true, Nat.reduceBEq, Nat.reduceLT, Nat.reduceSub, x_aload_n0, x_callG1, x_astore_n1, x_istore_n2, x_iload_n2, x_bipush, x_icmp_eq, x_aload_n1, x_areturn, x_new, x_dup, x_astore_n3, x_aload_n3, x_callG2, x_pop, x_icmp_ne, y_get, yGet_o, yLk_s, x_iconst, x_iadd, y_put, y_putF, yPut_o, yPk_s, x_goto, x_i2c, x_callG3, g0, a1, g1, l1]
  | @forS s a p d q L f x e h hc h2 ih ih2 =>
    intro N w z m hRI
    refine ⟨fun z => absurd z (by decide), fun _ hN hR => ?_, fun z => absurd z (by decide)⟩
    have hRI0 := hRI
    obtain ⟨hI, hL, hz, hδ⟩ := hRI
    have hp := hI.2.1
    have n800 := hI.2.2.1
    have hd0 := hI.2.2.2.1
    have hq0 := hI.2.2.2.2
    obtain ⟨M, rfl⟩ : ∃ M, N = M + 1 := ⟨N - 1, by omega⟩
    have hx := (ih M w z m hRI0).1 rfl (by omega) hR
    obtain ⟨F0, g0, -⟩ := hR.ob
    obtain ⟨w1, z1, m1, r1, a1, a2, a3, a4, a5, a6, a7⟩ := hx
    obtain ⟨b1, b2, b3, b4, -⟩ := h.b hp.2 hq0.1 hq0.2 (by omega) hL
    obtain ⟨b4, b5, b6⟩ := b4 rfl
    have hI1 : RsI T n x d q := ⟨hI.1, ⟨by omega, by omega⟩, n800, hd0, hq0⟩
    have sb := skp_b (T := T) (n := n) (a := x) (by omega)
    obtain ⟨w2, l1, l2, l3⟩ := c_look (l := l) (δ := δ) (zz := (z1, m1)) hI1 a2
    obtain ⟨F1, g1, -⟩ := a2.ob
    obtain ⟨F2, g2, -⟩ := l2.ob
    have sg := sgM_r a
    rw [(lkv_e (c := Fo.sgM a) hI.1 (by omega) (by omega)).mpr hc] at l1
    have ltx := chr_lt (T := T) (n := n) (a := skp T n x) (by rw [hc]; exact sgM_p)
    obtain ⟨w3, i1, i2, i3⟩ := c_lInit (l := l) (δ := δ) (w := wup w2 z1 (.inr (16, f0_16))) (la := z1) (zz := (z1 + 1, m1 + 3)) wup_s
    have fr3 : ∀ a, a ≠ z1 → w3 a = w2 a := fun a ha => by rw [i3 a ha, wup_n ha]
    have hL0 : LSt δ w3 z1 z1 (z1 + 1) (fun _ => .inl 0) 0 0 := ⟨by omega, by omega, fun i q1 q2 => by omega, Or.inl ⟨rfl, rfl, i2, rfl⟩⟩
    have hF3 : FR w3 (fun a => z ≤ a ∧ a < z1) f (fun _ => .inl 0) 0 r1 := FR.mono (fun a ha => ⟨ha, by rw [fr3 a (by omega), l3 a (by omega)]⟩) b3 _ _ _ a3
    obtain ⟨ci, FR1, c1, c2⟩ := hF3.cls b3
    obtain ⟨w4, z4, m4, e4, E4, B4, d1, d2, d3, d4, d5, d6, d7, d8, d9⟩ := c_add (l := l) (δ := δ) (m := m1 + 3) hL0 (x := r1) c1 c2 (by omega) (by omega) (by omega)
    have fr4 : ∀ a, a < z1 → w4 a = w2 a := fun a ha => by rw [d9 a (by omega) (by omega) (by omega), fr3 a (by omega)]
    have hR4 : RS w4 ro ta ll T n (skp T n x) d q L := l2.keep (fr4 ro (by omega)) (fr4 ta (by omega)) (fr4 ll (by omega))
    have hI4 : RdI δ T n (skp T n x) d q L z4 ro ta ll := ⟨⟨hI.1, ⟨by omega, by omega⟩, n800, hd0, hq0⟩, hL, ⟨by omega, by omega, by omega⟩, by omega⟩
    have hlp := (ih2 M w4 z4 m4 hI4).2.2 rfl (by omega) (skp T n x) ⟨by omega, by omega⟩ (skp_2 (by omega)) hR4 z1 e4 E4 1 B4 d2 (by omega) (by omega)
    have he4 : z1 ≤ e4 ∧ e4 < z4 := by
      rcases d3 with q | q
      · omega
      · refine ⟨by omega, ?_⟩
        rcases d2.2.2.2 with ⟨q1, -⟩ | ⟨-, cc, -, -, q4, -⟩
        · omega
        · exact q4
    have hB4 : B4 ≤ 48 := by
      rcases d2.2.2.2 with ⟨q1, -⟩ | ⟨-, cc, -, -, -, -, q5, q6⟩
      · omega
      · omega
    obtain ⟨G3, gl, -⟩ := i2
    obtain ⟨F4, g4, -⟩ := hR4.ob
    have g2' := (fr3 ro (by omega)).trans g2
    obtain ⟨w5, z5, m5, x5, F5, Lc', y1, y2, y3, y4, y5, y6, y7⟩ := hlp
    refine ⟨w5, z5, m5, x5, F5, ?_, y2, y3, fun b p1 p2 p3 => by rw [y4 b (by omega) p2 p3 (by omega) (by omega), fr4 b (by omega), l3 b p2, a5 b p1 p2 p3], by omega, by omega, by omega⟩
    rw [N_X4_formula]; unfold B_X4_formula
    simp (disch := first | rfl | exact okv_i | exact okv_o | exact okv_a | exact b_ft _ | (simp only [wt_c, wt_0, vc_i, vc_l, vc_r] <;> decide) | omega | exact i32_r _ | exact b2i_r _ | exact b2i_01 _ | exact zAnd_r _ _ | exact zOr_r _ _ | exact zXor_r _ _ | exact zShl_r _ _ | exact zShr_r _ _ | exact zByte_r _ | exact zcmp_r _ _ | decide) only [Bool.decide_eq_true, Bool.decide_eq_false, ↓if_pos, ↓if_neg, ↓reduceIte, Nat.reduceEqDiff, Int.reduceLE, Int.reduceLT, Int.reduceEq, Int.reduceNe, Nat.reduceBEq, Int.reduceAdd, Int.reduceMul, Int.reduceSub, Int.reduceNeg, Nat.reduceAdd, not_false_eq_true, not_true_eq_false, decide_true, decide_false, Bool.not_true, Bool.not_false, Bool.true_and, Bool.false_and, Bool.and_true, Bool.and_false, Bool.true_or, Bool.false_or, Bool.or_true, Bool.or_false, Bool.not_not, decide_not, Decidable.not_not, ite_not, b2i_t, b2i_f, ne_eq, Bool.not_eq_true, Bool.not_eq_false, decide_eq_true_eq, decide_eq_false_iff_not, Bool.false_eq_true, Bool.true_eq_false, reduceCtorEq, if_true, if_false, ite_self, ite_b0, ite_b1, ite_0b, ite_1b, ite_bb, x_done, x_blk, x_lp, x_er, erL_0, erL_t, erL_f, kl_n, kl_i, kl_r, kl_l, bd_i, bd_r, bk_i, bk_e, bk_n, bk_r, bd_ite, bk_ite, lk_i, lk_e, lk_n, lk_r, lk_ite, ite_nx, b2i_i, b2i_n, b2i_0, b2i_1, b2i_e, bres_r, bres_ite, mres_v, mres_n, sF_1, sF_2, sA_1, sA_2, zcmp_lt, zcmp_gt, zcmp_le, zcmp_ge, zcmp_eq, List.lookup_cons, List.lookup_nil, mresX_v, mresX_n, mresX_t, bd_t, bres_t, y_rO, y_dO, y_dA, yO_o, yO_n, dR_e, rOx_s, rOx_n, dAx_s, dAx_n, wup_s, wup_n, fup_s, fup_n, beq_self_eq_true, Nat.reduceBEq, Nat.reduceLT, Nat.reduceSub, x_aload_n0, x_callG1, x_astore_n1, x_istore_n2, x_iload_n2, x_bipush, x_icmp_eq, x_aload_n1, x_areturn, x_new, x_dup, x_astore_n3, x_aload_n3, x_callG2, x_pop, x_icmp_ne, y_get, yGet_o, yLk_s, x_iconst, x_iadd, y_put, y_putF, yPut_o, yPk_s, x_goto, x_i2c, x_callG3, g0, a1, g1, l1, g2, i1, gl, c1, d1, y1]
  | @forM s a p d q L f x t y h hc h2 ih ih2 =>
    intro N w z m hRI
    refine ⟨fun z => absurd z (by decide), fun _ hN hR => ?_, fun z => absurd z (by decide)⟩
    have hRI0 := hRI
    obtain ⟨hI, hL, hz, hδ⟩ := hRI
    have hp := hI.2.1
    have n800 := hI.2.2.1
    have hd0 := hI.2.2.2.1
    have hq0 := hI.2.2.2.2
    obtain ⟨M, rfl⟩ : ∃ M, N = M + 1 := ⟨N - 1, by omega⟩
    have hx := (ih M w z m hRI0).1 rfl (by omega) hR
    obtain ⟨F0, g0, -⟩ := hR.ob
    obtain ⟨w1, z1, m1, r1, a1, a2, a3, a4, a5, a6, a7⟩ := hx
    obtain ⟨b1, b2, b3, b4, -⟩ := h.b hp.2 hq0.1 hq0.2 (by omega) hL
    obtain ⟨b4, b5, b6⟩ := b4 rfl
    have hI1 : RsI T n x d q := ⟨hI.1, ⟨by omega, by omega⟩, n800, hd0, hq0⟩
    have sb := skp_b (T := T) (n := n) (a := x) (by omega)
    obtain ⟨w2, l1, l2, l3⟩ := c_look (l := l) (δ := δ) (zz := (z1, m1)) hI1 a2
    obtain ⟨F1, g1, -⟩ := a2.ob
    obtain ⟨F2, g2, -⟩ := l2.ob
    have sg := sgM_r a
    rw [(lkv_e (c := Fo.sgM a) hI.1 (by omega) (by omega)).mpr hc] at l1
    have ltx := chr_lt (T := T) (n := n) (a := skp T n x) (by rw [hc]; exact sgM_p)
    obtain ⟨w3, i1, i2, i3⟩ := c_lInit (l := l) (δ := δ) (w := wup w2 z1 (.inr (16, f0_16))) (la := z1) (zz := (z1 + 1, m1 + 3)) wup_s
    have fr3 : ∀ a, a ≠ z1 → w3 a = w2 a := fun a ha => by rw [i3 a ha, wup_n ha]
    have hL0 : LSt δ w3 z1 z1 (z1 + 1) (fun _ => .inl 0) 0 0 := ⟨by omega, by omega, fun i q1 q2 => by omega, Or.inl ⟨rfl, rfl, i2, rfl⟩⟩
    have hF3 : FR w3 (fun a => z ≤ a ∧ a < z1) f (fun _ => .inl 0) 0 r1 := FR.mono (fun a ha => ⟨ha, by rw [fr3 a (by omega), l3 a (by omega)]⟩) b3 _ _ _ a3
    obtain ⟨ci, FR1, c1, c2⟩ := hF3.cls b3
    obtain ⟨w4, z4, m4, e4, E4, B4, d1, d2, d3, d4, d5, d6, d7, d8, d9⟩ := c_add (l := l) (δ := δ) (m := m1 + 3) hL0 (x := r1) c1 c2 (by omega) (by omega) (by omega)
    have fr4 : ∀ a, a < z1 → w4 a = w2 a := fun a ha => by rw [d9 a (by omega) (by omega) (by omega), fr3 a (by omega)]
    have hR4 : RS w4 ro ta ll T n (skp T n x) d q L := l2.keep (fr4 ro (by omega)) (fr4 ta (by omega)) (fr4 ll (by omega))
    have hI4 : RdI δ T n (skp T n x) d q L z4 ro ta ll := ⟨⟨hI.1, ⟨by omega, by omega⟩, n800, hd0, hq0⟩, hL, ⟨by omega, by omega, by omega⟩, by omega⟩
    have hlp := (ih2 M w4 z4 m4 hI4).2.2 rfl (by omega) (skp T n x) ⟨by omega, by omega⟩ (skp_2 (by omega)) hR4 z1 e4 E4 1 B4 d2 (by omega) (by omega)
    have he4 : z1 ≤ e4 ∧ e4 < z4 := by
      rcases d3 with q | q
      · omega
      · refine ⟨by omega, ?_⟩
        rcases d2.2.2.2 with ⟨q1, -⟩ | ⟨-, cc, -, -, q4, -⟩
        · omega
        · exact q4
    have hB4 : B4 ≤ 48 := by
      rcases d2.2.2.2 with ⟨q1, -⟩ | ⟨-, cc, -, -, -, -, q5, q6⟩
      · omega
      · omega
    obtain ⟨G3, gl, -⟩ := i2
    obtain ⟨F4, g4, -⟩ := hR4.ob
    have g2' := (fr3 ro (by omega)).trans g2
    obtain ⟨t1, t2, t3, -, -, t4⟩ := h2.b (by omega) hq0.1 hq0.2 (by omega) hL
    obtain ⟨-, -, t5, t6⟩ := t4 rfl
    have t6 := t6 hc
    obtain ⟨w5, z5, m5, e5, E5, B5, y1, y2, y3, y4, y5, y6, y7, y8, y9, y10⟩ := hlp
    obtain ⟨w6, F6, j1, j2, j3, j4, j5⟩ := c_manyI (l := l) (δ := δ) (w := wup w5 z5 (.inr (9, f0_9))) (r := z5) (p := z1) (k := Fo.sgM a) (zz := (z5 + 1, m5 + 2)) wup_s (by omega)
    have fr6 : ∀ b, b ≠ z5 → w6 b = w5 b := fun b hb => by rw [j5 b hb, wup_n hb]
    have he5 : z1 ≤ e5 ∧ e5 < z5 := by
      have : e5 < z5 := by
        rcases y3.2.2.2 with ⟨q1, -⟩ | ⟨-, cc, -, -, q4, -⟩
        · omega
        · exact q4
      rcases y4 with q | q
      · omega
      · omega
    have hB5 : B5 ≤ 8 * (1 + Fo.len t) + 40 := by
      rcases y3.2.2.2 with ⟨q1, -⟩ | ⟨-, cc, -, -, -, -, q5, q6⟩
      · omega
      · omega
    have fr5 : ∀ b, b < z1 → b ≠ ro → b ≠ ll → w6 b = w3 b := fun b p1 p2 p3 => by rw [fr6 b (by omega), y7 b (by omega) p2 p3 (by omega) (by omega), d9 b (by omega) (by omega) (by omega)]
    refine ⟨w6, z5 + 1, m5 + 2, z5, ?_, y2.keep (fr6 ro (by omega)) (fr6 ta (by omega)) (fr6 ll (by omega)), ?_, ⟨by omega, by omega⟩, fun b p1 p2 p3 => by rw [fr5 b (by omega) p2 p3, fr3 b (by omega), l3 b p2, a5 b p1 p2 p3], by omega, by omega⟩
    · rw [N_X4_formula]; unfold B_X4_formula
      simp (disch := first | rfl | exact okv_i | exact okv_o | exact okv_a | exact b_ft _ | (simp only [wt_c, wt_0, vc_i, vc_l, vc_r] <;> decide) | omega | exact i32_r _ | exact b2i_r _ | exact b2i_01 _ | exact zAnd_r _ _ | exact zOr_r _ _ | exact zXor_r _ _ | exact zShl_r _ _ | exact zShr_r _ _ | exact zByte_r _ | exact zcmp_r _ _ | decide) only [Bool.decide_eq_true, Bool.decide_eq_false, ↓if_pos, ↓if_neg, ↓reduceIte, Nat.reduceEqDiff, Int.reduceLE, Int.reduceLT, Int.reduceEq, Int.reduceNe, Nat.reduceBEq, Int.reduceAdd, Int.reduceMul, Int.reduceSub, Int.reduceNeg, Nat.reduceAdd, not_false_eq_true, not_true_eq_false, decide_true, decide_false, Bool.not_true, Bool.not_false, Bool.true_and, Bool.false_and, Bool.and_true, Bool.and_false, Bool.true_or, Bool.false_or, Bool.or_true, Bool.or_false, Bool.not_not, decide_not, Decidable.not_not, ite_not, b2i_t, b2i_f, ne_eq, Bool.not_eq_true, Bool.not_eq_false, decide_eq_true_eq, decide_eq_false_iff_not, Bool.false_eq_true, Bool.true_eq_false, reduceCtorEq, if_true, if_false, ite_self, ite_b0, ite_b1, ite_0b, ite_1b, ite_bb, x_done, x_blk, x_lp, x_er, erL_0, erL_t, erL_f, kl_n, kl_i, kl_r, kl_l, bd_i, bd_r, bk_i, bk_e, bk_n, bk_r, bd_ite, bk_ite, lk_i, lk_e, lk_n, lk_r, lk_ite, ite_nx, b2i_i, b2i_n, b2i_0, b2i_1, b2i_e, bres_r, bres_ite, mres_v, mres_n, sF_1, sF_2, sA_1, sA_2, zcmp_lt, zcmp_gt, zcmp_le, zcmp_ge, zcmp_eq, List.lookup_cons, List.lookup_nil, mresX_v, mresX_n, mresX_t, bd_t, bres_t, y_rO, y_dO, y_dA, yO_o, yO_n, dR_e, rOx_s, rOx_n, dAx_s, dAx_n, wup_s, wup_n, fup_s, fup_n, beq_self_eq_true, Nat.reduceBEq, Nat.reduceLT, Nat.reduceSub, x_aload_n0, x_callG1, x_astore_n1, x_istore_n2, x_iload_n2, x_bipush, x_icmp_eq, x_aload_n1, x_areturn, x_new, x_dup, x_astore_n3, x_aload_n3, x_callG2, x_pop, x_icmp_ne, y_get, yGet_o, yLk_s, x_iconst, x_iadd, y_put, y_putF, yPut_o, yPk_s, x_goto, x_i2c, x_callG3, g0, a1, g1, l1, g2, i1, gl, c1, d1, y1, j1]
    · rw [FR_many]
      rcases y3.2.2.2 with ⟨q1, -⟩ | ⟨-, cc, q2, -, -, -⟩
      · omega
      refine ⟨⟨by omega, by omega⟩, F6, z1, e5, cc, E5, j2, j3, j4, ⟨⟨by omega, by omega⟩, ⟨by omega, by omega⟩⟩, ?_, ?_⟩
      · rw [len_cons, Nat.add_comm]
        exact q2.fr (fr6 z1 (by omega)) (fr6 e5 (by omega))
      · rw [FR_cons]
        refine ⟨r1, by rw [y5 0 (by omega) (by omega)]; exact d8, FR.mono (fun b hb => ⟨⟨hb.1, by omega⟩, fr5 b hb.2 (by omega) (by omega)⟩) b3 _ _ _ hF3, ?_⟩
        exact FR.mono (fun b hb => ⟨⟨by omega, by omega⟩, fr6 b (by omega)⟩) t3 _ _ _ y6
  | @lpN s p d q L hc =>
    intro N w z m hRI
    refine ⟨fun z => absurd z (by decide), fun z => absurd z (by decide), fun _ hN p0 hp0 hsk hR la e0 E k B hLS hk1 hk2 => ?_⟩
    obtain ⟨hI, hL, hz, hδ⟩ := hRI
    have hI0 : RsI T n p0 d q := ⟨hI.1, hp0, hI.2.2⟩
    have hp := hI.2.1
    have n800 := hI.2.2.1
    have hd0 := hI.2.2.2.1
    have hq0 := hI.2.2.2.2
    have sg := sgM_r s
    obtain ⟨w1, k1, k2, k3⟩ := c_look (l := l) (δ := δ) (zz := (z, m)) hI0 hR
    rw [hsk] at k1 k2
    obtain ⟨F0, g0, -⟩ := hR.ob
    obtain ⟨F1, g1, g2, -⟩ := k2.ob
    have hLS0 := hLS
    have hro : ro ≠ la ∧ ro ≠ e0 := by
      rcases hLS.2.2.2 with ⟨q1, -⟩ | ⟨-, cc, ⟨G, r1, -, -, -, r5, -⟩, -⟩
      · omega
      · exact ⟨fun q => (by rw [q, r1] at g0; cases g0), fun q => (by rw [q, r5] at g0; cases g0)⟩
    have hta : ta ≠ la ∧ ta ≠ e0 := by
      obtain ⟨F', TT, LL, -, -, -, -, -, -, -, k8, -⟩ := hR
      rcases hLS.2.2.2 with ⟨q1, -⟩ | ⟨-, cc, ⟨G, r1, -, -, -, r5, -⟩, -⟩
      · omega
      · exact ⟨fun q => (by rw [q, r1] at k8; cases k8), fun q => (by rw [q, r5] at k8; cases k8)⟩
    have hll : ll ≠ la ∧ ll ≠ e0 := by
      obtain ⟨F', TT, LL, -, -, -, -, -, -, -, -, -, k8, -⟩ := hR
      rcases hLS.2.2.2 with ⟨q1, -⟩ | ⟨-, cc, ⟨G, r1, -, -, -, r5, -⟩, -⟩
      · omega
      · exact ⟨fun q => (by rw [q, r1] at k8; cases k8), fun q => (by rw [q, r5] at k8; cases k8)⟩
    have hle : la < z ∧ e0 < z := by
      refine ⟨hLS.1, ?_⟩
      rcases hLS.2.2.2 with ⟨q1, -⟩ | ⟨-, cc, -, -, q4, -⟩
      · omega
      · exact q4
    have nro : ∀ y cy (fy : Nat → V), w y = some (.inr (cy, fy)) → 5 ≤ cy → y ≠ ro := fun y cy fy y1 y2 q => by rw [q, g0] at y1; cases y1; omega
    have nll : ∀ y cy (fy : Nat → V), w y = some (.inr (cy, fy)) → y ≠ ll := fun y cy fy y1 q => by
      obtain ⟨F', TT, LL, -, -, -, -, -, -, -, -, -, k8, -⟩ := hR
      rw [q, k8] at y1
      cases y1
    have hB : B ≤ 8 * k + 40 := by
      rcases hLS.2.2.2 with ⟨q1, -⟩ | ⟨-, cc, -, -, -, -, q5, q6⟩
      · omega
      · omega
    have lr := lkv_r (n := n) (a := p) hI.1 (by omega)
    have ln : ¬ lkv T n p = Fo.sgM s := fun e => hc ((lkv_e hI.1 (by omega) (by omega)).mp e)
    have hLS1 : LSt δ w1 la e0 z E k B := hLS.to (Nat.le_refl _) (k3 la (Ne.symm hro.1)) (k3 e0 (Ne.symm hro.2)) (fun y cy fy y1 y2 y3 => k3 y (nro y cy fy y2 y3))
    refine ⟨w1, z, m, e0, E, B, ?_, k2, by rw [len_nil]; exact hLS1, Or.inl rfl, fun _ _ _ => rfl, FR_nil, fun a c1 c2 c3 c4 c5 => k3 a c2, Nat.le_refl _, by rw [len_nil]; omega, by rw [len_nil]; omega⟩
    rw [lpD_eq, L_X4_formula_40]; unfold C_X4_formula_L40
    simp (disch := first | rfl | exact okv_i | exact okv_o | exact okv_a | exact b_ft _ | (simp only [wt_c, wt_0, vc_i, vc_l, vc_r] <;> decide) | omega | exact i32_r _ | exact b2i_r _ | exact b2i_01 _ | exact zAnd_r _ _ | exact zOr_r _ _ | exact zXor_r _ _ | exact zShl_r _ _ | exact zShr_r _ _ | exact zByte_r _ | exact zcmp_r _ _ | decide) only [Bool.decide_eq_true, Bool.decide_eq_false, ↓if_pos, ↓if_neg, ↓reduceIte, Nat.reduceEqDiff, Int.reduceLE, Int.reduceLT, Int.reduceEq, Int.reduceNe, Nat.reduceBEq, Int.reduceAdd, Int.reduceMul, Int.reduceSub, Int.reduceNeg, Nat.reduceAdd, not_false_eq_true, not_true_eq_false, decide_true, decide_false, Bool.not_true, Bool.not_false, Bool.true_and, Bool.false_and, Bool.and_true, Bool.and_false, Bool.true_or, Bool.false_or, Bool.or_true, Bool.or_false, Bool.not_not, decide_not, Decidable.not_not, ite_not, b2i_t, b2i_f, ne_eq, Bool.not_eq_true, Bool.not_eq_false, decide_eq_true_eq, decide_eq_false_iff_not, Bool.false_eq_true, Bool.true_eq_false, reduceCtorEq, if_true, if_false, ite_self, ite_b0, ite_b1, ite_0b, ite_1b, ite_bb, x_done, x_blk, x_lp, x_er, erL_0, erL_t, erL_f, kl_n, kl_i, kl_r, kl_l, bd_i, bd_r, bk_i, bk_e, bk_n, bk_r, bd_ite, bk_ite, lk_i, lk_e, lk_n, lk_r, lk_ite, ite_nx, b2i_i, b2i_n, b2i_0, b2i_1, b2i_e, bres_r, bres_ite, mres_v, mres_n, sF_1, sF_2, sA_1, sA_2, zcmp_lt, zcmp_gt, zcmp_le, zcmp_ge, zcmp_eq, List.lookup_cons, List.lookup_nil, mresX_v, mresX_n, mresX_t, bd_t, bres_t, y_rO, y_dO, y_dA, yO_o, yO_n, dR_e, rOx_s, rOx_n, dAx_s, dAx_n, wup_s, wup_n, fup_s, fup_n, beq_self_eq_true, Nat.reduceBEq, Nat.reduceLT, Nat.reduceSub, x_aload_n0, x_callG1, x_astore_n1, x_istore_n2, x_iload_n2, x_bipush, x_icmp_eq, x_aload_n1, x_areturn, x_new, x_dup, x_astore_n3, x_aload_n3, x_callG2, x_pop, x_icmp_ne, y_get, yGet_o, yLk_s, x_iconst, x_iadd, y_put, y_putF, yPut_o, yPk_s, x_goto, x_i2c, x_callG3, g0, k1]
  | @lpE s p d q L e hc h ih =>
    intro N w z m hRI
    refine ⟨fun z => absurd z (by decide), fun z => absurd z (by decide), fun _ hN p0 hp0 hsk hR la e0 E k B hLS hk1 hk2 => ?_⟩
    obtain ⟨hI, hL, hz, hδ⟩ := hRI
    have hI0 : RsI T n p0 d q := ⟨hI.1, hp0, hI.2.2⟩
    have hp := hI.2.1
    have n800 := hI.2.2.1
    have hd0 := hI.2.2.2.1
    have hq0 := hI.2.2.2.2
    have sg := sgM_r s
    obtain ⟨w1, k1, k2, k3⟩ := c_look (l := l) (δ := δ) (zz := (z, m)) hI0 hR
    rw [hsk] at k1 k2
    obtain ⟨F0, g0, -⟩ := hR.ob
    obtain ⟨F1, g1, g2, -⟩ := k2.ob
    have hLS0 := hLS
    have hro : ro ≠ la ∧ ro ≠ e0 := by
      rcases hLS.2.2.2 with ⟨q1, -⟩ | ⟨-, cc, ⟨G, r1, -, -, -, r5, -⟩, -⟩
      · omega
      · exact ⟨fun q => (by rw [q, r1] at g0; cases g0), fun q => (by rw [q, r5] at g0; cases g0)⟩
    have hta : ta ≠ la ∧ ta ≠ e0 := by
      obtain ⟨F', TT, LL, -, -, -, -, -, -, -, k8, -⟩ := hR
      rcases hLS.2.2.2 with ⟨q1, -⟩ | ⟨-, cc, ⟨G, r1, -, -, -, r5, -⟩, -⟩
      · omega
      · exact ⟨fun q => (by rw [q, r1] at k8; cases k8), fun q => (by rw [q, r5] at k8; cases k8)⟩
    have hll : ll ≠ la ∧ ll ≠ e0 := by
      obtain ⟨F', TT, LL, -, -, -, -, -, -, -, -, -, k8, -⟩ := hR
      rcases hLS.2.2.2 with ⟨q1, -⟩ | ⟨-, cc, ⟨G, r1, -, -, -, r5, -⟩, -⟩
      · omega
      · exact ⟨fun q => (by rw [q, r1] at k8; cases k8), fun q => (by rw [q, r5] at k8; cases k8)⟩
    have hle : la < z ∧ e0 < z := by
      refine ⟨hLS.1, ?_⟩
      rcases hLS.2.2.2 with ⟨q1, -⟩ | ⟨-, cc, -, -, q4, -⟩
      · omega
      · exact q4
    have nro : ∀ y cy (fy : Nat → V), w y = some (.inr (cy, fy)) → 5 ≤ cy → y ≠ ro := fun y cy fy y1 y2 q => by rw [q, g0] at y1; cases y1; omega
    have nll : ∀ y cy (fy : Nat → V), w y = some (.inr (cy, fy)) → y ≠ ll := fun y cy fy y1 q => by
      obtain ⟨F', TT, LL, -, -, -, -, -, -, -, -, -, k8, -⟩ := hR
      rw [q, k8] at y1
      cases y1
    have hB : B ≤ 8 * k + 40 := by
      rcases hLS.2.2.2 with ⟨q1, -⟩ | ⟨-, cc, -, -, -, -, q5, q6⟩
      · omega
      · omega
    rw [(lkv_e (c := Fo.sgM s) hI.1 (by omega) (by omega)).mpr hc] at k1
    have ltx := chr_lt (T := T) (n := n) (a := p) (by rw [hc]; exact sgM_p)
    have hR2 := k2.at g1 (p + 1)
    have hI2 : RsI T n (p + 1) d q := ⟨hI.1, ⟨by omega, by omega⟩, n800, hd0, hq0⟩
    have fr2 : ∀ a, a ≠ ro → wup w1 ro (.inr (4, fup F1 2 (.inl (p + 1)))) a = w a := fun a ha => by rw [wup_n ha, k3 a ha]
    obtain ⟨F2, q2, -⟩ := hR2.ob
    have hx := (ih N _ z m ⟨hI2, hL, hz, hδ⟩).1 rfl (by omega) hR2
    obtain ⟨w4, z4, m4, x4, F4, a1, a2, a3, a4, a5, a6, a7⟩ := hx
    refine ⟨w4, z4, m4, x4, F4, [some (.inr (.inr (some ro))), none, some (.inl (Fo.sgM s)), some (.inr (.inr (some la)))], ?_, a2, a3, fun a c1 c2 c3 c4 c5 => by rw [a4 a c1 c2 c3, fr2 a c2], a5, by omega, by omega⟩
    rw [lpD_eq, L_X4_formula_40]; unfold C_X4_formula_L40
    simp (disch := first | rfl | exact okv_i | exact okv_o | exact okv_a | exact b_ft _ | (simp only [wt_c, wt_0, vc_i, vc_l, vc_r] <;> decide) | omega | exact i32_r _ | exact b2i_r _ | exact b2i_01 _ | exact zAnd_r _ _ | exact zOr_r _ _ | exact zXor_r _ _ | exact zShl_r _ _ | exact zShr_r _ _ | exact zByte_r _ | exact zcmp_r _ _ | decide) only [Bool.decide_eq_true, Bool.decide_eq_false, ↓if_pos, ↓if_neg, ↓reduceIte, Nat.reduceEqDiff, Int.reduceLE, Int.reduceLT, Int.reduceEq, Int.reduceNe, Nat.reduceBEq, Int.reduceAdd, Int.reduceMul, Int.reduceSub, Int.reduceNeg, Nat.reduceAdd, not_false_eq_true, not_true_eq_false, decide_true, decide_false, Bool.not_true, Bool.not_false, Bool.true_and, Bool.false_and, Bool.and_true, Bool.and_false, Bool.true_or, Bool.false_or, Bool.or_true, Bool.or_false, Bool.not_not, decide_not, Decidable.not_not, ite_not, b2i_t, b2i_f, ne_eq, Bool.not_eq_true, Bool.not_eq_false, decide_eq_true_eq, decide_eq_false_iff_not, Bool.false_eq_true, Bool.true_eq_false, reduceCtorEq, if_true, if_false, ite_self, ite_b0, ite_b1, ite_0b, ite_1b, ite_bb, x_done, x_blk, x_lp, x_er, erL_0, erL_t, erL_f, kl_n, kl_i, kl_r, kl_l, bd_i, bd_r, bk_i, bk_e, bk_n, bk_r, bd_ite, bk_ite, lk_i, lk_e, lk_n, lk_r, lk_ite, ite_nx, b2i_i, b2i_n, b2i_0, b2i_1, b2i_e, bres_r, bres_ite, mres_v, mres_n, sF_1, sF_2, sA_1, sA_2, zcmp_lt, zcmp_gt, zcmp_le, zcmp_ge, zcmp_eq, List.lookup_cons, List.lookup_nil, mresX_v, mresX_n, mresX_t, bd_t, bres_t, y_rO, y_dO, y_dA, yO_o, yO_n, dR_e, rOx_s, rOx_n, dAx_s, dAx_n, wup_s, wup_n, fup_s, fup_n, beq_self_eq_true, Nat.reduceBEq, Nat.reduceLT, Nat.reduceSub, x_aload_n0, x_callG1, x_astore_n1, x_istore_n2, x_iload_n2, x_bipush, x_icmp_eq, x_aload_n1, x_areturn, x_new, x_dup, x_astore_n3, x_aload_n3, x_callG2, x_pop, x_icmp_ne, y_get, yGet_o, yLk_s, x_iconst, x_iadd, y_put, y_putF, yPut_o, yPk_s, x_goto, x_i2c, x_callG3, g0, k1, g1, g2, a1]
  | @lpS s p d q L f x e hc h h2 ih ih2 =>
    intro N w z m hRI
    refine ⟨fun z => absurd z (by decide), fun z => absurd z (by decide), fun _ hN p0 hp0 hsk hR la e0 E k B hLS hk1 hk2 => ?_⟩
    obtain ⟨hI, hL, hz, hδ⟩ := hRI
    have hI0 : RsI T n p0 d q := ⟨hI.1, hp0, hI.2.2⟩
    have hp := hI.2.1
    have n800 := hI.2.2.1
    have hd0 := hI.2.2.2.1
    have hq0 := hI.2.2.2.2
    have sg := sgM_r s
    obtain ⟨w1, k1, k2, k3⟩ := c_look (l := l) (δ := δ) (zz := (z, m)) hI0 hR
    rw [hsk] at k1 k2
    obtain ⟨F0, g0, -⟩ := hR.ob
    obtain ⟨F1, g1, g2, -⟩ := k2.ob
    have hLS0 := hLS
    have hro : ro ≠ la ∧ ro ≠ e0 := by
      rcases hLS.2.2.2 with ⟨q1, -⟩ | ⟨-, cc, ⟨G, r1, -, -, -, r5, -⟩, -⟩
      · omega
      · exact ⟨fun q => (by rw [q, r1] at g0; cases g0), fun q => (by rw [q, r5] at g0; cases g0)⟩
    have hta : ta ≠ la ∧ ta ≠ e0 := by
      obtain ⟨F', TT, LL, -, -, -, -, -, -, -, k8, -⟩ := hR
      rcases hLS.2.2.2 with ⟨q1, -⟩ | ⟨-, cc, ⟨G, r1, -, -, -, r5, -⟩, -⟩
      · omega
      · exact ⟨fun q => (by rw [q, r1] at k8; cases k8), fun q => (by rw [q, r5] at k8; cases k8)⟩
    have hll : ll ≠ la ∧ ll ≠ e0 := by
      obtain ⟨F', TT, LL, -, -, -, -, -, -, -, -, -, k8, -⟩ := hR
      rcases hLS.2.2.2 with ⟨q1, -⟩ | ⟨-, cc, ⟨G, r1, -, -, -, r5, -⟩, -⟩
      · omega
      · exact ⟨fun q => (by rw [q, r1] at k8; cases k8), fun q => (by rw [q, r5] at k8; cases k8)⟩
    have hle : la < z ∧ e0 < z := by
      refine ⟨hLS.1, ?_⟩
      rcases hLS.2.2.2 with ⟨q1, -⟩ | ⟨-, cc, -, -, q4, -⟩
      · omega
      · exact q4
    have nro : ∀ y cy (fy : Nat → V), w y = some (.inr (cy, fy)) → 5 ≤ cy → y ≠ ro := fun y cy fy y1 y2 q => by rw [q, g0] at y1; cases y1; omega
    have nll : ∀ y cy (fy : Nat → V), w y = some (.inr (cy, fy)) → y ≠ ll := fun y cy fy y1 q => by
      obtain ⟨F', TT, LL, -, -, -, -, -, -, -, -, -, k8, -⟩ := hR
      rw [q, k8] at y1
      cases y1
    have hB : B ≤ 8 * k + 40 := by
      rcases hLS.2.2.2 with ⟨q1, -⟩ | ⟨-, cc, -, -, -, -, q5, q6⟩
      · omega
      · omega
    rw [(lkv_e (c := Fo.sgM s) hI.1 (by omega) (by omega)).mpr hc] at k1
    have ltx := chr_lt (T := T) (n := n) (a := p) (by rw [hc]; exact sgM_p)
    have hR2 := k2.at g1 (p + 1)
    have hI2 : RsI T n (p + 1) d q := ⟨hI.1, ⟨by omega, by omega⟩, n800, hd0, hq0⟩
    have fr2 : ∀ a, a ≠ ro → wup w1 ro (.inr (4, fup F1 2 (.inl (p + 1)))) a = w a := fun a ha => by rw [wup_n ha, k3 a ha]
    obtain ⟨F2, q2, -⟩ := hR2.ob
    have hx := (ih N _ z m ⟨hI2, hL, hz, hδ⟩).1 rfl (by omega) hR2
    obtain ⟨w4, z4, m4, r4, a1, a2, a3, a4, a5, a6, a7⟩ := hx
    obtain ⟨b1, b2, b3, b4, -⟩ := h.b (by omega) hq0.1 hq0.2 (by omega) hL
    obtain ⟨b4, b5, b6⟩ := b4 rfl
    have sb := skp_b (T := T) (n := n) (a := x) (by omega)
    have fr4 : ∀ a, a < z → a ≠ ro → a ≠ ll → w4 a = w a := fun a c1 c2 c3 => by rw [a5 a c1 c2 c3, fr2 a c2]
    have hLS4 : LSt δ w4 la e0 z4 E k B := hLS.to (by omega) (fr4 la hle.1 (Ne.symm hro.1) (Ne.symm hll.1)) (fr4 e0 hle.2 (Ne.symm hro.2) (Ne.symm hll.2)) (fun y cy fy y1 y2 y3 => fr4 y y1 (nro y cy fy y2 y3) (nll y cy fy y2))
    obtain ⟨ci, FR1, c1, c2⟩ := a3.cls b3
    obtain ⟨w5, z5, m5, e5, E5, B5, d1, d2, d3, d4, d5, d6, d7, d8, d9⟩ := c_add (l := l) (δ := δ) (m := m4) hLS4 (x := r4) c1 c2 (by omega) (by omega) (by omega)
    have fr5 : ∀ a, a < z4 → a ≠ la → a ≠ e0 → w5 a = w4 a := d9
    have hR5 : RS w5 ro ta ll T n x d q L := a2.keep (fr5 ro (by omega) hro.1 hro.2) (fr5 ta (by omega) hta.1 hta.2) (fr5 ll (by omega) hll.1 hll.2)
    have hI5 : RsI T n x d q := ⟨hI.1, ⟨by omega, by omega⟩, n800, hd0, hq0⟩
    obtain ⟨F4, q4, -⟩ := a2.ob
    obtain ⟨G5, ql⟩ : ∃ G, w4 la = some (.inr (16, G)) := by
      rcases hLS4.2.2.2 with ⟨q1, -⟩ | ⟨-, cc, ⟨G, r1, -⟩, -⟩
      · omega
      · exact ⟨G, r1⟩
    have he5 : e5 < z5 := by
      rcases d2.2.2.2 with ⟨q1, -⟩ | ⟨-, cc, -, -, r4, -⟩
      · omega
      · exact r4
    have step : lpD 40 (B_X4_formula_L40 l δ N (R_rea l δ N)).1 [] [some (.inr (.inr (some ro))), none, some (.inl (Fo.sgM s)), some (.inr (.inr (some la)))] (w, z, m) = lpD 40 (B_X4_formula_L40 l δ N (R_rea l δ N)).1 [] [some (.inr (.inr (some ro))), none, some (.inl (Fo.sgM s)), some (.inr (.inr (some la)))] (w5, z5, m5) := by
      rw [lpD_eq, L_X4_formula_40]; unfold C_X4_formula_L40
      simp (disch := first | rfl | exact okv_i | exact okv_o | exact okv_a | exact b_ft _ | (simp only [wt_c, wt_0, vc_i, vc_l, vc_r] <;> decide) | omega | exact i32_r _ | exact b2i_r _ | exact b2i_01 _ | exact zAnd_r _ _ | exact zOr_r _ _ | exact zXor_r _ _ | exact zShl_r _ _ | exact zShr_r _ _ | exact zByte_r _ | exact zcmp_r _ _ | decide) only [Bool.decide_eq_true, Bool.decide_eq_false, ↓if_pos, ↓if_neg, ↓reduceIte, Nat.reduceEqDiff, Int.reduceLE, Int.reduceLT, Int.reduceEq, Int.reduceNe, Nat.reduceBEq, Int.reduceAdd, Int.reduceMul, Int.reduceSub, Int.reduceNeg, Nat.reduceAdd, not_false_eq_true, not_true_eq_false, decide_true, decide_false, Bool.not_true, Bool.not_false, Bool.true_and, Bool.false_and, Bool.and_true, Bool.and_false, Bool.true_or, Bool.false_or, Bool.or_true, Bool.or_false, Bool.not_not, decide_not, Decidable.not_not, ite_not, b2i_t, b2i_f, ne_eq, Bool.not_eq_true, Bool.not_eq_false, decide_eq_true_eq, decide_eq_false_iff_not, Bool.false_eq_true, Bool.true_eq_false, reduceCtorEq, if_true, if_false, ite_self, ite_b0, ite_b1, ite_0b, ite_1b, ite_bb, x_done, x_blk, x_lp, x_er, erL_0, erL_t, erL_f, kl_n, kl_i, kl_r, kl_l, bd_i, bd_r, bk_i, bk_e, bk_n, bk_r, bd_ite, bk_ite, lk_i, lk_e, lk_n, lk_r, lk_ite, ite_nx, b2i_i, b2i_n, b2i_0, b2i_1, b2i_e, bres_r, bres_ite, mres_v, mres_n, sF_1, sF_2, sA_1, sA_2, zcmp_lt, zcmp_gt, zcmp_le, zcmp_ge, zcmp_eq, List.lookup_cons, List.lookup_nil, mresX_v, mresX_n, mresX_t, bd_t, bres_t, y_rO, y_dO, y_dA, yO_o, yO_n, dR_e, rOx_s, rOx_n, dAx_s, dAx_n, wup_s, wup_n, fup_s, fup_n, beq_self_eq_true, Nat.reduceBEq, Nat.reduceLT, Nat.reduceSub, x_aload_n0, x_callG1, x_astore_n1, x_istore_n2, x_iload_n2, x_bipush, x_icmp_eq, x_aload_n1, x_areturn, x_new, x_dup, x_astore_n3, x_aload_n3, x_callG2, x_pop, x_icmp_ne, y_get, yGet_o, yLk_s, x_iconst, x_iadd, y_put, y_putF, yPut_o, yPk_s, x_goto, x_i2c, x_callG3, g0, k1, g1, g2, a1, ql, c1, d1]
    rw [step]
    have fr6 : ∀ a, a < z → a ≠ ro → a ≠ ll → a ≠ la → a ≠ e0 → w5 a = w a := fun a p1 p2 p3 p4 p5 => by rw [fr5 a (by omega) p4 p5, fr4 a p1 p2 p3]
    have hF5 : FR w5 (fun a => z ≤ a ∧ a < z4) f (fun _ => .inl 0) 0 r4 := FR.mono (fun a ha => ⟨ha, fr5 a ha.2 (by omega) (by omega)⟩) b3 _ _ _ a3
    have hI6 : RdI δ T n (skp T n x) d q L z5 ro ta ll := ⟨⟨hI.1, ⟨by omega, by omega⟩, n800, hd0, hq0⟩, hL, ⟨by omega, by omega, by omega⟩, by omega⟩
    have hlp := (ih2 N w5 z5 m5 hI6).2.2 rfl hN x ⟨by omega, by omega⟩ rfl hR5 la e5 E5 (k + 1) B5 d2 (by omega) (by omega)
    have e5r : e5 = e0 ∨ z4 ≤ e5 := d3
    obtain ⟨w6, z6, m6, x6, F6, Lc', y1, y2, y3, y4, y5, y6, y7⟩ := hlp
    exact ⟨w6, z6, m6, x6, F6, Lc', y1, y2, y3, fun a p1 p2 p3 p4 p5 => by rw [y4 a (by omega) p2 p3 p4 (by omega), fr6 a p1 p2 p3 p4 p5], by omega, by omega, by omega⟩
  | @lpF s p d q L f x t y hc h h2 ih ih2 =>
    intro N w z m hRI
    refine ⟨fun z => absurd z (by decide), fun z => absurd z (by decide), fun _ hN p0 hp0 hsk hR la e0 E k B hLS hk1 hk2 => ?_⟩
    obtain ⟨hI, hL, hz, hδ⟩ := hRI
    have hI0 : RsI T n p0 d q := ⟨hI.1, hp0, hI.2.2⟩
    have hp := hI.2.1
    have n800 := hI.2.2.1
    have hd0 := hI.2.2.2.1
    have hq0 := hI.2.2.2.2
    have sg := sgM_r s
    obtain ⟨w1, k1, k2, k3⟩ := c_look (l := l) (δ := δ) (zz := (z, m)) hI0 hR
    rw [hsk] at k1 k2
    obtain ⟨F0, g0, -⟩ := hR.ob
    obtain ⟨F1, g1, g2, -⟩ := k2.ob
    have hLS0 := hLS
    have hro : ro ≠ la ∧ ro ≠ e0 := by
      rcases hLS.2.2.2 with ⟨q1, -⟩ | ⟨-, cc, ⟨G, r1, -, -, -, r5, -⟩, -⟩
      · omega
      · exact ⟨fun q => (by rw [q, r1] at g0; cases g0), fun q => (by rw [q, r5] at g0; cases g0)⟩
    have hta : ta ≠ la ∧ ta ≠ e0 := by
      obtain ⟨F', TT, LL, -, -, -, -, -, -, -, k8, -⟩ := hR
      rcases hLS.2.2.2 with ⟨q1, -⟩ | ⟨-, cc, ⟨G, r1, -, -, -, r5, -⟩, -⟩
      · omega
      · exact ⟨fun q => (by rw [q, r1] at k8; cases k8), fun q => (by rw [q, r5] at k8; cases k8)⟩
    have hll : ll ≠ la ∧ ll ≠ e0 := by
      obtain ⟨F', TT, LL, -, -, -, -, -, -, -, -, -, k8, -⟩ := hR
      rcases hLS.2.2.2 with ⟨q1, -⟩ | ⟨-, cc, ⟨G, r1, -, -, -, r5, -⟩, -⟩
      · omega
      · exact ⟨fun q => (by rw [q, r1] at k8; cases k8), fun q => (by rw [q, r5] at k8; cases k8)⟩
    have hle : la < z ∧ e0 < z := by
      refine ⟨hLS.1, ?_⟩
      rcases hLS.2.2.2 with ⟨q1, -⟩ | ⟨-, cc, -, -, q4, -⟩
      · omega
      · exact q4
    have nro : ∀ y cy (fy : Nat → V), w y = some (.inr (cy, fy)) → 5 ≤ cy → y ≠ ro := fun y cy fy y1 y2 q => by rw [q, g0] at y1; cases y1; omega
    have nll : ∀ y cy (fy : Nat → V), w y = some (.inr (cy, fy)) → y ≠ ll := fun y cy fy y1 q => by
      obtain ⟨F', TT, LL, -, -, -, -, -, -, -, -, -, k8, -⟩ := hR
      rw [q, k8] at y1
      cases y1
    have hB : B ≤ 8 * k + 40 := by
      rcases hLS.2.2.2 with ⟨q1, -⟩ | ⟨-, cc, -, -, -, -, q5, q6⟩
      · omega
      · omega
    rw [(lkv_e (c := Fo.sgM s) hI.1 (by omega) (by omega)).mpr hc] at k1
    have ltx := chr_lt (T := T) (n := n) (a := p) (by rw [hc]; exact sgM_p)
    have hR2 := k2.at g1 (p + 1)
    have hI2 : RsI T n (p + 1) d q := ⟨hI.1, ⟨by omega, by omega⟩, n800, hd0, hq0⟩
    have fr2 : ∀ a, a ≠ ro → wup w1 ro (.inr (4, fup F1 2 (.inl (p + 1)))) a = w a := fun a ha => by rw [wup_n ha, k3 a ha]
    obtain ⟨F2, q2, -⟩ := hR2.ob
    have hx := (ih N _ z m ⟨hI2, hL, hz, hδ⟩).1 rfl (by omega) hR2
    obtain ⟨w4, z4, m4, r4, a1, a2, a3, a4, a5, a6, a7⟩ := hx
    obtain ⟨b1, b2, b3, b4, -⟩ := h.b (by omega) hq0.1 hq0.2 (by omega) hL
    obtain ⟨b4, b5, b6⟩ := b4 rfl
    have sb := skp_b (T := T) (n := n) (a := x) (by omega)
    have fr4 : ∀ a, a < z → a ≠ ro → a ≠ ll → w4 a = w a := fun a c1 c2 c3 => by rw [a5 a c1 c2 c3, fr2 a c2]
    have hLS4 : LSt δ w4 la e0 z4 E k B := hLS.to (by omega) (fr4 la hle.1 (Ne.symm hro.1) (Ne.symm hll.1)) (fr4 e0 hle.2 (Ne.symm hro.2) (Ne.symm hll.2)) (fun y cy fy y1 y2 y3 => fr4 y y1 (nro y cy fy y2 y3) (nll y cy fy y2))
    obtain ⟨ci, FR1, c1, c2⟩ := a3.cls b3
    obtain ⟨w5, z5, m5, e5, E5, B5, d1, d2, d3, d4, d5, d6, d7, d8, d9⟩ := c_add (l := l) (δ := δ) (m := m4) hLS4 (x := r4) c1 c2 (by omega) (by omega) (by omega)
    have fr5 : ∀ a, a < z4 → a ≠ la → a ≠ e0 → w5 a = w4 a := d9
    have hR5 : RS w5 ro ta ll T n x d q L := a2.keep (fr5 ro (by omega) hro.1 hro.2) (fr5 ta (by omega) hta.1 hta.2) (fr5 ll (by omega) hll.1 hll.2)
    have hI5 : RsI T n x d q := ⟨hI.1, ⟨by omega, by omega⟩, n800, hd0, hq0⟩
    obtain ⟨F4, q4, -⟩ := a2.ob
    obtain ⟨G5, ql⟩ : ∃ G, w4 la = some (.inr (16, G)) := by
      rcases hLS4.2.2.2 with ⟨q1, -⟩ | ⟨-, cc, ⟨G, r1, -⟩, -⟩
      · omega
      · exact ⟨G, r1⟩
    have he5 : e5 < z5 := by
      rcases d2.2.2.2 with ⟨q1, -⟩ | ⟨-, cc, -, -, r4, -⟩
      · omega
      · exact r4
    have step : lpD 40 (B_X4_formula_L40 l δ N (R_rea l δ N)).1 [] [some (.inr (.inr (some ro))), none, some (.inl (Fo.sgM s)), some (.inr (.inr (some la)))] (w, z, m) = lpD 40 (B_X4_formula_L40 l δ N (R_rea l δ N)).1 [] [some (.inr (.inr (some ro))), none, some (.inl (Fo.sgM s)), some (.inr (.inr (some la)))] (w5, z5, m5) := by
      rw [lpD_eq, L_X4_formula_40]; unfold C_X4_formula_L40
      simp (disch := first | rfl | exact okv_i | exact okv_o | exact okv_a | exact b_ft _ | (simp only [wt_c, wt_0, vc_i, vc_l, vc_r] <;> decide) | omega | exact i32_r _ | exact b2i_r _ | exact b2i_01 _ | exact zAnd_r _ _ | exact zOr_r _ _ | exact zXor_r _ _ | exact zShl_r _ _ | exact zShr_r _ _ | exact zByte_r _ | exact zcmp_r _ _ | decide) only [Bool.decide_eq_true, Bool.decide_eq_false, ↓if_pos, ↓if_neg, ↓reduceIte, Nat.reduceEqDiff, Int.reduceLE, Int.reduceLT, Int.reduceEq, Int.reduceNe, Nat.reduceBEq, Int.reduceAdd, Int.reduceMul, Int.reduceSub, Int.reduceNeg, Nat.reduceAdd, not_false_eq_true, not_true_eq_false, decide_true, decide_false, Bool.not_true, Bool.not_false, Bool.true_and, Bool.false_and, Bool.and_true, Bool.and_false, Bool.true_or, Bool.false_or, Bool.or_true, Bool.or_false, Bool.not_not, decide_not, Decidable.not_not, ite_not, b2i_t, b2i_f, ne_eq, Bool.not_eq_true, Bool.not_eq_false, decide_eq_true_eq, decide_eq_false_iff_not, Bool.false_eq_true, Bool.true_eq_false, reduceCtorEq, if_true, if_false, ite_self, ite_b0, ite_b1, ite_0b, ite_1b, ite_bb, x_done, x_blk, x_lp, x_er, erL_0, erL_t, erL_f, kl_n, kl_i, kl_r, kl_l, bd_i, bd_r, bk_i, bk_e, bk_n, bk_r, bd_ite, bk_ite, lk_i, lk_e, lk_n, lk_r, lk_ite, ite_nx, b2i_i, b2i_n, b2i_0, b2i_1, b2i_e, bres_r, bres_ite, mres_v, mres_n, sF_1, sF_2, sA_1, sA_2, zcmp_lt, zcmp_gt, zcmp_le, zcmp_ge, zcmp_eq, List.lookup_cons, List.lookup_nil, mresX_v, mresX_n, mresX_t, bd_t, bres_t, y_rO, y_dO, y_dA, yO_o, yO_n, dR_e, rOx_s, rOx_n, dAx_s, dAx_n, wup_s, wup_n, fup_s, fup_n, beq_self_eq_true, Nat.reduceBEq, Nat.reduceLT, Nat.reduceSub, x_aload_n0, x_callG1, x_astore_n1, x_istore_n2, x_iload_n2, x_bipush, x_icmp_eq, x_aload_n1, x_areturn, x_new, x_dup, x_astore_n3, x_aload_n3, x_callG2, x_pop, x_icmp_ne, y_get, yGet_o, yLk_s, x_iconst, x_iadd, y_put, y_putF, yPut_o, yPk_s, x_goto, x_i2c, x_callG3, g0, k1, g1, g2, a1, ql, c1, d1]
    rw [step]
    have fr6 : ∀ a, a < z → a ≠ ro → a ≠ ll → a ≠ la → a ≠ e0 → w5 a = w a := fun a p1 p2 p3 p4 p5 => by rw [fr5 a (by omega) p4 p5, fr4 a p1 p2 p3]
    have hF5 : FR w5 (fun a => z ≤ a ∧ a < z4) f (fun _ => .inl 0) 0 r4 := FR.mono (fun a ha => ⟨ha, fr5 a ha.2 (by omega) (by omega)⟩) b3 _ _ _ a3
    have hI6 : RdI δ T n (skp T n x) d q L z5 ro ta ll := ⟨⟨hI.1, ⟨by omega, by omega⟩, n800, hd0, hq0⟩, hL, ⟨by omega, by omega, by omega⟩, by omega⟩
    have hlp := (ih2 N w5 z5 m5 hI6).2.2 rfl hN x ⟨by omega, by omega⟩ rfl hR5 la e5 E5 (k + 1) B5 d2 (by omega) (by omega)
    have e5r : e5 = e0 ∨ z4 ≤ e5 := d3
    obtain ⟨t1, t2, t3, -, -, t4⟩ := h2.b (by omega) hq0.1 hq0.2 (by omega) hL
    obtain ⟨w6, z6, m6, e6, E6, B6, y1, y2, y3, y4, y5, y6, y7, y8, y9, y10⟩ := hlp
    have he6 : e6 < z6 := by
      rcases y3.2.2.2 with ⟨q1, -⟩ | ⟨-, cc, -, -, r4, -⟩
      · omega
      · exact r4
    refine ⟨w6, z6, m6, e6, E6, B6, y1, y2, ?_, by omega, fun i q1 q2 => by rw [y5 i q1 (by omega), d7 i q1 q2], ?_, fun a p1 p2 p3 p4 p5 => by rw [y7 a (by omega) p2 p3 p4 (by omega), fr6 a p1 p2 p3 p4 p5], by omega, ?_, ?_⟩
    · rw [len_cons, show k + (Fo.len t + 1) = k + 1 + Fo.len t by omega]
      exact y3
    · rw [FR_cons]
      refine ⟨r4, by rw [y5 k (by omega) (by omega)]; exact d8, ?_, ?_⟩
      · refine FR.mono (fun a ha => ⟨⟨ha.1, by omega, by omega⟩, y7 a (by omega) (by omega) (by omega) (by omega) (by omega)⟩) b3 _ _ _ hF5
      · exact FR.mono (fun a ha => ⟨⟨by omega, ha.2.1, ha.2.2⟩, rfl⟩) t3 _ _ _ y6
    · rw [len_cons]; omega
    · rw [len_cons]; omega
