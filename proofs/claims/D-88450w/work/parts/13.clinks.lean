/-! ===== entries of the pools for calls of all kinds, casts, new objects ===== -/
set_option maxRecDepth 100000
theorem gU {own : String} {idx : Nat} {C owner : String} {x y : MethodName} {ws : List Cond} (h1 : Cond.methodLink own idx x ∈ lw_all) (h2 : Cond.sameMethod x.cls owner x.name x.desc ∈ lw_all) (h3 : Cond.selects C x y ∈ lw_all) (h4 : Cond.instanceMethod y ∈ lw_all) (h5 : Cond.initialized y.cls ∈ lw_all) (h6 : GoodIn lw_all ws) : GoodIn lw_all (va_wsU own idx C owner x y ws) := by
  intro w hw
  unfold va_wsU at hw
  rcases List.mem_append.mp hw with hw | hw
  · simp only [List.mem_cons, List.not_mem_nil, or_false] at hw
    rcases hw with e | e | e | e | e
    · rw [e]; exact lw_self _ h1
    · rw [e]; exact lw_self _ h2
    · rw [e]; exact lw_self _ h3
    · rw [e]; exact lw_self _ h4
    · rw [e]; exact lw_self _ h5
  · exact h6 w hw
theorem gO {own : String} {idx : Nat} {C owner : String} {x y : MethodName} {ws : List Cond} (h1 : Cond.methodLink own idx x ∈ lw_all) (h2 : Cond.sameMethod x.cls owner x.name x.desc ∈ lw_all) (h0 : Cond.instanceMethod ⟨owner, x.name, x.desc⟩ ∈ lw_all) (h3 : Cond.selects C x y ∈ lw_all) (h4 : Cond.instanceMethod y ∈ lw_all) (h5 : Cond.initialized y.cls ∈ lw_all) (h6 : GoodIn lw_all ws) : GoodIn lw_all (va_wsO own idx C owner x y ws) := by
  intro w hw
  unfold va_wsO at hw
  rcases List.mem_append.mp hw with hw | hw
  · simp only [List.mem_cons, List.not_mem_nil, or_false] at hw
    rcases hw with e | e | e | e | e | e
    · rw [e]; exact lw_self _ h1
    · rw [e]; exact lw_self _ h2
    · rw [e]; exact lw_self _ h0
    · rw [e]; exact lw_self _ h3
    · rw [e]; exact lw_self _ h4
    · rw [e]; exact lw_self _ h5
  · exact h6 w hw
theorem gSU {own : String} {idx : Nat} {y : MethodName} {ws : List Cond} (h1 : Cond.methodLink own idx y ∈ lw_all) (h2 : Cond.sameMethod y.cls y.cls y.name y.desc ∈ lw_all) (h3 : Cond.superclass own y.cls ∈ lw_all) (h4 : Cond.instanceMethod y ∈ lw_all) (h5 : Cond.initialized y.cls ∈ lw_all) (h6 : GoodIn lw_all ws) : GoodIn lw_all (va_wsSU own idx y ws) := by
  intro w hw
  unfold va_wsSU at hw
  rcases List.mem_append.mp hw with hw | hw
  · simp only [List.mem_cons, List.not_mem_nil, or_false] at hw
    rcases hw with e | e | e | e | e
    · rw [e]; exact lw_self _ h1
    · rw [e]; exact lw_self _ h2
    · rw [e]; exact lw_self _ h3
    · rw [e]; exact lw_self _ h4
    · rw [e]; exact lw_self _ h5
  · exact h6 w hw
theorem gF {own : String} {idx : Nat} {C : String} {x y : MethodName} {ws : List Cond} (h1 : Cond.methodLink own idx x ∈ lw_all) (h3 : Cond.selects C x y ∈ lw_all) (h4 : Cond.instanceMethod y ∈ lw_all) (h5 : Cond.initialized y.cls ∈ lw_all) (h6 : GoodIn lw_all ws) : GoodIn lw_all (va_wsF own idx C x y ws) := by
  intro w hw
  unfold va_wsF at hw
  rcases List.mem_append.mp hw with hw | hw
  · simp only [List.mem_cons, List.not_mem_nil, or_false] at hw
    rcases hw with e | e | e | e
    · rw [e]; exact lw_self _ h1
    · rw [e]; exact lw_self _ h3
    · rw [e]; exact lw_self _ h4
    · rw [e]; exact lw_self _ h5
  · exact h6 w hw
def p_objI {θ : Ix} {p idx : Nat} (hd : 1 ≤ θ.d) (q1 : Cond.methodLink θ.y.cls idx Lib.objectInit ∈ lw_all) (q2 : Cond.instanceMethod Lib.objectInit ∈ lw_all) (q3 : Cond.code Lib.objectInit ⟨#[0xb1]⟩ 1 none ∈ lw_all) (dd : decode θ.cc p = .ok (.invokespecial idx, 3)) : Seg θ p (p + 3) := ⟨fun st L s => match st with
  | .inr (.inr (some _)) :: r => if Nat.ble (wt r) 8 = true then some (.inl (r, L, s)) else none
  | _ => none, Nat.le_add_right _ _, fun st L s o h => by
    dsimp only at h
    split at h
    · rename_i a r
      split at h
      · rename_i hg
        cases h
        refine ⟨Le.rfl', fun κ PR PT C S hE hC hS hj => ?_⟩
        intro H locs ls cells slots hz hH hA hW hl hc hs
        have h1 := hE.1.fr
        have h2 := hE.1.lo
        have h3 := wt8 hg
        exact W.objInit hE.1.hx hE.1.hb hE.1.hown (hE.1.hts _ q1) (hE.1.hts _ q2) (hE.1.hts _ q3) rfl (hl.1.trans hE.1.hml.symm) rfl dd (by omega) (by show 2 * 0 + ((stv r).map fun v => v.category).sum + 12 ≤ _; omega) (hj H locs ls cells slots hz hH hA hW hl hc hs)
      · cases h
    · cases h⟩
theorem x_objI {θ : Ix} {p q idx : Nat} {hd : 1 ≤ θ.d} {q1 : Cond.methodLink θ.y.cls idx Lib.objectInit ∈ lw_all} {q2 : Cond.instanceMethod Lib.objectInit ∈ lw_all} {q3 : Cond.code Lib.objectInit ⟨#[0xb1]⟩ 1 none ∈ lw_all} {dd : decode θ.cc p = .ok (.invokespecial idx, 3)} {bb : Seg θ (p + 3) q} {st : Stk} {L : Lc} {s : St} {a : Nat} (h3 : Nat.ble (wt st) 8 = true) : (seq (p_objI hd q1 q2 q3 dd) bb).1 (.inr (.inr (some a)) :: st) L s = bb.1 st L s := by
  show bd (if Nat.ble (wt st) 8 = true then some (.inl (st, L, s)) else none) bb.1 = _
  rw [if_pos h3]
  rfl
def p_mmax {θ : Ix} {p idx : Nat} (hd : 1 ≤ θ.d) (q1 : Cond.methodLink θ.y.cls idx Lib.Math.max.name ∈ lw_all) (q2 : Cond.static Lib.Math.max.name ∈ lw_all) (q3 : Cond.initialized "java/lang/Math" ∈ lw_all) (q4 : Cond.code Lib.Math.max.name Lib.Math.max.code 2 (some .int) ∈ lw_all) (dd : decode θ.cc p = .ok (.invokestatic idx, 3)) : Seg θ p (p + 3) := ⟨fun st L s => match st with
  | .inl y :: .inl x :: r => if ((-2147483648 ≤ x ∧ x ≤ 2147483647) ∧ (-2147483648 ≤ y ∧ y ≤ 2147483647)) ∧ Nat.ble (wt r) 8 = true then some (.inl (.inl (if x < y then y else x) :: r, L, s)) else none
  | _ => none, Nat.le_add_right _ _, fun st L s o h => by
    dsimp only at h
    split at h
    · rename_i y x r
      by_cases hg : ((-2147483648 ≤ x ∧ x ≤ 2147483647) ∧ (-2147483648 ≤ y ∧ y ≤ 2147483647)) ∧ Nat.ble (wt r) 8 = true
      · rw [if_pos hg] at h
        cases h
        refine ⟨Le.rfl', fun κ PR PT C S hE hC hS hj => ?_⟩
        intro H locs ls cells slots hz hH hA hW hl hc hs
        have h1 := hE.1.fr
        have h2 := hE.1.lo
        have h3 := wt8 hg.2
        refine va_mmax hE.1.hx hE.1.hb (hE.1.hml.trans hl.1.symm) hE.1.hown (hE.1.hts _ q1) (hE.1.hts _ q2) (hE.1.hts _ q3) (hE.1.hts _ q4) (by omega) (by show ((stv r).map fun v => v.category).sum + 13 ≤ _; omega) (by omega) (by omega) (x := Int32.ofInt x) (y := Int32.ofInt y) dd ?_
        have e : (if Int32.ofInt x < Int32.ofInt y then Int32.ofInt y else Int32.ofInt x) = Int32.ofInt (if x < y then y else x) := by
          by_cases hxy : x < y
          · rw [if_pos ((i32_lt hg.1.1 hg.1.2).mpr hxy), if_pos hxy]
          · rw [if_neg (fun z => hxy ((i32_lt hg.1.1 hg.1.2).mp z)), if_neg hxy]
        have e' := congrArg (fun z => F0 κ.m (p + 3) ls (Value.int z :: stv r)) e
        exact wkgo e' (hj H locs ls cells slots hz hH hA hW hl hc hs)
      · rw [if_neg hg] at h
        cases h
    · cases h⟩
theorem x_mmax {θ : Ix} {p q idx : Nat} {hd : 1 ≤ θ.d} {q1 : Cond.methodLink θ.y.cls idx Lib.Math.max.name ∈ lw_all} {q2 : Cond.static Lib.Math.max.name ∈ lw_all} {q3 : Cond.initialized "java/lang/Math" ∈ lw_all} {q4 : Cond.code Lib.Math.max.name Lib.Math.max.code 2 (some .int) ∈ lw_all} {dd : decode θ.cc p = .ok (.invokestatic idx, 3)} {bb : Seg θ (p + 3) q} {st : Stk} {L : Lc} {s : St} {x y : Int} (hg : (-2147483648 ≤ x ∧ x ≤ 2147483647) ∧ (-2147483648 ≤ y ∧ y ≤ 2147483647)) (h3 : Nat.ble (wt st) 8 = true) : (seq (p_mmax hd q1 q2 q3 q4 dd) bb).1 (.inl y :: .inl x :: st) L s = bb.1 (.inl (if x < y then y else x) :: st) L s := by
  show bd (if ((-2147483648 ≤ x ∧ x ≤ 2147483647) ∧ (-2147483648 ≤ y ∧ y ≤ 2147483647)) ∧ Nat.ble (wt st) 8 = true then some (.inl (.inl (if x < y then y else x) :: st, L, s)) else none) bb.1 = _
  rw [if_pos ⟨hg, h3⟩]
  rfl
def p_mmin {θ : Ix} {p idx : Nat} (hd : 1 ≤ θ.d) (q1 : Cond.methodLink θ.y.cls idx Lib.Math.min.name ∈ lw_all) (q2 : Cond.static Lib.Math.min.name ∈ lw_all) (q3 : Cond.initialized "java/lang/Math" ∈ lw_all) (q4 : Cond.code Lib.Math.min.name Lib.Math.min.code 2 (some .int) ∈ lw_all) (dd : decode θ.cc p = .ok (.invokestatic idx, 3)) : Seg θ p (p + 3) := ⟨fun st L s => match st with
  | .inl y :: .inl x :: r => if ((-2147483648 ≤ x ∧ x ≤ 2147483647) ∧ (-2147483648 ≤ y ∧ y ≤ 2147483647)) ∧ Nat.ble (wt r) 8 = true then some (.inl (.inl (if y < x then y else x) :: r, L, s)) else none
  | _ => none, Nat.le_add_right _ _, fun st L s o h => by
    dsimp only at h
    split at h
    · rename_i y x r
      by_cases hg : ((-2147483648 ≤ x ∧ x ≤ 2147483647) ∧ (-2147483648 ≤ y ∧ y ≤ 2147483647)) ∧ Nat.ble (wt r) 8 = true
      · rw [if_pos hg] at h
        cases h
        refine ⟨Le.rfl', fun κ PR PT C S hE hC hS hj => ?_⟩
        intro H locs ls cells slots hz hH hA hW hl hc hs
        have h1 := hE.1.fr
        have h2 := hE.1.lo
        have h3 := wt8 hg.2
        refine va_mmin hE.1.hx hE.1.hb (hE.1.hml.trans hl.1.symm) hE.1.hown (hE.1.hts _ q1) (hE.1.hts _ q2) (hE.1.hts _ q3) (hE.1.hts _ q4) (by omega) (by show ((stv r).map fun v => v.category).sum + 13 ≤ _; omega) (by omega) (by omega) (x := Int32.ofInt x) (y := Int32.ofInt y) dd ?_
        have e : (if Int32.ofInt y < Int32.ofInt x then Int32.ofInt y else Int32.ofInt x) = Int32.ofInt (if y < x then y else x) := by
          by_cases hxy : y < x
          · rw [if_pos ((i32_lt hg.1.2 hg.1.1).mpr hxy), if_pos hxy]
          · rw [if_neg (fun z => hxy ((i32_lt hg.1.2 hg.1.1).mp z)), if_neg hxy]
        have e' := congrArg (fun z => F0 κ.m (p + 3) ls (Value.int z :: stv r)) e
        exact wkgo e' (hj H locs ls cells slots hz hH hA hW hl hc hs)
      · rw [if_neg hg] at h
        cases h
    · cases h⟩
theorem x_mmin {θ : Ix} {p q idx : Nat} {hd : 1 ≤ θ.d} {q1 : Cond.methodLink θ.y.cls idx Lib.Math.min.name ∈ lw_all} {q2 : Cond.static Lib.Math.min.name ∈ lw_all} {q3 : Cond.initialized "java/lang/Math" ∈ lw_all} {q4 : Cond.code Lib.Math.min.name Lib.Math.min.code 2 (some .int) ∈ lw_all} {dd : decode θ.cc p = .ok (.invokestatic idx, 3)} {bb : Seg θ (p + 3) q} {st : Stk} {L : Lc} {s : St} {x y : Int} (hg : (-2147483648 ≤ x ∧ x ≤ 2147483647) ∧ (-2147483648 ≤ y ∧ y ≤ 2147483647)) (h3 : Nat.ble (wt st) 8 = true) : (seq (p_mmin hd q1 q2 q3 q4 dd) bb).1 (.inl y :: .inl x :: st) L s = bb.1 (.inl (if y < x then y else x) :: st) L s := by
  show bd (if ((-2147483648 ≤ x ∧ x ≤ 2147483647) ∧ (-2147483648 ≤ y ∧ y ≤ 2147483647)) ∧ Nat.ble (wt st) 8 = true then some (.inl (.inl (if y < x then y else x) :: st, L, s)) else none) bb.1 = _
  rw [if_pos ⟨hg, h3⟩]
  rfl
theorem ci_J1_1 : CI RJ1 1 yJ0_init cJ0_init 1 0 := ⟨lw_meth q136, Or.inl q134, q88, q135, rfl, by decide, by decide, by decide, by decide⟩
theorem ci_J2_1 : CI RJ2 1 yJ1_init cJ1_init 1 0 := ⟨lw_meth q133, Or.inl q131, q89, q132, rfl, by decide, by decide, by decide, by decide⟩
theorem ci_J4_16 : CI RJ4 16 yJ3_init_2 cJ3_init_2 5 4 := ⟨lw_meth q530, Or.inl q528, q97, q529, rfl, by decide, by decide, by decide, by decide⟩
theorem ci_L_9 : CI R_law 9 yX0_init cX0_init 1 0 := ⟨lw_meth q120, Or.inl q118, q87, q119, rfl, by decide, by decide, by decide, by decide⟩
theorem ci_L_12 : CI R_law 12 yX1_init cX1_init 1 0 := ⟨lw_meth q1157, Or.inl q1155, q91, q1156, rfl, by decide, by decide, by decide, by decide⟩
theorem ci_X0_21 : CI RX0 21 yJ2_init cJ2_init 1 0 := ⟨lw_meth q130, Or.inl q128, q90, q129, rfl, by decide, by decide, by decide, by decide⟩
theorem cf_X0_174 : CF RX0 174 RJ2 (⟨"java/util/List", "add", "(Ljava/lang/Object;)Z"⟩ : MethodName) yJ2_add cJ2_add 2 (some .boolean) 1 := ⟨gF q827 q589 q591 q90 (lw_meth q593), ⟨rfl, Or.inl ⟨rfl, rfl⟩⟩, by decide, by decide, by decide, by decide⟩
theorem cf_X0_161 : CF RX0 161 RJ2 (⟨"java/util/List", "size", "()I"⟩ : MethodName) yJ2_size cJ2_size 1 (some .int) 0 := ⟨gF q715 q686 q688 q90 (lw_meth q690), ⟨rfl, Or.inr (Or.inl ⟨rfl, rfl⟩)⟩, by decide, by decide, by decide, by decide⟩
theorem cf_X0_202 : CF RX0 202 RJ2 (⟨"java/util/List", "get", "(I)Ljava/lang/Object;"⟩ : MethodName) yJ2_get cJ2_get 2 (some (.object "java/lang/Object")) 1 := ⟨gF q837 q695 q697 q90 (lw_meth q699), ⟨rfl, Or.inr (Or.inr ⟨rfl, rfl⟩)⟩, by decide, by decide, by decide, by decide⟩
theorem ky_X0_146 : ∀ ci ∈ [5, 7, 8, 9], ∃ q, CL[ci]? = some q ∧ KY RX0 146 q.1 := by
  intro ci h
  rcases List.mem_cons.mp h with e | h
  · subst e; exact ⟨_, rfl, _, q947, Or.inr (List.mem_of_getElem? (i := 5) rfl)⟩
  rcases List.mem_cons.mp h with e | h
  · subst e; exact ⟨_, rfl, _, q947, Or.inr (List.mem_of_getElem? (i := 9) rfl)⟩
  rcases List.mem_cons.mp h with e | h
  · subst e; exact ⟨_, rfl, _, q947, Or.inr (List.mem_of_getElem? (i := 11) rfl)⟩
  rcases List.mem_cons.mp h with e | h
  · subst e; exact ⟨_, rfl, _, q947, Or.inr (List.mem_of_getElem? (i := 14) rfl)⟩
  cases h
theorem ci_X0_282 : CI RX0 282 yX10_init cX10_init 3 2 := ⟨lw_meth q658, Or.inl q973, q106, q657, rfl, by decide, by decide, by decide, by decide⟩
theorem ci_X0_285 : CI RX0 285 yX9_init cX9_init 4 3 := ⟨lw_meth q572, Or.inl q974, q101, q571, rfl, by decide, by decide, by decide, by decide⟩
theorem ci_X0_297 : CI RX0 297 yX16_init cX16_init 3 2 := ⟨lw_meth q992, Or.inl q990, q114, q991, rfl, by decide, by decide, by decide, by decide⟩
theorem ci_X0_300 : CI RX0 300 yX17_init cX17_init 3 2 := ⟨lw_meth q1046, Or.inl q1044, q115, q1045, rfl, by decide, by decide, by decide, by decide⟩
theorem cu_X0_305_15 : CU RX0 305 RX17 RX15 (⟨"TwoWorlds$Colouring", "run", "()V"⟩ : MethodName) yX15_run cX15_run 2 none 0 := ⟨gU q1060 q1062 q1064 q1061 q113 (lw_meth q1065), Or.inl rfl, by decide, by decide, by decide, by decide⟩
theorem cu_X0_305_14 : CU RX0 305 RX16 RX15 (⟨"TwoWorlds$Colouring", "run", "()V"⟩ : MethodName) yX15_run cX15_run 2 none 0 := ⟨gU q1060 q1062 q1063 q1061 q113 (lw_meth q1065), Or.inl rfl, by decide, by decide, by decide, by decide⟩
theorem cu_X0_166_8 : CU RX0 166 RX9 RX5 (⟨"TwoWorlds$Formula", "nodes", "()I"⟩ : MethodName) yX8_nodes cX8_nodes 1 (some .int) 0 := ⟨gU q671 q673 q675 q676 q100 (lw_meth q677), Or.inr (Or.inl ⟨gO q671 q673 q672 q675 q676 q100 (lw_meth q677), _, _, _, q713⟩), by decide, by decide, by decide, by decide⟩
theorem cu_X0_166_7 : CU RX0 166 RX8 RX5 (⟨"TwoWorlds$Formula", "nodes", "()I"⟩ : MethodName) yX8_nodes cX8_nodes 1 (some .int) 0 := ⟨gU q671 q673 q712 q676 q100 (lw_meth q677), Or.inr (Or.inl ⟨gO q671 q673 q672 q712 q676 q100 (lw_meth q677), _, _, _, q713⟩), by decide, by decide, by decide, by decide⟩
theorem cu_X0_166_9 : CU RX0 166 RX10 RX5 (⟨"TwoWorlds$Formula", "nodes", "()I"⟩ : MethodName) yX10_nodes cX10_nodes 3 (some .int) 0 := ⟨gU q671 q673 q711 q679 q106 (lw_meth q680), Or.inr (Or.inl ⟨gO q671 q673 q672 q711 q679 q106 (lw_meth q680), _, _, _, q713⟩), by decide, by decide, by decide, by decide⟩
theorem cu_X0_166_5 : CU RX0 166 RX6 RX5 (⟨"TwoWorlds$Formula", "nodes", "()I"⟩ : MethodName) yX5_nodes cX5_nodes 1 (some .int) 0 := ⟨gU q671 q673 q674 q672 q95 (lw_meth q713), Or.inl rfl, by decide, by decide, by decide, by decide⟩
theorem ci_X0_171 : CI RX0 171 yX11_init cX11_init 2 1 := ⟨lw_meth q720, Or.inl q718, q109, q719, rfl, by decide, by decide, by decide, by decide⟩
theorem ci_X0_48 : CI RX0 48 yX2_init cX2_init 2 1 := ⟨lw_meth q209, Or.inl q207, q92, q208, rfl, by decide, by decide, by decide, by decide⟩
theorem ci_X0_216 : CI RX0 216 yX13_init cX13_init 2 1 := ⟨lw_meth q851, Or.inl q849, q111, q850, rfl, by decide, by decide, by decide, by decide⟩
theorem ky_X0_169 : ∀ ci ∈ [10], ∃ q, CL[ci]? = some q ∧ KY RX0 169 q.1 := by
  intro ci h
  rcases List.mem_cons.mp h with e | h
  · subst e; exact ⟨_, rfl, _, q716, Or.inl rfl⟩
  cases h
theorem cu_X0_288_8 : CU RX0 288 RX9 RX5 (⟨"TwoWorlds$Formula", "isLike", "(LTwoWorlds$Formula;)Z"⟩ : MethodName) yX9_isLike cX9_isLike 3 (some .boolean) 1 := ⟨gU q948 q950 q955 q956 q101 (lw_meth q957), Or.inr (Or.inr (List.mem_of_getElem? (i := 3) rfl)), by decide, by decide, by decide, by decide⟩
theorem cu_X0_288_7 : CU RX0 288 RX8 RX5 (⟨"TwoWorlds$Formula", "isLike", "(LTwoWorlds$Formula;)Z"⟩ : MethodName) yX8_isLike cX8_isLike 3 (some .boolean) 1 := ⟨gU q948 q950 q970 q964 q100 (lw_meth q965), Or.inr (Or.inr (List.mem_of_getElem? (i := 3) rfl)), by decide, by decide, by decide, by decide⟩
theorem cu_X0_288_9 : CU RX0 288 RX10 RX5 (⟨"TwoWorlds$Formula", "isLike", "(LTwoWorlds$Formula;)Z"⟩ : MethodName) yX10_isLike cX10_isLike 4 (some .boolean) 1 := ⟨gU q948 q950 q969 q960 q106 (lw_meth q961), Or.inr (Or.inr (List.mem_of_getElem? (i := 3) rfl)), by decide, by decide, by decide, by decide⟩
theorem cu_X0_288_5 : CU RX0 288 RX6 RX5 (⟨"TwoWorlds$Formula", "isLike", "(LTwoWorlds$Formula;)Z"⟩ : MethodName) yX6_isLike cX6_isLike 3 (some .boolean) 1 := ⟨gU q948 q950 q951 q952 q96 (lw_meth q953), Or.inr (Or.inr (List.mem_of_getElem? (i := 3) rfl)), by decide, by decide, by decide, by decide⟩
theorem ci_X0_78 : CI RX0 78 yX3_init cX3_init 3 2 := ⟨lw_meth q293, Or.inl q291, q93, q292, rfl, by decide, by decide, by decide, by decide⟩
theorem ci_X0_241 : CI RX0 241 yX6_init cX6_init 4 3 := ⟨lw_meth q456, Or.inl q935, q96, q455, rfl, by decide, by decide, by decide, by decide⟩
theorem ci_X0_246 : CI RX0 246 yX8_init cX8_init 2 1 := ⟨lw_meth q556, Or.inl q937, q100, q555, rfl, by decide, by decide, by decide, by decide⟩
theorem ci_X0_183 : CI RX0 183 yX4_init cX4_init 3 2 := ⟨lw_meth q415, Or.inl q413, q94, q414, rfl, by decide, by decide, by decide, by decide⟩
theorem cu_X0_322_15 : CU RX0 322 RX17 RX15 (⟨"TwoWorlds$Colouring", "isBalanced", "()Z"⟩ : MethodName) yX15_isBalanced cX15_isBalanced 4 (some .boolean) 0 := ⟨gU q1143 q1145 q1147 q1144 q113 (lw_meth q1148), Or.inl rfl, by decide, by decide, by decide, by decide⟩
theorem cu_X0_322_14 : CU RX0 322 RX16 RX15 (⟨"TwoWorlds$Colouring", "isBalanced", "()Z"⟩ : MethodName) yX15_isBalanced cX15_isBalanced 4 (some .boolean) 0 := ⟨gU q1143 q1145 q1146 q1144 q113 (lw_meth q1148), Or.inl rfl, by decide, by decide, by decide, by decide⟩
theorem ci_X0_144 : CI RX0 144 yX12_init cX12_init 1 0 := ⟨lw_meth q749, Or.inr ⟨"TwoWorlds", List.mem_of_getElem? (i := 0) rfl⟩, q110, q748, rfl, by decide, by decide, by decide, by decide⟩
theorem cu_X0_145_8 : CU RX0 145 RX9 RX5 (⟨"TwoWorlds$Formula", "write", "(LTwoWorlds$Paper;)V"⟩ : MethodName) yX8_write cX8_write 2 none 1 := ⟨gU q760 q762 q775 q776 q100 (lw_meth q777), Or.inr (Or.inr (List.mem_of_getElem? (i := 1) rfl)), by decide, by decide, by decide, by decide⟩
theorem cu_X0_145_7 : CU RX0 145 RX8 RX5 (⟨"TwoWorlds$Formula", "write", "(LTwoWorlds$Paper;)V"⟩ : MethodName) yX8_write cX8_write 2 none 1 := ⟨gU q760 q762 q807 q776 q100 (lw_meth q777), Or.inr (Or.inr (List.mem_of_getElem? (i := 1) rfl)), by decide, by decide, by decide, by decide⟩
theorem cu_X0_145_9 : CU RX0 145 RX10 RX5 (⟨"TwoWorlds$Formula", "write", "(LTwoWorlds$Paper;)V"⟩ : MethodName) yX10_write cX10_write 3 none 1 := ⟨gU q760 q762 q806 q799 q106 (lw_meth q801), Or.inr (Or.inr (List.mem_of_getElem? (i := 1) rfl)), by decide, by decide, by decide, by decide⟩
theorem cu_X0_145_5 : CU RX0 145 RX6 RX5 (⟨"TwoWorlds$Formula", "write", "(LTwoWorlds$Paper;)V"⟩ : MethodName) yX6_write cX6_write 2 none 1 := ⟨gU q760 q762 q763 q764 q96 (lw_meth q765), Or.inr (Or.inr (List.mem_of_getElem? (i := 1) rfl)), by decide, by decide, by decide, by decide⟩
theorem cvn_X0_247 : CVN RX0 247 RX3 yX3_isOne cX3_isOne 4 (some .boolean) 3 := ⟨lw_meth q347, ⟨"TwoWorlds", List.mem_of_getElem? (i := 1) rfl⟩, q93, q346, qs4, by decide, by decide, by decide, by decide⟩
theorem cvn_X0_255 : CVN RX0 255 RX3 yX3_marks cX3_marks 3 (some .int) 2 := ⟨lw_meth q339, ⟨"TwoWorlds", List.mem_of_getElem? (i := 2) rfl⟩, q93, q338, qs3, by decide, by decide, by decide, by decide⟩
theorem cvn_X0_258 : CVN RX0 258 RX3 yX3_isTied cX3_isTied 4 (some .boolean) 3 := ⟨lw_meth q351, ⟨"TwoWorlds", List.mem_of_getElem? (i := 3) rfl⟩, q93, q350, qs5, by decide, by decide, by decide, by decide⟩
theorem cf_X10_17 : CF RX10 17 RJ2 (⟨"java/util/List", "size", "()I"⟩ : MethodName) yJ2_size cJ2_size 1 (some .int) 0 := ⟨gF q683 q686 q688 q90 (lw_meth q690), ⟨rfl, Or.inr (Or.inl ⟨rfl, rfl⟩)⟩, by decide, by decide, by decide, by decide⟩
theorem cf_X10_23 : CF RX10 23 RJ2 (⟨"java/util/List", "get", "(I)Ljava/lang/Object;"⟩ : MethodName) yJ2_get cJ2_get 2 (some (.object "java/lang/Object")) 1 := ⟨gF q692 q695 q697 q90 (lw_meth q699), ⟨rfl, Or.inr (Or.inr ⟨rfl, rfl⟩)⟩, by decide, by decide, by decide, by decide⟩
theorem ky_X10_2 : ∀ ci ∈ [5, 7, 8, 9], ∃ q, CL[ci]? = some q ∧ KY RX10 2 q.1 := by
  intro ci h
  rcases List.mem_cons.mp h with e | h
  · subst e; exact ⟨_, rfl, _, q710, Or.inr (List.mem_of_getElem? (i := 5) rfl)⟩
  rcases List.mem_cons.mp h with e | h
  · subst e; exact ⟨_, rfl, _, q710, Or.inr (List.mem_of_getElem? (i := 9) rfl)⟩
  rcases List.mem_cons.mp h with e | h
  · subst e; exact ⟨_, rfl, _, q710, Or.inr (List.mem_of_getElem? (i := 11) rfl)⟩
  rcases List.mem_cons.mp h with e | h
  · subst e; exact ⟨_, rfl, _, q710, Or.inr (List.mem_of_getElem? (i := 14) rfl)⟩
  cases h
theorem cu_X10_33_8 : CU RX10 33 RX9 RX5 (⟨"TwoWorlds$Formula", "depth", "()I"⟩ : MethodName) yX9_depth cX9_depth 1 (some .int) 0 := ⟨gU q737 q724 q728 q729 q101 (lw_meth q730), Or.inr (Or.inr (List.mem_of_getElem? (i := 0) rfl)), by decide, by decide, by decide, by decide⟩
theorem cu_X10_33_7 : CU RX10 33 RX8 RX5 (⟨"TwoWorlds$Formula", "depth", "()I"⟩ : MethodName) yX8_depth cX8_depth 1 (some .int) 0 := ⟨gU q737 q724 q740 q732 q100 (lw_meth q733), Or.inr (Or.inr (List.mem_of_getElem? (i := 0) rfl)), by decide, by decide, by decide, by decide⟩
theorem cu_X10_33_9 : CU RX10 33 RX10 RX5 (⟨"TwoWorlds$Formula", "depth", "()I"⟩ : MethodName) yX10_depth cX10_depth 3 (some .int) 0 := ⟨gU q737 q724 q739 q735 q106 (lw_meth q736), Or.inr (Or.inr (List.mem_of_getElem? (i := 0) rfl)), by decide, by decide, by decide, by decide⟩
theorem cu_X10_33_5 : CU RX10 33 RX6 RX5 (⟨"TwoWorlds$Formula", "depth", "()I"⟩ : MethodName) yX6_depth cX6_depth 1 (some .int) 0 := ⟨gU q737 q724 q725 q726 q96 (lw_meth q727), Or.inr (Or.inr (List.mem_of_getElem? (i := 0) rfl)), by decide, by decide, by decide, by decide⟩
theorem ci_X10_1 : CI RX10 1 yX5_init cX5_init 1 0 := ⟨lw_meth q459, Or.inr ⟨"TwoWorlds", List.mem_of_getElem? (i := 7) rfl⟩, q95, q458, rfl, by decide, by decide, by decide, by decide⟩
theorem ky_X10_8 : ∀ ci ∈ [9], ∃ q, CL[ci]? = some q ∧ KY RX10 8 q.1 := by
  intro ci h
  rcases List.mem_cons.mp h with e | h
  · subst e; exact ⟨_, rfl, _, q962, Or.inl rfl⟩
  cases h
theorem kn_X10_8 : ∀ ci ∈ [5, 7, 8], ∃ q, CL[ci]? = some q ∧ KN RX10 8 q.1 := by
  intro ci h
  rcases List.mem_cons.mp h with e | h
  · subst e; exact ⟨_, rfl, _, q962, List.mem_of_getElem? (i := 2) rfl⟩
  rcases List.mem_cons.mp h with e | h
  · subst e; exact ⟨_, rfl, _, q962, List.mem_of_getElem? (i := 5) rfl⟩
  rcases List.mem_cons.mp h with e | h
  · subst e; exact ⟨_, rfl, _, q962, List.mem_of_getElem? (i := 7) rfl⟩
  cases h
theorem cu_X10_45_8 : CU RX10 45 RX9 RX5 (⟨"TwoWorlds$Formula", "isLike", "(LTwoWorlds$Formula;)Z"⟩ : MethodName) yX9_isLike cX9_isLike 3 (some .boolean) 1 := ⟨gU q963 q950 q955 q956 q101 (lw_meth q957), Or.inr (Or.inr (List.mem_of_getElem? (i := 3) rfl)), by decide, by decide, by decide, by decide⟩
theorem cu_X10_45_7 : CU RX10 45 RX8 RX5 (⟨"TwoWorlds$Formula", "isLike", "(LTwoWorlds$Formula;)Z"⟩ : MethodName) yX8_isLike cX8_isLike 3 (some .boolean) 1 := ⟨gU q963 q950 q970 q964 q100 (lw_meth q965), Or.inr (Or.inr (List.mem_of_getElem? (i := 3) rfl)), by decide, by decide, by decide, by decide⟩
theorem cu_X10_45_9 : CU RX10 45 RX10 RX5 (⟨"TwoWorlds$Formula", "isLike", "(LTwoWorlds$Formula;)Z"⟩ : MethodName) yX10_isLike cX10_isLike 4 (some .boolean) 1 := ⟨gU q963 q950 q969 q960 q106 (lw_meth q961), Or.inr (Or.inr (List.mem_of_getElem? (i := 3) rfl)), by decide, by decide, by decide, by decide⟩
theorem cu_X10_45_5 : CU RX10 45 RX6 RX5 (⟨"TwoWorlds$Formula", "isLike", "(LTwoWorlds$Formula;)Z"⟩ : MethodName) yX6_isLike cX6_isLike 3 (some .boolean) 1 := ⟨gU q963 q950 q951 q952 q96 (lw_meth q953), Or.inr (Or.inr (List.mem_of_getElem? (i := 3) rfl)), by decide, by decide, by decide, by decide⟩
theorem csu_X10_42 : CSU RX10 42 yX5_nodes cX5_nodes 1 (some .int) 0 := ⟨gSU q681 q673 q666 q672 q95 (lw_meth q713), by decide, by decide, by decide⟩
theorem cu_X10_42_8 : CU RX10 42 RX9 RX5 (⟨"TwoWorlds$Formula", "nodes", "()I"⟩ : MethodName) yX8_nodes cX8_nodes 1 (some .int) 0 := ⟨gU q681 q673 q675 q676 q100 (lw_meth q677), Or.inr (Or.inl ⟨gO q681 q673 q672 q675 q676 q100 (lw_meth q677), _, _, _, q713⟩), by decide, by decide, by decide, by decide⟩
theorem cu_X10_42_7 : CU RX10 42 RX8 RX5 (⟨"TwoWorlds$Formula", "nodes", "()I"⟩ : MethodName) yX8_nodes cX8_nodes 1 (some .int) 0 := ⟨gU q681 q673 q712 q676 q100 (lw_meth q677), Or.inr (Or.inl ⟨gO q681 q673 q672 q712 q676 q100 (lw_meth q677), _, _, _, q713⟩), by decide, by decide, by decide, by decide⟩
theorem cu_X10_42_9 : CU RX10 42 RX10 RX5 (⟨"TwoWorlds$Formula", "nodes", "()I"⟩ : MethodName) yX10_nodes cX10_nodes 3 (some .int) 0 := ⟨gU q681 q673 q711 q679 q106 (lw_meth q680), Or.inr (Or.inl ⟨gO q681 q673 q672 q711 q679 q106 (lw_meth q680), _, _, _, q713⟩), by decide, by decide, by decide, by decide⟩
theorem cu_X10_42_5 : CU RX10 42 RX6 RX5 (⟨"TwoWorlds$Formula", "nodes", "()I"⟩ : MethodName) yX5_nodes cX5_nodes 1 (some .int) 0 := ⟨gU q681 q673 q674 q672 q95 (lw_meth q713), Or.inl rfl, by decide, by decide, by decide, by decide⟩
theorem cu_X10_54_8 : CU RX10 54 RX9 RX5 (⟨"TwoWorlds$Formula", "writeWithin", "(LTwoWorlds$Paper;)V"⟩ : MethodName) yX5_writeWithin cX5_writeWithin 2 none 1 := ⟨gU q802 q791 q793 q790 q95 (lw_meth q804), Or.inl rfl, by decide, by decide, by decide, by decide⟩
theorem cu_X10_54_7 : CU RX10 54 RX8 RX5 (⟨"TwoWorlds$Formula", "writeWithin", "(LTwoWorlds$Paper;)V"⟩ : MethodName) yX5_writeWithin cX5_writeWithin 2 none 1 := ⟨gU q802 q791 q803 q790 q95 (lw_meth q804), Or.inl rfl, by decide, by decide, by decide, by decide⟩
theorem cu_X10_54_9 : CU RX10 54 RX10 RX5 (⟨"TwoWorlds$Formula", "writeWithin", "(LTwoWorlds$Paper;)V"⟩ : MethodName) yX10_writeWithin cX10_writeWithin 2 none 1 := ⟨gU q802 q791 q794 q795 q106 (lw_meth q796), Or.inr (Or.inl ⟨gO q802 q791 q790 q794 q795 q106 (lw_meth q796), _, _, _, q804⟩), by decide, by decide, by decide, by decide⟩
theorem cu_X10_54_5 : CU RX10 54 RX6 RX5 (⟨"TwoWorlds$Formula", "writeWithin", "(LTwoWorlds$Paper;)V"⟩ : MethodName) yX5_writeWithin cX5_writeWithin 2 none 1 := ⟨gU q802 q791 q792 q790 q95 (lw_meth q804), Or.inl rfl, by decide, by decide, by decide, by decide⟩
theorem cu_X11_13_8 : CU RX11 13 RX9 RX5 (⟨"TwoWorlds$Formula", "depth", "()I"⟩ : MethodName) yX9_depth cX9_depth 1 (some .int) 0 := ⟨gU q722 q724 q728 q729 q101 (lw_meth q730), Or.inr (Or.inr (List.mem_of_getElem? (i := 0) rfl)), by decide, by decide, by decide, by decide⟩
theorem cu_X11_13_7 : CU RX11 13 RX8 RX5 (⟨"TwoWorlds$Formula", "depth", "()I"⟩ : MethodName) yX8_depth cX8_depth 1 (some .int) 0 := ⟨gU q722 q724 q740 q732 q100 (lw_meth q733), Or.inr (Or.inr (List.mem_of_getElem? (i := 0) rfl)), by decide, by decide, by decide, by decide⟩
theorem cu_X11_13_9 : CU RX11 13 RX10 RX5 (⟨"TwoWorlds$Formula", "depth", "()I"⟩ : MethodName) yX10_depth cX10_depth 3 (some .int) 0 := ⟨gU q722 q724 q739 q735 q106 (lw_meth q736), Or.inr (Or.inr (List.mem_of_getElem? (i := 0) rfl)), by decide, by decide, by decide, by decide⟩
theorem cu_X11_13_5 : CU RX11 13 RX6 RX5 (⟨"TwoWorlds$Formula", "depth", "()I"⟩ : MethodName) yX6_depth cX6_depth 1 (some .int) 0 := ⟨gU q722 q724 q725 q726 q96 (lw_meth q727), Or.inr (Or.inr (List.mem_of_getElem? (i := 0) rfl)), by decide, by decide, by decide, by decide⟩
theorem cu_X11_22_8 : CU RX11 22 RX9 RX5 (⟨"TwoWorlds$Formula", "nodes", "()I"⟩ : MethodName) yX8_nodes cX8_nodes 1 (some .int) 0 := ⟨gU q741 q673 q675 q676 q100 (lw_meth q677), Or.inr (Or.inl ⟨gO q741 q673 q672 q675 q676 q100 (lw_meth q677), _, _, _, q713⟩), by decide, by decide, by decide, by decide⟩
theorem cu_X11_22_7 : CU RX11 22 RX8 RX5 (⟨"TwoWorlds$Formula", "nodes", "()I"⟩ : MethodName) yX8_nodes cX8_nodes 1 (some .int) 0 := ⟨gU q741 q673 q712 q676 q100 (lw_meth q677), Or.inr (Or.inl ⟨gO q741 q673 q672 q712 q676 q100 (lw_meth q677), _, _, _, q713⟩), by decide, by decide, by decide, by decide⟩
theorem cu_X11_22_9 : CU RX11 22 RX10 RX5 (⟨"TwoWorlds$Formula", "nodes", "()I"⟩ : MethodName) yX10_nodes cX10_nodes 3 (some .int) 0 := ⟨gU q741 q673 q711 q679 q106 (lw_meth q680), Or.inr (Or.inl ⟨gO q741 q673 q672 q711 q679 q106 (lw_meth q680), _, _, _, q713⟩), by decide, by decide, by decide, by decide⟩
theorem cu_X11_22_5 : CU RX11 22 RX6 RX5 (⟨"TwoWorlds$Formula", "nodes", "()I"⟩ : MethodName) yX5_nodes cX5_nodes 1 (some .int) 0 := ⟨gU q741 q673 q674 q672 q95 (lw_meth q713), Or.inl rfl, by decide, by decide, by decide, by decide⟩
theorem csn_X11_27 : CSN RX11 27 yX0_textOf cX0_textOf 3 (some (.array FieldType.byte)) 1 := ⟨lw_meth q744, ⟨"TwoWorlds", List.mem_of_getElem? (i := 8) rfl⟩, q87, q743, by decide, by decide, by decide, by decide⟩
theorem ci_X13_26 : CI RX13 26 yX14_init cX14_init 1 0 := ⟨lw_meth q884, Or.inl q882, q112, q883, rfl, by decide, by decide, by decide, by decide⟩
theorem cu_X13_27_8 : CU RX13 27 RX9 RX5 (⟨"TwoWorlds$Formula", "holds", "(LTwoWorlds$Asking;)Z"⟩ : MethodName) yX9_holds cX9_holds 4 (some .boolean) 1 := ⟨gU q889 q891 q896 q897 q101 (lw_meth q898), Or.inr (Or.inr (List.mem_of_getElem? (i := 2) rfl)), by decide, by decide, by decide, by decide⟩
theorem cu_X13_27_7 : CU RX13 27 RX8 RX5 (⟨"TwoWorlds$Formula", "holds", "(LTwoWorlds$Asking;)Z"⟩ : MethodName) yX8_holds cX8_holds 2 (some .boolean) 1 := ⟨gU q889 q891 q904 q905 q100 (lw_meth q906), Or.inr (Or.inr (List.mem_of_getElem? (i := 2) rfl)), by decide, by decide, by decide, by decide⟩
theorem cu_X13_27_9 : CU RX13 27 RX10 RX5 (⟨"TwoWorlds$Formula", "holds", "(LTwoWorlds$Asking;)Z"⟩ : MethodName) yX10_holds cX10_holds 5 (some .boolean) 1 := ⟨gU q889 q891 q900 q901 q106 (lw_meth q902), Or.inr (Or.inr (List.mem_of_getElem? (i := 2) rfl)), by decide, by decide, by decide, by decide⟩
theorem cu_X13_27_5 : CU RX13 27 RX6 RX5 (⟨"TwoWorlds$Formula", "holds", "(LTwoWorlds$Asking;)Z"⟩ : MethodName) yX6_holds cX6_holds 2 (some .boolean) 1 := ⟨gU q889 q891 q892 q893 q96 (lw_meth q894), Or.inr (Or.inr (List.mem_of_getElem? (i := 2) rfl)), by decide, by decide, by decide, by decide⟩
theorem ci_X14_3 : CI RX14 3 yJ4_init cJ4_init 5 4 := ⟨lw_meth q527, Or.inl q886, q98, q526, rfl, by decide, by decide, by decide, by decide⟩
theorem cu_X15_48_15 : CU RX15 48 RX17 RX15 (⟨"TwoWorlds$Colouring", "prepare", "()V"⟩ : MethodName) yX17_prepare cX17_prepare 5 none 0 := ⟨gU q1070 q1072 q1091 q1092 q115 (lw_meth q1093), Or.inr (Or.inr (List.mem_of_getElem? (i := 4) rfl)), by decide, by decide, by decide, by decide⟩
theorem cu_X15_48_14 : CU RX15 48 RX16 RX15 (⟨"TwoWorlds$Colouring", "prepare", "()V"⟩ : MethodName) yX16_prepare cX16_prepare 4 none 0 := ⟨gU q1070 q1072 q1073 q1074 q114 (lw_meth q1075), Or.inr (Or.inr (List.mem_of_getElem? (i := 4) rfl)), by decide, by decide, by decide, by decide⟩
theorem cu_X15_51_15 : CU RX15 51 RX17 RX15 (⟨"TwoWorlds$Colouring", "isAlike", "(II)Z"⟩ : MethodName) yX17_isAlike cX17_isAlike 6 (some .boolean) 2 := ⟨gU q1109 q1111 q1120 q1121 q115 (lw_meth q1122), Or.inr (Or.inr (List.mem_of_getElem? (i := 6) rfl)), by decide, by decide, by decide, by decide⟩
theorem cu_X15_51_14 : CU RX15 51 RX16 RX15 (⟨"TwoWorlds$Colouring", "isAlike", "(II)Z"⟩ : MethodName) yX16_isAlike cX16_isAlike 3 (some .boolean) 2 := ⟨gU q1109 q1111 q1112 q1113 q114 (lw_meth q1114), Or.inr (Or.inr (List.mem_of_getElem? (i := 6) rfl)), by decide, by decide, by decide, by decide⟩
theorem cu_X15_54_15 : CU RX15 54 RX17 RX15 (⟨"TwoWorlds$Colouring", "stays", "(II)Z"⟩ : MethodName) yX17_stays cX17_stays 5 (some .boolean) 2 := ⟨gU q1126 q1128 q1132 q1133 q115 (lw_meth q1134), Or.inr (Or.inr (List.mem_of_getElem? (i := 7) rfl)), by decide, by decide, by decide, by decide⟩
theorem cu_X15_54_14 : CU RX15 54 RX16 RX15 (⟨"TwoWorlds$Colouring", "stays", "(II)Z"⟩ : MethodName) yX16_stays cX16_stays 5 (some .boolean) 2 := ⟨gU q1126 q1128 q1129 q1130 q114 (lw_meth q1131), Or.inr (Or.inr (List.mem_of_getElem? (i := 7) rfl)), by decide, by decide, by decide, by decide⟩
theorem cup_X15_41_14 : CUP RX15 41 RX16 yX15_part cX15_part 6 none 1 := ⟨lw_meth q1069, q1066, q1731, List.mem_of_getElem? (i := 0) rfl, q1068, q113, by decide, by decide, by decide, by decide⟩
theorem cup_X15_41_15 : CUP RX15 41 RX17 yX15_part cX15_part 6 none 1 := ⟨lw_meth q1069, q1066, q1731, List.mem_of_getElem? (i := 1) rfl, q1068, q113, by decide, by decide, by decide, by decide⟩
theorem ci_X16_9 : CI RX16 9 yX15_init cX15_init 5 4 := ⟨lw_meth q995, Or.inl q993, q113, q994, rfl, by decide, by decide, by decide, by decide⟩
theorem cu_X16_24_14 : CU RX16 24 RX16 RX15 (⟨"TwoWorlds$Counting", "of", "(I)LTwoWorlds$World;"⟩ : MethodName) yX15_of cX15_of 2 (some (.object "TwoWorlds$World")) 1 := ⟨gU q1076 q1077 q1079 q1080 q113 (lw_meth q1081), Or.inl rfl, by decide, by decide, by decide, by decide⟩
theorem csi_X16_32 : CSI RX16 32 (⟨"TwoWorlds$Counting", "isOneAlike", "(LTwoWorlds$World;ILTwoWorlds$World;I)Z"⟩ : MethodName) yX15_isOneAlike cX15_isOneAlike 4 (some .boolean) 4 := ⟨lw_meth q1118, q1115, q1116, rfl, q1117, q113, by decide, by decide, by decide, by decide⟩
theorem ci_X17_9 : CI RX17 9 yX15_init cX15_init 5 4 := ⟨lw_meth q995, Or.inl q1047, q113, q994, rfl, by decide, by decide, by decide, by decide⟩
theorem cu_X17_31_15 : CU RX17 31 RX17 RX15 (⟨"TwoWorlds$Pairs", "of", "(I)LTwoWorlds$World;"⟩ : MethodName) yX15_of cX15_of 2 (some (.object "TwoWorlds$World")) 1 := ⟨gU q1094 q1095 q1096 q1080 q113 (lw_meth q1081), Or.inl rfl, by decide, by decide, by decide, by decide⟩
theorem csi_X17_39 : CSI RX17 39 (⟨"TwoWorlds$Pairs", "isOneAlike", "(LTwoWorlds$World;ILTwoWorlds$World;I)Z"⟩ : MethodName) yX15_isOneAlike cX15_isOneAlike 4 (some .boolean) 4 := ⟨lw_meth q1118, q1123, q1124, rfl, q1117, q113, by decide, by decide, by decide, by decide⟩
theorem csn_X2_23 : CSN RX2 23 yX0_isIn cX0_isIn 6 (some .boolean) 3 := ⟨lw_meth q204, ⟨"TwoWorlds", List.mem_of_getElem? (i := 4) rfl⟩, q87, q203, by decide, by decide, by decide, by decide⟩
theorem ci_X4_77 : CI RX4 77 yX9_init cX9_init 4 3 := ⟨lw_meth q572, Or.inl q570, q101, q571, rfl, by decide, by decide, by decide, by decide⟩
theorem ci_X4_82 : CI RX4 82 yJ2_init cJ2_init 1 0 := ⟨lw_meth q130, Or.inl q583, q90, q129, rfl, by decide, by decide, by decide, by decide⟩
theorem cf_X4_83 : CF RX4 83 RJ2 (⟨"java/util/List", "add", "(Ljava/lang/Object;)Z"⟩ : MethodName) yJ2_add cJ2_add 2 (some .boolean) 1 := ⟨gF q585 q589 q591 q90 (lw_meth q593), ⟨rfl, Or.inl ⟨rfl, rfl⟩⟩, by decide, by decide, by decide, by decide⟩
theorem ci_X4_91 : CI RX4 91 yX10_init cX10_init 3 2 := ⟨lw_meth q658, Or.inl q656, q106, q657, rfl, by decide, by decide, by decide, by decide⟩
theorem ci_X4_50 : CI RX4 50 yX6_init cX6_init 4 3 := ⟨lw_meth q456, Or.inl q454, q96, q455, rfl, by decide, by decide, by decide, by decide⟩
theorem ci_X4_65 : CI RX4 65 yX8_init cX8_init 2 1 := ⟨lw_meth q556, Or.inl q554, q100, q555, rfl, by decide, by decide, by decide, by decide⟩
theorem ci_X4_28 : CI RX4 28 yX7_init cX7_init 2 1 := ⟨lw_meth q523, Or.inl q521, q99, q522, rfl, by decide, by decide, by decide, by decide⟩
theorem cu_X5_7_8 : CU RX5 7 RX9 RX5 (⟨"TwoWorlds$Formula", "write", "(LTwoWorlds$Paper;)V"⟩ : MethodName) yX8_write cX8_write 2 none 1 := ⟨gU q805 q762 q775 q776 q100 (lw_meth q777), Or.inr (Or.inr (List.mem_of_getElem? (i := 1) rfl)), by decide, by decide, by decide, by decide⟩
theorem cu_X5_7_7 : CU RX5 7 RX8 RX5 (⟨"TwoWorlds$Formula", "write", "(LTwoWorlds$Paper;)V"⟩ : MethodName) yX8_write cX8_write 2 none 1 := ⟨gU q805 q762 q807 q776 q100 (lw_meth q777), Or.inr (Or.inr (List.mem_of_getElem? (i := 1) rfl)), by decide, by decide, by decide, by decide⟩
theorem cu_X5_7_9 : CU RX5 7 RX10 RX5 (⟨"TwoWorlds$Formula", "write", "(LTwoWorlds$Paper;)V"⟩ : MethodName) yX10_write cX10_write 3 none 1 := ⟨gU q805 q762 q806 q799 q106 (lw_meth q801), Or.inr (Or.inr (List.mem_of_getElem? (i := 1) rfl)), by decide, by decide, by decide, by decide⟩
theorem cu_X5_7_5 : CU RX5 7 RX6 RX5 (⟨"TwoWorlds$Formula", "write", "(LTwoWorlds$Paper;)V"⟩ : MethodName) yX6_write cX6_write 2 none 1 := ⟨gU q805 q762 q763 q764 q96 (lw_meth q765), Or.inr (Or.inr (List.mem_of_getElem? (i := 1) rfl)), by decide, by decide, by decide, by decide⟩
theorem ci_X6_1 : CI RX6 1 yX5_init cX5_init 1 0 := ⟨lw_meth q459, Or.inr ⟨"TwoWorlds", List.mem_of_getElem? (i := 5) rfl⟩, q95, q458, rfl, by decide, by decide, by decide, by decide⟩
theorem ky_X6_8 : ∀ ci ∈ [5], ∃ q, CL[ci]? = some q ∧ KY RX6 8 q.1 := by
  intro ci h
  rcases List.mem_cons.mp h with e | h
  · subst e; exact ⟨_, rfl, _, q954, Or.inl rfl⟩
  cases h
theorem kn_X6_8 : ∀ ci ∈ [7, 8, 9], ∃ q, CL[ci]? = some q ∧ KN RX6 8 q.1 := by
  intro ci h
  rcases List.mem_cons.mp h with e | h
  · subst e; exact ⟨_, rfl, _, q954, List.mem_of_getElem? (i := 3) rfl⟩
  rcases List.mem_cons.mp h with e | h
  · subst e; exact ⟨_, rfl, _, q954, List.mem_of_getElem? (i := 6) rfl⟩
  rcases List.mem_cons.mp h with e | h
  · subst e; exact ⟨_, rfl, _, q954, List.mem_of_getElem? (i := 8) rfl⟩
  cases h
theorem ci_X7_3 : CI RX7 3 yJ4_init cJ4_init 5 4 := ⟨lw_meth q527, Or.inl q525, q98, q526, rfl, by decide, by decide, by decide, by decide⟩
theorem cu_X8_19_8 : CU RX8 19 RX9 RX5 (⟨"TwoWorlds$Formula", "depth", "()I"⟩ : MethodName) yX9_depth cX9_depth 1 (some .int) 0 := ⟨gU q734 q724 q728 q729 q101 (lw_meth q730), Or.inr (Or.inr (List.mem_of_getElem? (i := 0) rfl)), by decide, by decide, by decide, by decide⟩
theorem cu_X8_19_7 : CU RX8 19 RX8 RX5 (⟨"TwoWorlds$Formula", "depth", "()I"⟩ : MethodName) yX8_depth cX8_depth 1 (some .int) 0 := ⟨gU q734 q724 q740 q732 q100 (lw_meth q733), Or.inr (Or.inr (List.mem_of_getElem? (i := 0) rfl)), by decide, by decide, by decide, by decide⟩
theorem cu_X8_19_9 : CU RX8 19 RX10 RX5 (⟨"TwoWorlds$Formula", "depth", "()I"⟩ : MethodName) yX10_depth cX10_depth 3 (some .int) 0 := ⟨gU q734 q724 q739 q735 q106 (lw_meth q736), Or.inr (Or.inr (List.mem_of_getElem? (i := 0) rfl)), by decide, by decide, by decide, by decide⟩
theorem cu_X8_19_5 : CU RX8 19 RX6 RX5 (⟨"TwoWorlds$Formula", "depth", "()I"⟩ : MethodName) yX6_depth cX6_depth 1 (some .int) 0 := ⟨gU q734 q724 q725 q726 q96 (lw_meth q727), Or.inr (Or.inr (List.mem_of_getElem? (i := 0) rfl)), by decide, by decide, by decide, by decide⟩
theorem ci_X8_1 : CI RX8 1 yX5_init cX5_init 1 0 := ⟨lw_meth q459, Or.inr ⟨"TwoWorlds", List.mem_of_getElem? (i := 6) rfl⟩, q95, q458, rfl, by decide, by decide, by decide, by decide⟩
theorem ky_X8_8 : ∀ ci ∈ [7, 8], ∃ q, CL[ci]? = some q ∧ KY RX8 8 q.1 := by
  intro ci h
  rcases List.mem_cons.mp h with e | h
  · subst e; exact ⟨_, rfl, _, q966, Or.inl rfl⟩
  rcases List.mem_cons.mp h with e | h
  · subst e; exact ⟨_, rfl, _, q966, Or.inr (List.mem_of_getElem? (i := 12) rfl)⟩
  cases h
theorem kn_X8_8 : ∀ ci ∈ [5, 9], ∃ q, CL[ci]? = some q ∧ KN RX8 8 q.1 := by
  intro ci h
  rcases List.mem_cons.mp h with e | h
  · subst e; exact ⟨_, rfl, _, q966, List.mem_of_getElem? (i := 0) rfl⟩
  rcases List.mem_cons.mp h with e | h
  · subst e; exact ⟨_, rfl, _, q966, List.mem_of_getElem? (i := 9) rfl⟩
  cases h
theorem ky_X8_23 : ∀ ci ∈ [8], ∃ q, CL[ci]? = some q ∧ KY RX8 23 q.1 := by
  intro ci h
  rcases List.mem_cons.mp h with e | h
  · subst e; exact ⟨_, rfl, _, q967, Or.inl rfl⟩
  cases h
theorem kn_X8_23 : ∀ ci ∈ [5, 7, 9], ∃ q, CL[ci]? = some q ∧ KN RX8 23 q.1 := by
  intro ci h
  rcases List.mem_cons.mp h with e | h
  · subst e; exact ⟨_, rfl, _, q967, List.mem_of_getElem? (i := 1) rfl⟩
  rcases List.mem_cons.mp h with e | h
  · subst e; exact ⟨_, rfl, _, q967, List.mem_of_getElem? (i := 4) rfl⟩
  rcases List.mem_cons.mp h with e | h
  · subst e; exact ⟨_, rfl, _, q967, List.mem_of_getElem? (i := 10) rfl⟩
  cases h
theorem cu_X8_25_8 : CU RX8 25 RX9 RX5 (⟨"TwoWorlds$Formula", "isLike", "(LTwoWorlds$Formula;)Z"⟩ : MethodName) yX9_isLike cX9_isLike 3 (some .boolean) 1 := ⟨gU q968 q950 q955 q956 q101 (lw_meth q957), Or.inr (Or.inr (List.mem_of_getElem? (i := 3) rfl)), by decide, by decide, by decide, by decide⟩
theorem cu_X8_25_7 : CU RX8 25 RX8 RX5 (⟨"TwoWorlds$Formula", "isLike", "(LTwoWorlds$Formula;)Z"⟩ : MethodName) yX8_isLike cX8_isLike 3 (some .boolean) 1 := ⟨gU q968 q950 q970 q964 q100 (lw_meth q965), Or.inr (Or.inr (List.mem_of_getElem? (i := 3) rfl)), by decide, by decide, by decide, by decide⟩
theorem cu_X8_25_9 : CU RX8 25 RX10 RX5 (⟨"TwoWorlds$Formula", "isLike", "(LTwoWorlds$Formula;)Z"⟩ : MethodName) yX10_isLike cX10_isLike 4 (some .boolean) 1 := ⟨gU q968 q950 q969 q960 q106 (lw_meth q961), Or.inr (Or.inr (List.mem_of_getElem? (i := 3) rfl)), by decide, by decide, by decide, by decide⟩
theorem cu_X8_25_5 : CU RX8 25 RX6 RX5 (⟨"TwoWorlds$Formula", "isLike", "(LTwoWorlds$Formula;)Z"⟩ : MethodName) yX6_isLike cX6_isLike 3 (some .boolean) 1 := ⟨gU q968 q950 q951 q952 q96 (lw_meth q953), Or.inr (Or.inr (List.mem_of_getElem? (i := 3) rfl)), by decide, by decide, by decide, by decide⟩
theorem csu_X8_28 : CSU RX8 28 yX5_nodes cX5_nodes 1 (some .int) 0 := ⟨gSU q678 q673 q563 q672 q95 (lw_meth q713), by decide, by decide, by decide⟩
theorem cu_X8_28_8 : CU RX8 28 RX9 RX5 (⟨"TwoWorlds$Formula", "nodes", "()I"⟩ : MethodName) yX8_nodes cX8_nodes 1 (some .int) 0 := ⟨gU q678 q673 q675 q676 q100 (lw_meth q677), Or.inr (Or.inl ⟨gO q678 q673 q672 q675 q676 q100 (lw_meth q677), _, _, _, q713⟩), by decide, by decide, by decide, by decide⟩
theorem cu_X8_28_7 : CU RX8 28 RX8 RX5 (⟨"TwoWorlds$Formula", "nodes", "()I"⟩ : MethodName) yX8_nodes cX8_nodes 1 (some .int) 0 := ⟨gU q678 q673 q712 q676 q100 (lw_meth q677), Or.inr (Or.inl ⟨gO q678 q673 q672 q712 q676 q100 (lw_meth q677), _, _, _, q713⟩), by decide, by decide, by decide, by decide⟩
theorem cu_X8_28_9 : CU RX8 28 RX10 RX5 (⟨"TwoWorlds$Formula", "nodes", "()I"⟩ : MethodName) yX10_nodes cX10_nodes 3 (some .int) 0 := ⟨gU q678 q673 q711 q679 q106 (lw_meth q680), Or.inr (Or.inl ⟨gO q678 q673 q672 q711 q679 q106 (lw_meth q680), _, _, _, q713⟩), by decide, by decide, by decide, by decide⟩
theorem cu_X8_28_5 : CU RX8 28 RX6 RX5 (⟨"TwoWorlds$Formula", "nodes", "()I"⟩ : MethodName) yX5_nodes cX5_nodes 1 (some .int) 0 := ⟨gU q678 q673 q674 q672 q95 (lw_meth q713), Or.inl rfl, by decide, by decide, by decide, by decide⟩
theorem cu_X8_37_8 : CU RX8 37 RX9 RX8 (⟨"TwoWorlds$Not", "sign", "(LTwoWorlds$Paper;)V"⟩ : MethodName) yX9_sign cX9_sign 2 none 1 := ⟨gU q778 q781 q782 q783 q101 (lw_meth q784), Or.inr (Or.inl ⟨gO q778 q781 q779 q782 q783 q101 (lw_meth q784), _, _, _, q787⟩), by decide, by decide, by decide, by decide⟩
theorem cu_X8_37_7 : CU RX8 37 RX8 RX8 (⟨"TwoWorlds$Not", "sign", "(LTwoWorlds$Paper;)V"⟩ : MethodName) yX8_sign cX8_sign 2 none 1 := ⟨gU q778 q781 q780 q779 q100 (lw_meth q787), Or.inl rfl, by decide, by decide, by decide, by decide⟩
theorem cu_X8_41_8 : CU RX8 41 RX9 RX5 (⟨"TwoWorlds$Formula", "writeWithin", "(LTwoWorlds$Paper;)V"⟩ : MethodName) yX5_writeWithin cX5_writeWithin 2 none 1 := ⟨gU q789 q791 q793 q790 q95 (lw_meth q804), Or.inl rfl, by decide, by decide, by decide, by decide⟩
theorem cu_X8_41_7 : CU RX8 41 RX8 RX5 (⟨"TwoWorlds$Formula", "writeWithin", "(LTwoWorlds$Paper;)V"⟩ : MethodName) yX5_writeWithin cX5_writeWithin 2 none 1 := ⟨gU q789 q791 q803 q790 q95 (lw_meth q804), Or.inl rfl, by decide, by decide, by decide, by decide⟩
theorem cu_X8_41_9 : CU RX8 41 RX10 RX5 (⟨"TwoWorlds$Formula", "writeWithin", "(LTwoWorlds$Paper;)V"⟩ : MethodName) yX10_writeWithin cX10_writeWithin 2 none 1 := ⟨gU q789 q791 q794 q795 q106 (lw_meth q796), Or.inr (Or.inl ⟨gO q789 q791 q790 q794 q795 q106 (lw_meth q796), _, _, _, q804⟩), by decide, by decide, by decide, by decide⟩
theorem cu_X8_41_5 : CU RX8 41 RX6 RX5 (⟨"TwoWorlds$Formula", "writeWithin", "(LTwoWorlds$Paper;)V"⟩ : MethodName) yX5_writeWithin cX5_writeWithin 2 none 1 := ⟨gU q789 q791 q792 q790 q95 (lw_meth q804), Or.inl rfl, by decide, by decide, by decide, by decide⟩
theorem csu_X9_40 : CSU RX9 40 yX8_depth cX8_depth 1 (some .int) 0 := ⟨gSU q731 q1730 q581 q732 q100 (lw_meth q733), by decide, by decide, by decide⟩
theorem ci_X9_1 : CI RX9 1 yX8_init cX8_init 2 1 := ⟨lw_meth q556, Or.inl q573, q100, q555, rfl, by decide, by decide, by decide, by decide⟩
theorem ky_X9_8 : ∀ ci ∈ [8], ∃ q, CL[ci]? = some q ∧ KY RX9 8 q.1 := by
  intro ci h
  rcases List.mem_cons.mp h with e | h
  · subst e; exact ⟨_, rfl, _, q958, Or.inl rfl⟩
  cases h
theorem kn_X9_8 : ∀ ci ∈ [5, 7, 9], ∃ q, CL[ci]? = some q ∧ KN RX9 8 q.1 := by
  intro ci h
  rcases List.mem_cons.mp h with e | h
  · subst e; exact ⟨_, rfl, _, q958, List.mem_of_getElem? (i := 1) rfl⟩
  rcases List.mem_cons.mp h with e | h
  · subst e; exact ⟨_, rfl, _, q958, List.mem_of_getElem? (i := 4) rfl⟩
  rcases List.mem_cons.mp h with e | h
  · subst e; exact ⟨_, rfl, _, q958, List.mem_of_getElem? (i := 10) rfl⟩
  cases h
theorem cu_X9_44_8 : CU RX9 44 RX9 RX5 (⟨"TwoWorlds$Formula", "isLike", "(LTwoWorlds$Formula;)Z"⟩ : MethodName) yX9_isLike cX9_isLike 3 (some .boolean) 1 := ⟨gU q959 q950 q955 q956 q101 (lw_meth q957), Or.inr (Or.inr (List.mem_of_getElem? (i := 3) rfl)), by decide, by decide, by decide, by decide⟩
theorem cu_X9_44_7 : CU RX9 44 RX8 RX5 (⟨"TwoWorlds$Formula", "isLike", "(LTwoWorlds$Formula;)Z"⟩ : MethodName) yX8_isLike cX8_isLike 3 (some .boolean) 1 := ⟨gU q959 q950 q970 q964 q100 (lw_meth q965), Or.inr (Or.inr (List.mem_of_getElem? (i := 3) rfl)), by decide, by decide, by decide, by decide⟩
theorem cu_X9_44_9 : CU RX9 44 RX10 RX5 (⟨"TwoWorlds$Formula", "isLike", "(LTwoWorlds$Formula;)Z"⟩ : MethodName) yX10_isLike cX10_isLike 4 (some .boolean) 1 := ⟨gU q959 q950 q969 q960 q106 (lw_meth q961), Or.inr (Or.inr (List.mem_of_getElem? (i := 3) rfl)), by decide, by decide, by decide, by decide⟩
theorem cu_X9_44_5 : CU RX9 44 RX6 RX5 (⟨"TwoWorlds$Formula", "isLike", "(LTwoWorlds$Formula;)Z"⟩ : MethodName) yX6_isLike cX6_isLike 3 (some .boolean) 1 := ⟨gU q959 q950 q951 q952 q96 (lw_meth q953), Or.inr (Or.inr (List.mem_of_getElem? (i := 3) rfl)), by decide, by decide, by decide, by decide⟩
def f0_0 : Nat → V := fun k => match k with
  | 0 => .inr (.inr none)
  | 1 => .inr (.inr none)
  | 2 => .inl 0
  | 3 => .inl 0
  | 4 => .inl 0
  | 5 => .inl 0
  | 6 => .inr (.inr none)
  | 7 => .inl 0
  | 8 => .inr (.inr none)
  | 9 => .inl 0
  | 10 => .inr (.inr none)
  | 11 => .inl 0
  | 12 => .inr (.inr none)
  | _ => .inl 0
theorem f0_0_ok : ∀ k, k < 13 → defaultValue (tyX0 k) = ve (f0_0 k) := fun k h => match k, h with
  | 0, _ => rfl
  | 1, _ => rfl
  | 2, _ => rfl
  | 3, _ => rfl
  | 4, _ => rfl
  | 5, _ => rfl
  | 6, _ => rfl
  | 7, _ => rfl
  | 8, _ => rfl
  | 9, _ => rfl
  | 10, _ => rfl
  | 11, _ => rfl
  | 12, _ => rfl
  | n + 13, h => absurd h (by omega)
def f0_1 : Nat → V := fun k => match k with
  | 0 => .inr (.inr none)
  | 1 => .inr (.inr none)
  | 2 => .inr (.inr none)
  | 3 => .inr (.inr none)
  | 4 => .inr (.inr none)
  | 5 => .inl 0
  | 6 => .inl 0
  | 7 => .inl 0
  | 8 => .inr (.inr none)
  | 9 => .inr (.inr none)
  | 10 => .inl 0
  | 11 => .inl 0
  | 12 => .inl 0
  | 13 => .inr (.inr none)
  | 14 => .inr (.inr none)
  | 15 => .inl 0
  | 16 => .inl 0
  | 17 => .inl 0
  | 18 => .inr (.inr none)
  | 19 => .inr (.inr none)
  | 20 => .inr (.inr none)
  | 21 => .inr (.inr none)
  | 22 => .inr (.inr none)
  | 23 => .inl 0
  | 24 => .inr (.inr none)
  | 25 => .inr (.inr none)
  | 26 => .inr (.inr none)
  | 27 => .inr (.inr none)
  | 28 => .inl 0
  | 29 => .inl 0
  | 30 => .inr (.inr none)
  | 31 => .inr (.inr none)
  | 32 => .inr (.inr none)
  | 33 => .inl 0
  | 34 => .inl 0
  | 35 => .inr (.inr none)
  | 36 => .inl 0
  | 37 => .inl 0
  | 38 => .inl 0
  | 39 => .inr (.inr none)
  | 40 => .inr (.inr none)
  | 41 => .inr (.inr none)
  | 42 => .inl 0
  | 43 => .inr (.inr none)
  | 44 => .inl 0
  | 45 => .inl 0
  | 46 => .inr (.inr none)
  | 47 => .inl 0
  | 48 => .inl 0
  | 49 => .inr (.inr none)
  | 50 => .inr (.inr none)
  | 51 => .inl 0
  | 52 => .inl 0
  | 53 => .inl 0
  | 54 => .inl 0
  | 55 => .inr (.inr none)
  | 56 => .inr (.inr none)
  | 57 => .inr (.inr none)
  | 58 => .inr (.inr none)
  | 59 => .inr (.inr none)
  | 60 => .inr (.inr none)
  | 61 => .inr (.inr none)
  | 62 => .inr (.inr none)
  | 63 => .inr (.inr none)
  | _ => .inl 0
theorem f0_1_ok : ∀ k, k < 64 → defaultValue (tyX1 k) = ve (f0_1 k) := fun k h => match k, h with
  | 0, _ => rfl
  | 1, _ => rfl
  | 2, _ => rfl
  | 3, _ => rfl
  | 4, _ => rfl
  | 5, _ => rfl
  | 6, _ => rfl
  | 7, _ => rfl
  | 8, _ => rfl
  | 9, _ => rfl
  | 10, _ => rfl
  | 11, _ => rfl
  | 12, _ => rfl
  | 13, _ => rfl
  | 14, _ => rfl
  | 15, _ => rfl
  | 16, _ => rfl
  | 17, _ => rfl
  | 18, _ => rfl
  | 19, _ => rfl
  | 20, _ => rfl
  | 21, _ => rfl
  | 22, _ => rfl
  | 23, _ => rfl
  | 24, _ => rfl
  | 25, _ => rfl
  | 26, _ => rfl
  | 27, _ => rfl
  | 28, _ => rfl
  | 29, _ => rfl
  | 30, _ => rfl
  | 31, _ => rfl
  | 32, _ => rfl
  | 33, _ => rfl
  | 34, _ => rfl
  | 35, _ => rfl
  | 36, _ => rfl
  | 37, _ => rfl
  | 38, _ => rfl
  | 39, _ => rfl
  | 40, _ => rfl
  | 41, _ => rfl
  | 42, _ => rfl
  | 43, _ => rfl
  | 44, _ => rfl
  | 45, _ => rfl
  | 46, _ => rfl
  | 47, _ => rfl
  | 48, _ => rfl
  | 49, _ => rfl
  | 50, _ => rfl
  | 51, _ => rfl
  | 52, _ => rfl
  | 53, _ => rfl
  | 54, _ => rfl
  | 55, _ => rfl
  | 56, _ => rfl
  | 57, _ => rfl
  | 58, _ => rfl
  | 59, _ => rfl
  | 60, _ => rfl
  | 61, _ => rfl
  | 62, _ => rfl
  | 63, _ => rfl
  | n + 64, h => absurd h (by omega)
def f0_2 : Nat → V := fun k => match k with
  | 0 => .inl 0
  | 1 => .inr (.inr none)
  | 2 => .inr (.inr none)
  | _ => .inl 0
theorem f0_2_ok : ∀ k, k < 3 → defaultValue (tyX2 k) = ve (f0_2 k) := fun k h => match k, h with
  | 0, _ => rfl
  | 1, _ => rfl
  | 2, _ => rfl
  | n + 3, h => absurd h (by omega)
def f0_3 : Nat → V := fun k => match k with
  | 0 => .inr (.inr none)
  | 1 => .inr (.inr none)
  | 2 => .inl 0
  | _ => .inl 0
theorem f0_3_ok : ∀ k, k < 3 → defaultValue (tyX3 k) = ve (f0_3 k) := fun k h => match k, h with
  | 0, _ => rfl
  | 1, _ => rfl
  | 2, _ => rfl
  | n + 3, h => absurd h (by omega)
def f0_4 : Nat → V := fun k => match k with
  | 0 => .inr (.inr none)
  | 1 => .inl 0
  | 2 => .inl 0
  | 3 => .inl 0
  | 4 => .inl 0
  | 5 => .inr (.inr none)
  | _ => .inl 0
theorem f0_4_ok : ∀ k, k < 6 → defaultValue (tyX4 k) = ve (f0_4 k) := fun k h => match k, h with
  | 0, _ => rfl
  | 1, _ => rfl
  | 2, _ => rfl
  | 3, _ => rfl
  | 4, _ => rfl
  | 5, _ => rfl
  | n + 6, h => absurd h (by omega)
def f0_5 : Nat → V := fun k => match k with
  | 0 => .inl 0
  | 1 => .inl 0
  | 2 => .inl 0
  | _ => .inl 0
theorem f0_5_ok : ∀ k, k < 3 → defaultValue (tyX6 k) = ve (f0_5 k) := fun k h => match k, h with
  | 0, _ => rfl
  | 1, _ => rfl
  | 2, _ => rfl
  | n + 3, h => absurd h (by omega)
def f0_6 : Nat → V := fun k => match k with
  | 0 => .inr (.inr none)
  | 1 => .inr (.inr none)
  | 2 => .inr (.inr none)
  | 3 => .inr (.inr none)
  | 4 => .inr (.inr none)
  | 5 => .inl 0
  | 6 => .inl 0
  | _ => .inl 0
theorem f0_6_ok : ∀ k, k < 7 → defaultValue (tyX7 k) = ve (f0_6 k) := fun k h => match k, h with
  | 0, _ => rfl
  | 1, _ => rfl
  | 2, _ => rfl
  | 3, _ => rfl
  | 4, _ => rfl
  | 5, _ => rfl
  | 6, _ => rfl
  | n + 7, h => absurd h (by omega)
def f0_7 : Nat → V := fun k => match k with
  | 0 => .inr (.inr none)
  | _ => .inl 0
theorem f0_7_ok : ∀ k, k < 1 → defaultValue (tyX8 k) = ve (f0_7 k) := fun k h => match k, h with
  | 0, _ => rfl
  | n + 1, h => absurd h (by omega)
def f0_8 : Nat → V := fun k => match k with
  | 0 => .inr (.inr none)
  | 1 => .inl 0
  | 2 => .inl 0
  | _ => .inl 0
theorem f0_8_ok : ∀ k, k < 3 → defaultValue (tyX9 k) = ve (f0_8 k) := fun k h => match k, h with
  | 0, _ => rfl
  | 1, _ => rfl
  | 2, _ => rfl
  | n + 3, h => absurd h (by omega)
def f0_9 : Nat → V := fun k => match k with
  | 0 => .inr (.inr none)
  | 1 => .inl 0
  | _ => .inl 0
theorem f0_9_ok : ∀ k, k < 2 → defaultValue (tyX10 k) = ve (f0_9 k) := fun k h => match k, h with
  | 0, _ => rfl
  | 1, _ => rfl
  | n + 2, h => absurd h (by omega)
def f0_10 : Nat → V := fun k => match k with
  | 0 => .inr (.inr none)
  | 1 => .inl 0
  | 2 => .inl 0
  | 3 => .inr (.inr none)
  | _ => .inl 0
theorem f0_10_ok : ∀ k, k < 4 → defaultValue (tyX11 k) = ve (f0_10 k) := fun k h => match k, h with
  | 0, _ => rfl
  | 1, _ => rfl
  | 2, _ => rfl
  | 3, _ => rfl
  | n + 4, h => absurd h (by omega)
def f0_11 : Nat → V := fun k => match k with
  | 0 => .inr (.inr none)
  | 1 => .inl 0
  | _ => .inl 0
theorem f0_11_ok : ∀ k, k < 2 → defaultValue (tyX12 k) = ve (f0_11 k) := fun k h => match k, h with
  | 0, _ => rfl
  | 1, _ => rfl
  | n + 2, h => absurd h (by omega)
def f0_12 : Nat → V := fun k => match k with
  | 0 => .inr (.inr none)
  | 1 => .inr (.inr none)
  | 2 => .inl 0
  | _ => .inl 0
theorem f0_12_ok : ∀ k, k < 3 → defaultValue (tyX13 k) = ve (f0_12 k) := fun k h => match k, h with
  | 0, _ => rfl
  | 1, _ => rfl
  | 2, _ => rfl
  | n + 3, h => absurd h (by omega)
def f0_13 : Nat → V := fun k => match k with
  | 0 => .inr (.inr none)
  | 1 => .inr (.inr none)
  | 2 => .inr (.inr none)
  | 3 => .inr (.inr none)
  | 4 => .inr (.inr none)
  | 5 => .inl 0
  | _ => .inl 0
theorem f0_13_ok : ∀ k, k < 6 → defaultValue (tyX14 k) = ve (f0_13 k) := fun k h => match k, h with
  | 0, _ => rfl
  | 1, _ => rfl
  | 2, _ => rfl
  | 3, _ => rfl
  | 4, _ => rfl
  | 5, _ => rfl
  | n + 6, h => absurd h (by omega)
def f0_14 : Nat → V := fun k => match k with
  | 0 => .inr (.inr none)
  | 1 => .inr (.inr none)
  | 2 => .inl 0
  | 3 => .inl 0
  | 4 => .inr (.inr none)
  | 5 => .inl 0
  | 6 => .inl 0
  | 7 => .inr (.inr none)
  | _ => .inl 0
theorem f0_14_ok : ∀ k, k < 8 → defaultValue (tyX16 k) = ve (f0_14 k) := fun k h => match k, h with
  | 0, _ => rfl
  | 1, _ => rfl
  | 2, _ => rfl
  | 3, _ => rfl
  | 4, _ => rfl
  | 5, _ => rfl
  | 6, _ => rfl
  | 7, _ => rfl
  | n + 8, h => absurd h (by omega)
def f0_15 : Nat → V := fun k => match k with
  | 0 => .inr (.inr none)
  | 1 => .inr (.inr none)
  | 2 => .inl 0
  | 3 => .inl 0
  | 4 => .inr (.inr none)
  | 5 => .inl 0
  | 6 => .inl 0
  | 7 => .inr (.inr none)
  | _ => .inl 0
theorem f0_15_ok : ∀ k, k < 8 → defaultValue (tyX17 k) = ve (f0_15 k) := fun k h => match k, h with
  | 0, _ => rfl
  | 1, _ => rfl
  | 2, _ => rfl
  | 3, _ => rfl
  | 4, _ => rfl
  | 5, _ => rfl
  | 6, _ => rfl
  | 7, _ => rfl
  | n + 8, h => absurd h (by omega)
def f0_16 : Nat → V := fun k => match k with
  | 0 => .inl 0
  | 1 => .inr (.inr none)
  | 2 => .inl 0
  | _ => .inl 0
theorem f0_16_ok : ∀ k, k < 3 → defaultValue (tyJ2 k) = ve (f0_16 k) := fun k h => match k, h with
  | 0, _ => rfl
  | 1, _ => rfl
  | 2, _ => rfl
  | n + 3, h => absurd h (by omega)
