/-! ===== the claim out of the law's segment ===== -/
set_option maxRecDepth 100000
def lw_P (b : Addr) (xs : List Int32) (args : Array Value) (s : State) : Prop := args = #[.ref b] ∧ s.IntsAt b xs ∧ xs.length ≤ 384 ∧ (Jvm.Cond.and given_1 narrow_1).before args s = true
def lw_Q (_ : Array Value) (s : State) (o : Outcome) (t : State) : Prop := o = .returned (some (.int 1)) ∧ Framed s o t [] 837528 6583520
def lw_Z (below : List Frame) (a : Array Value) (s : State) : State → Prop := fun t => ∃ o, t.status = .running ∧ Ended t below o ∧ lw_Q a s o t
/-- what holds at the law's entry: the machine, the code, the tables' words (any of lw_tbl by 'hts w (by decide +kernel)'), the script of L ints xs at the cell b, what the Statement gives of the start (any of its parts by flat_of_before) -/
def lw_At (p : Program) (s : State) (m : MethodId) (meth : Method) (c : Code) (b L : Nat) (xs : Nat → Int32) : Prop :=
  p.tables.exec = Jvm.exec ∧ c.code = code ∧ meth.sig.returnType = ret ∧ c.maxLocals = 4 ∧ s.vm.findClass R_law = some m.cls ∧ (∀ w ∈ lw_tbl, w.before #[Value.ref b] s = true) ∧ va_X b L xs s s.heap ∧ b < s.heap.size ∧ meth.locks = false ∧ (Jvm.Cond.and given_1 narrow_1).before #[Value.ref b] s = true ∧ meth.name = "law"

/-- what the law's segment has to come to -/
def LawGoal : Prop := ∀ (l : Launch) (δ : Dl) (sz : Nat), δ.2.2 7 ≤ 384 → δ.2.2 0 < sz → ∃ s' : St, (B_L_law l δ).1 [] [some (.inr (.inr (some (δ.2.2 6)))), none, none, none] (fun _ => none, sz, 0) = some (.inr (.inr (.inl (some (.inl 1), s')))) ∧ s'.2.1 ≤ sz + 837528 ∧ s'.2.2 ≤ 6583520
theorem forget_new {s t : State} {L : List Loc} {k n : Nat} (h : s.sameButNew t L k n) (hL : ∀ q ∈ L, s.heap.size ≤ q.base) : s.sameButNew t [] k n := by
  obtain ⟨h1, h2, h3, h4, h5, h6⟩ := h
  refine ⟨h1, h2, h3, h4, h5, fun a c hc => ?_⟩
  obtain ⟨c', g1, g2, g3, g4⟩ := h6 a c hc
  exact ⟨c', g1, g2, g3, fun i _ => g4 i (fun hm => absurd (hL _ hm) (Nat.not_le.mpr (Array.getElem?_eq_some_iff.mp hc).1))⟩
section GLUE
variable {s : State} {b : Nat}
theorem gl_i32 (x : Int32) : x = Int32.ofNat x.toUInt32.toNat := by
  apply Int32.toBitVec_inj.mp
  simp
theorem gl_cls (hts : ∀ w ∈ lw_all, w.before #[Value.ref b] s = true) : ∀ c : Nat, ∃ (cC : ClassId) (iS : Nat → Nat), ∀ q : vw_C, CL[c]? = some q → u_Kn s q.1 q.2.1 q.2.2 cC iS
  | 0 => by
    obtain ⟨cC, iS, h⟩ := u_known (C := RX0) (T := TX0) (N := 13) (n := 13) hts ck0.2.1 (hts _ q117)
    exact ⟨cC, iS, fun q hq => by cases hq; exact h⟩
  | 1 => by
    obtain ⟨cC, iS, h⟩ := u_known (C := RX1) (T := TX1) (N := 64) (n := 64) hts ck1.2.1 (hts _ q1154)
    exact ⟨cC, iS, fun q hq => by cases hq; exact h⟩
  | 2 => by
    obtain ⟨cC, iS, h⟩ := u_known (C := RX2) (T := TX2) (N := 3) (n := 3) hts ck2.2.1 (hts _ q206)
    exact ⟨cC, iS, fun q hq => by cases hq; exact h⟩
  | 3 => by
    obtain ⟨cC, iS, h⟩ := u_known (C := RX3) (T := TX3) (N := 3) (n := 3) hts ck3.2.1 (hts _ q290)
    exact ⟨cC, iS, fun q hq => by cases hq; exact h⟩
  | 4 => by
    obtain ⟨cC, iS, h⟩ := u_known (C := RX4) (T := TX4) (N := 6) (n := 6) hts ck4.2.1 (hts _ q412)
    exact ⟨cC, iS, fun q hq => by cases hq; exact h⟩
  | 5 => by
    obtain ⟨cC, iS, h⟩ := u_known (C := RX6) (T := TX6) (N := 3) (n := 3) hts ck5.2.1 (hts _ q453)
    exact ⟨cC, iS, fun q hq => by cases hq; exact h⟩
  | 6 => by
    obtain ⟨cC, iS, h⟩ := u_known (C := RX7) (T := TX7) (N := 7) (n := 7) hts ck6.2.1 (hts _ q484)
    exact ⟨cC, iS, fun q hq => by cases hq; exact h⟩
  | 7 => by
    obtain ⟨cC, iS, h⟩ := u_known (C := RX8) (T := TX8) (N := 1) (n := 1) hts ck7.2.1 (hts _ q553)
    exact ⟨cC, iS, fun q hq => by cases hq; exact h⟩
  | 8 => by
    obtain ⟨cC, iS, h⟩ := u_known (C := RX9) (T := TX9) (N := 3) (n := 3) hts ck8.2.1 (hts _ q569)
    exact ⟨cC, iS, fun q hq => by cases hq; exact h⟩
  | 9 => by
    obtain ⟨cC, iS, h⟩ := u_known (C := RX10) (T := TX10) (N := 2) (n := 2) hts ck9.2.1 (hts _ q655)
    exact ⟨cC, iS, fun q hq => by cases hq; exact h⟩
  | 10 => by
    obtain ⟨cC, iS, h⟩ := u_known (C := RX11) (T := TX11) (N := 4) (n := 4) hts ck10.2.1 (hts _ q717)
    exact ⟨cC, iS, fun q hq => by cases hq; exact h⟩
  | 11 => by
    obtain ⟨cC, iS, h⟩ := u_known (C := RX12) (T := TX12) (N := 2) (n := 2) hts ck11.2.1 (hts _ q746)
    exact ⟨cC, iS, fun q hq => by cases hq; exact h⟩
  | 12 => by
    obtain ⟨cC, iS, h⟩ := u_known (C := RX13) (T := TX13) (N := 3) (n := 3) hts ck12.2.1 (hts _ q848)
    exact ⟨cC, iS, fun q hq => by cases hq; exact h⟩
  | 13 => by
    obtain ⟨cC, iS, h⟩ := u_known (C := RX14) (T := TX14) (N := 6) (n := 6) hts ck13.2.1 (hts _ q874)
    exact ⟨cC, iS, fun q hq => by cases hq; exact h⟩
  | 14 => by
    obtain ⟨cC, iS, h⟩ := u_known (C := RX16) (T := TX16) (N := 8) (n := 8) hts ck14.2.1 (hts _ q989)
    exact ⟨cC, iS, fun q hq => by cases hq; exact h⟩
  | 15 => by
    obtain ⟨cC, iS, h⟩ := u_known (C := RX17) (T := TX17) (N := 8) (n := 8) hts ck15.2.1 (hts _ q1043)
    exact ⟨cC, iS, fun q hq => by cases hq; exact h⟩
  | 16 => by
    obtain ⟨cC, iS, h⟩ := u_known (C := RJ2) (T := TJ2) (N := 3) (n := 3) hts ck16.2.1 (hts _ q127)
    exact ⟨cC, iS, fun q hq => by cases hq; exact h⟩
  | n + 17 => ⟨0, fun _ => 0, fun q hq => by simp [CL] at hq⟩
theorem gl_prim {ty : FieldType} (h : (Cond.arrayClass ty).before #[Value.ref b] s = true) (hn : ∀ C, ty ≠ .object C) : ∃ cA : ClassId, ArrOfT s cA ty ∧ va_RA s cA ty := by
  obtain ⟨c, k, comp, h1, h2, h3⟩ := Cond.arrayClass_spec h
  refine ⟨c, fun N z => ⟨(fun k h => by cases h), k, h2, comp, h3⟩, ?_⟩
  cases ty with
  | object C => exact absurd rfl (hn C)
  | _ => exact h1
theorem gl_obj {C : String} (h : (Cond.arrayOver (.object C)).before #[Value.ref b] s = true) : ∃ cA : ClassId, ArrOfT s cA (.object C) ∧ va_RA s cA (.object C) := by
  obtain ⟨comp, c, k, h1, h2, h3, h4, h5⟩ := Cond.arrayOver_spec h
  exact ⟨c, fun N z => ⟨(fun k h => by cases h), k, h3, comp, h4⟩, k, comp, h3, h4, h1, h5⟩
theorem gl_arr (hts : ∀ w ∈ lw_tbl, w.before #[Value.ref b] s = true) : ∃ f : Nat → ClassId, ∀ (k : Nat) (q : ClassId × FieldType), (ATs f)[k]? = some q → ArrOfT s q.1 q.2 ∧ va_RA s q.1 q.2 := by
  obtain ⟨c0, h0⟩ := gl_prim (hts (.arrayClass .int) (lw_all_tbl q193)) (fun C => by intro h; cases h)
  obtain ⟨c1, h1⟩ := gl_prim (hts (.arrayClass .byte) (lw_all_tbl q152)) (fun C => by intro h; cases h)
  obtain ⟨c2, h2⟩ := gl_prim (hts (.arrayClass .boolean) (lw_all_tbl q231)) (fun C => by intro h; cases h)
  obtain ⟨c3, h3⟩ := gl_prim (hts (.arrayClass .long) (lw_all_tbl q1059)) (fun C => by intro h; cases h)
  obtain ⟨c4, h4⟩ := gl_obj (C := RX2) (hts _ q125)
  obtain ⟨c5, h5⟩ := gl_obj (C := "java/lang/Object") (hts _ q644)
  refine ⟨fun k => match k with | 0 => c0 | 1 => c1 | 2 => c2 | 3 => c3 | 4 => c4 | _ => c5, fun k q hq => ?_⟩
  match k, hq with
  | 0, hq => cases hq; exact h0
  | 1, hq => cases hq; exact h1
  | 2, hq => cases hq; exact h2
  | 3, hq => cases hq; exact h3
  | 4, hq => cases hq; exact h4
  | 5, hq => cases hq; exact h5
  | n + 6, hq => simp [ATs] at hq
theorem gl_part {C : String} {n : Nat} (hts : ∀ w ∈ lw_tbl, w.before #[Value.ref b] s = true) (hi : (Cond.instantiable C n).before #[Value.ref b] s = true) : va_Nw (.selects C mPart mPart) s := by
  refine va_Nw.of rfl (A := #[Value.ref b]) ?_
  obtain ⟨c, kC, hc, -⟩ := Cond.instantiable_spec hi
  obtain ⟨c2, r2, m2, e1, e2, e3, e4, mk, e5, e6⟩ := Cond.selects_spec (hts _ (lw_all_tbl q1064))
  obtain ⟨m, meth, hn, hm, -, -⟩ := Cond.instanceMethod_spec (hts (.instanceMethod mPart) (lw_all_tbl q1068))
  have hp : meth.isPrivate = true := Cond.privateMethod_at (hts (.privateMethod mPart) q1067) m meth hn hm
  have hf : s.methodFound? mPart.cls mPart.name mPart.desc = some m := State.methodFound?_of_named hn ⟨by decide, by decide⟩
  have hcl : m.cls = m2.cls := Option.some.inj ((show s.vm.findClass "TwoWorlds$Colouring" = some m.cls from findClass_of_methodNamed hn).symm.trans (findClass_of_methodNamed e3))
  have hsel : selectMethod {} s.vm c m = .method m := selectMethod_private hm hp
  show (Cond.selects C mPart mPart).before #[Value.ref b] s = true
  simp only [Cond.before, Cond.holds, Cond.value, hc, hf, hn, hsel, hcl, e5, Option.any_some, e6]
  simp
theorem gl_KX (hts : ∀ w ∈ lw_tbl, w.before #[Value.ref b] s = true) (hg : (Jvm.Cond.and given_1 narrow_1).before #[Value.ref b] s = true) : ∃ t1 t2 t3 : Nat, ∀ δ : Dl, δ.2.2 1 = t1 → δ.2.2 2 = t2 → δ.2.2 3 = t3 → KX δ s := by
  have hs := flat_of_before _ hg
  obtain ⟨t1, -, -, -, g1, -⟩ := Cond.exactly_spec (hs (.exactly (.string "TwoWorlds$Wrong" 1) "java/lang/String") (by decide +kernel))
  obtain ⟨t2, -, -, -, g2, -⟩ := Cond.exactly_spec (hs (.exactly (.string "TwoWorlds$TooMuch" 1) "java/lang/String") (by decide +kernel))
  obtain ⟨t3, g3⟩ := va_Mi.of (hs (.isRef (.mirror "[Ljava/lang/Object;")) (by decide +kernel))
  have k1 : (NWf.all fun q => decide (Cond.fieldLinkNest q.1 q.2.1 q.2.2.1 q.2.2.2.1 q.2.2.2.2.1 q.2.2.2.2.2 ∈ lw_tbl)) = true := by decide +kernel
  have k2 : (NWm.all fun q => decide (Cond.methodLinkNest q.1 q.2.1 q.2.2.1 q.2.2.2 ∈ lw_tbl)) = true := by decide +kernel
  have k3 : (NWc.all fun q => decide (Cond.castable q.1 q.2 ∈ lw_tbl)) = true := by decide +kernel
  have k4 : (NWd.all fun q => decide (Cond.declares q ∈ lw_tbl)) = true := by decide +kernel
  have k5 : (NNc.all fun q => decide (Cond.not (.castable q.1 q.2) ∈ flatC (Jvm.Cond.and given_1 narrow_1))) = true := by decide +kernel
  refine ⟨t1, t2, t3, fun δ e1 e2 e3 => ⟨fun q hq => va_Nw.of rfl (hts _ (of_decide_eq_true (List.all_eq_true.mp k1 q hq))), fun q hq => va_Nw.of rfl (hts _ (of_decide_eq_true (List.all_eq_true.mp k2 q hq))), fun q hq => va_Nw.of rfl (hts _ (of_decide_eq_true (List.all_eq_true.mp k3 q hq))), fun q hq => va_Nw.of rfl (hts _ (of_decide_eq_true (List.all_eq_true.mp k4 q hq))), fun q hq => va_Nc.of (hs _ (of_decide_eq_true (List.all_eq_true.mp k5 q hq))), ⟨va_AO.of (hts _ q125), va_AO.of (hts _ q644)⟩, ⟨?_, ?_, ?_⟩, ⟨?_, ?_⟩, ?_, va_Dc.of (hts _ q1758), ?_⟩⟩
  · exact va_Fw.of (hts _ q587) (hts _ q586) (hts _ q592) (hts _ q590) (hts (.castable RJ2 "java/util/List") (by decide +kernel))
  · exact va_Fw.of (hts _ q685) (hts _ q684) (hts _ q689) (hts _ q687) (hts (.castable RJ2 "java/util/List") (by decide +kernel))
  · exact va_Fw.of (hts _ q694) (hts _ q693) (hts _ q698) (hts _ q696) (hts (.castable RJ2 "java/util/List") (by decide +kernel))
  · rw [e1]; exact vk_R.of (hts _ q524) g1
  · rw [e2]; exact vk_R.of (hts _ q885) g2
  · rw [e3]; exact g3
  · intro q hq
    rcases List.mem_cons.mp hq with e | hq
    · subst e; exact gl_part hts (hts _ (lw_all_tbl q989))
    rcases List.mem_cons.mp hq with e | hq
    · subst e; exact gl_part hts (hts _ (lw_all_tbl q1043))
    · cases hq
theorem gl_nv {C n d : String} {A : Nat → Prop} (h : va_Zq C n d A s s.heap) : ∃ t : Nat, va_Z C n d (nv t) A s s.heap := by
  rcases h with h | ⟨t, h⟩
  · exact ⟨0, h⟩
  · exact ⟨t + 1, h⟩
theorem gl_start (hts : ∀ w ∈ lw_tbl, w.before #[Value.ref b] s = true) (hg : (Jvm.Cond.and given_1 narrow_1).before #[Value.ref b] s = true) {L : Nat} {xs : Nat → Int32} (hL : L ≤ 384) (hX : va_X b L xs s s.heap) (hb : b < s.heap.size) :
    ∃ δ : Dl, KS δ s ∧ SX δ (fun q => s.heap.size ≤ q) s s.heap ∧ δ.2.2 6 = b ∧ δ.2.2 7 = L ∧ δ.2.2 0 < s.heap.size := by
  have hs := flat_of_before _ hg
  have hA : ∀ a : Nat, a < s.heap.size → ¬ (fun q : Nat => s.heap.size ≤ q) a := fun a h1 h2 => Nat.not_le.mpr h1 h2
  obtain ⟨fA, hfA⟩ := gl_arr hts
  have hC := gl_cls (s := s) (b := b) (fun w hw => hts w (lw_all_tbl hw))
  obtain ⟨t1, t2, t3, hKX⟩ := gl_KX hts hg
  have hlen : (Term.length (.static RJ2 "DEFAULTCAPACITY_EMPTY_ELEMENTDATA" "[Ljava/lang/Object;")).eval #[Value.ref b] s none [] s = some (.int (Int32.ofNat 0)) := by
    have h := hs (.eq (.length (.static RJ2 "DEFAULTCAPACITY_EMPTY_ELEMENTDATA" "[Ljava/lang/Object;")) (.int 0)) (by decide +kernel)
    cases hv : (Term.length (.static RJ2 "DEFAULTCAPACITY_EMPTY_ELEMENTDATA" "[Ljava/lang/Object;")).eval #[Value.ref b] s none [] s with
    | none => simp [Cond.before, Cond.holds, Cond.value, hv] at h
    | some w =>
      have hz : (Term.int 0).eval #[Value.ref b] s none [] s = some (.int 0) := rfl
      simp only [Cond.before, Cond.holds, Cond.value, hv, hz] at h
      cases w <;> simp_all
  obtain ⟨t0, hv0, hT0⟩ := va_Tof (f := fun _ => .null) (A := fun q => s.heap.size ≤ q) (N := 0) (by decide) (hs (.arrayOf (.static RJ2 "DEFAULTCAPACITY_EMPTY_ELEMENTDATA" "[Ljava/lang/Object;") (.object "java/lang/Object")) (by decide +kernel)) hlen (fun j hj => absurd hj (Nat.not_lt_zero j)) hA
  have hZ0 := va_Zof (hts _ q139) (hts _ (lw_all_tbl q90)) hv0 hA
  obtain ⟨t4, hZ4⟩ := gl_nv (va_Zqof (hts _ q508) (hts _ (lw_all_tbl q97)) (hs (.isRef (.static RJ3 "UNASSIGNED_STACK" "[Ljava/lang/StackTraceElement;")) (by decide +kernel)) hA)
  obtain ⟨t5, hZ5⟩ := gl_nv (va_Zqof (hts _ q510) (hts _ (lw_all_tbl q97)) (hs (.isRef (.static RJ3 "SUPPRESSED_SENTINEL" "Ljava/util/List;")) (by decide +kernel)) hA)
  refine ⟨((fun c => Classical.choose (hC c), fun c => Classical.choose (Classical.choose_spec (hC c))), fA, fun k => match k with | 0 => t0 | 1 => t1 | 2 => t2 | 3 => t3 | 4 => t4 | 5 => t5 | 6 => b | 7 => L | n + 8 => (xs n).toUInt32.toNat), ⟨⟨fun c q hq => Classical.choose_spec (Classical.choose_spec (hC c)) q hq, hfA⟩, hKX _ rfl rfl rfl⟩, ⟨hZ0, hT0, hZ4, hZ5, ?_⟩, rfl, rfl, ?_⟩
  · obtain ⟨scr, g1, g2, g3, g4, g5⟩ := hX
    refine ⟨scr, g1, g2, g3, Nat.le_of_eq g4.symm, ?_, fun j hj => ?_, hA b hb⟩
    · show scr.slots.size.toInt32 = Int32.ofNat L
      rw [g4]
    · rw [g5 j hj]
      show some (Value.int (xs j)) = some (.int (Int32.ofNat ((fun k => match k with | 0 => t0 | 1 => t1 | 2 => t2 | 3 => t3 | 4 => t4 | 5 => t5 | 6 => b | 7 => L | n + 8 => (xs n).toUInt32.toNat) (8 + j))))
      rw [Nat.add_comm 8 j]
      show some (Value.int (xs j)) = some (.int (Int32.ofNat (xs j).toUInt32.toNat))
      congr 2
      exact gl_i32 (xs j)
  · exact Nat.not_le.mp hT0.out
end GLUE
theorem whole_of (hgoal : LawGoal) {p : Program} {e : Env} {s : State} {m : MethodId} {below : List Frame} {meth : Method} {c : Code} (l : Launch) {b L : Nat} {xs : Nat → Int32} (hL : L ≤ 384) (C0 : lw_At p s m meth c b L xs) : W p l e room_1 s m #[Value.ref b] below meth c s.heap [] 0 0 (lw_Z below #[Value.ref b] s) (entryFrame m ([Value.ref b] : List Value).toArray 4) := by
  obtain ⟨hx, hcc, hret, hml, hown, hts, hX, hb, hlk, hg, hnm⟩ := C0
  obtain ⟨δ, hK, hSX, e6, e7, h0⟩ := gl_start hts hg hL hX hb
  subst e6
  obtain ⟨s', hrun, hc1, hc2⟩ := hgoal l δ s.heap.size (by rw [e7]; exact hL) h0
  have hH : ∀ a : Nat, s.heap.size ≤ a → (fun q : Nat => s.heap.size ≤ q) a := fun a h => h
  have hl := lv_entry [Value.ref (δ.2.2 6)] (n := 4) (show 1 ≤ 4 by decide)
  obtain ⟨-, k⟩ := (B_L_law l δ).2.2 _ _ _ _ hrun
  have hJ := k ((p, l, e, room_1, s), (m, #[Value.ref (δ.2.2 6)], below, meth, c), (4, δ, (fun q => s.heap.size ≤ q), lw_Z below #[Value.ref (δ.2.2 6)] s)) (fun v _ _ => v = some (vI 1)) (fun _ _ _ => False) (s.heap.size + 837528) 6583520
    ⟨⟨hx, hcc, hml, hown, fun w hw => hts w (lw_all_tbl hw), hlk, hK, hH, show 88 ≤ 2048 by decide, show 64 * 88 ≤ 84000 by decide, hSX⟩, ⟨hret, ?_, fun _ _ _ _ hf => hf.elim⟩, rfl, rfl, rfl, ?_⟩ hc1 hc2 rfl
  · have := hJ s.heap [] _ 0 0 rfl (fun a e h => by cases h) (fun a h => absurd rfl h) va_S.rf hl ?_ ?_
    · exact this
    · show 0 + (s.heap.size + 837528 - s.heap.size) ≤ 837528
      omega
    · show 0 + (6583520 - 0) ≤ 6583520
      omega
  · rintro v w' sz' t rfl ⟨o, h1, h2, ⟨⟨rfl, -⟩, -⟩, L', ⟨hv, hW, hsb⟩, hL'⟩
    exact ⟨_, h1, h2, rfl, hv, hW, forget_new hsb hL'⟩
  · exact hnm

set_option maxHeartbeats 4000000 in
theorem lw_walk (hgoal : LawGoal) (l : Launch) (b : Addr) (xs : List Int32) : MetFree l x (headSpec (Jvm.Cond.code x code maxLocals ret :: tables_1) room_1) (lw_P b xs) (fun _ _ _ _ _ => True) lw_Q := by
  refine MetFree.of_bodyS (code := code) (maxLocals := maxLocals) (ret := ret) (by decide) ?_ ?_
  · intro args s m h hn
    obtain ⟨meth, c, h1, h2, h3, h4, h5, h6, -, -⟩ := Cond.code_spec hn (atoms_spec (ws := Jvm.Cond.code x code maxLocals ret :: tables_1) h _ List.mem_cons_self)
    exact ⟨meth, c, h1, h2, h3, h4, h5, h6⟩
  · intro p e s m args below meth c s₁ B hml0 hP _
    obtain ⟨rfl, hx, hbd, hgv⟩ := hP
    obtain ⟨scr, harrAt, hlist, hof, hsmall⟩ := hx
    obtain ⟨hcb, hkn, -, -⟩ := State.arrayAt?_spec harrAt
    have hown : s.vm.findClass R_law = some m.cls := findClass_of_methodNamed B.named
    have hts0 : ∀ c ∈ (Jvm.Cond.code x code maxLocals ret :: tables_1), c.before #[Value.ref b] s = true := atoms_spec (ws := Jvm.Cond.code x code maxLocals ret :: tables_1) B.pre
    have hts : ∀ w ∈ lw_tbl, w.before #[Value.ref b] s = true := k2_hts_sels lw_privs (fun w hw => hts0 w (List.mem_cons_of_mem _ hw)) lw_privs_ok
    have hml : c.maxLocals = 4 := B.maxLocals_eq (hts0 _ List.mem_cons_self)
    have X₀ : Stand p l e room_1 s m #[Value.ref b] below meth c s₁ [] 0 0 := Stand.of_body B
    have hh0 : s₁.heap = s.heap := by rw [B.state]; rfl
    have hsz : scr.slots.size = xs.length := by rw [← Array.length_toList, hlist, List.length_map]
    have hval : ∀ j : Nat, j < xs.length → scr.slots[j]? = some (.int (xs.getD j 0)) := fun j hj => by
      rw [← Array.getElem?_toList, hlist]
      simp [hj]
    have hbl : b < s.heap.size := (Array.getElem?_eq_some_iff.mp hcb).1
    have hX : va_X b xs.length (fun j => xs.getD j 0) s s.heap := ⟨scr, hcb, hof, hkn, hsz, hval⟩
    have K : W p l e room_1 s m #[Value.ref b] below meth c s₁.heap [] 0 0 (lw_Z below #[Value.ref b] s) (entryFrame m ([Value.ref b] : List Value).toArray 4) := by
      rw [hh0]
      exact whole_of hgoal l hbd ⟨B.exec, B.bytes, B.returns, hml, hown, hts, hX, hbl, B.notSynchronized, hgv, (name_of_methodNamed B.named B.method).1⟩
    obtain ⟨t, a1, o, b1, b2, b3⟩ := K s₁ rfl X₀
    exact ⟨t, o, a1, b1, b2, b3⟩
theorem lw_pre_spec {args : Array Value} {s : State} (h : (Jvm.Cond.and given_1 narrow_1).before args s = true) (hr : rest_1_c.before args s = true) : ∃ (b : Addr) (xs : List Int32), lw_P b xs args s := by
  have hs := flat_of_before _ h
  have hq := flat_of_before _ hr
  have hc : (Cond.count 1).before args s = true := hs _ (by decide +kernel)
  have harr : (Cond.arrayOf (.arg 0) .int).before args s = true := hs _ (by decide +kernel)
  have hle : (Cond.le (.length (.arg 0)) (.int 384)).before args s = true := hs _ (by decide +kernel)
  have hlen : (Cond.isInt (.length (.arg 0))).before args s = true := hq _ (by decide +kernel)
  have hall : (Cond.all (.arg 0) (.isInt (.elem (.arg 0) (.index 0)))).before args s = true := hq _ (by decide +kernel)
  obtain ⟨b, xs, hb, hx⟩ := State.ints_of_pre rfl harr hlen hall
  have hsm : xs.length < 2 ^ 31 := hx.choose_spec.2.2.2
  have hev : (Term.length (.arg 0)).eval args s none [] s = some (.int xs.length.toInt32) := hx.length_eval hb
  have hv := Cond.le_ints hev (show (Term.int 384).eval args s none [] s = some (.int 384) from rfl)
  have hd : xs.length.toInt32 ≤ 384 := by
    simpa [Cond.before, Cond.holds, hv] using hle
  have hN : xs.length ≤ 384 := (Int32.ofNat_le_ofNat hsm (by decide)).mp (show Int32.ofNat xs.length ≤ Int32.ofNat 384 from hd)
  exact ⟨b, xs, Cond.one_arg hc (show args[0]? = some (.ref b) from hb), hx, hN, h⟩
theorem lw_comes (hgoal : LawGoal) (l : Launch) : Comes l x (Jvm.Cond.code x code maxLocals ret :: tables_1) room_1 (fun tb e args s => Calls_1 tb e args s ∧ rest_1 tb e args s ∧ Pre_1 tb e args s)
    (fun _ _ args s o t => lw_Q args s o t) := by
  intro p e ha hc hk s m args below hf hfit hheap happ hpre
  obtain ⟨b, xs, hP⟩ := lw_pre_spec hpre.2.2 hpre.2.1
  obtain ⟨k, o, h1, h2, h3, hQ⟩ := lw_walk hgoal l b xs p e ha hc hk s m args below hf ((Spec.applies_iff_loose hf).mp happ).1 hP trivial
  exact ⟨k, o, h1, h2, h3, hQ⟩
theorem lw_frame {s t : State} {o : Outcome} {args : Array Value} (h : Framed s o t [] 837528 6583520) :
    Framed s o t (fieldLocs frame_1_writes args s ++ arrayLocs frame_1_arrays args s ++ staticLocs frame_1_statics s) 837528 6583520 := h
theorem lw_limb (hgoal : LawGoal) (L : Cond) (hL : ∀ (args : Array Value) (s t : State), L.after args s (.returned (some (.int 1))) t = true) :
    ArmFor flags0 classFile x code maxLocals ret World_1 tables_1 room_1 Calls_1 rest_1 Pre_1
      (fun tb e a s o t => postC L tb e a s o t ∧ Framed s o t (fieldLocs frame_1_writes a s ++ arrayLocs frame_1_arrays a s ++ staticLocs frame_1_statics s) 837528 6583520) := by
  intro l _ _ _ p e ha hc hk s m args below hf hfit hheap happ hpre
  obtain ⟨k, o, h1, h2, h3, rfl, hF⟩ := lw_comes hgoal l p e ha hc hk s m args below hf hfit hheap happ hpre
  exact ⟨k, _, h1, h2, h3, hL args s _, lw_frame hF⟩
theorem claim_of (hgoal : LawGoal) : Claimed_1_1 ∧ Claimed_1_2 := ⟨lw_limb hgoal limb_1_1 (fun args s t => by simp [limb_1_1, Cond.after, Cond.holds, Cond.value]), lw_limb hgoal limb_1_2 (fun args s t => Cond.after_iff.mpr (by
  first | (rw [show limb_1_2 = Cond.eq .result (.int 1) from rfl, Cond.eq_ints (x := 1) (y := 1) rfl rfl]; simp; done) | (simp [limb_1_2, Cond.value, Term.eval]; done)))⟩

