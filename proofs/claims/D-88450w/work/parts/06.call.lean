/-! ===== contracts (exact: the answer and the heap behind), entries, returns, throws, calls ===== -/
set_option maxRecDepth 100000
/-- what a call may change: the abstract heap's cells, and what it makes -/
def WA (w : Hw) (sz : Nat) : Nat → Prop := fun q => w q ≠ none ∨ sz ≤ q
def rmOf (d mc ms : Nat) : Room := { frames := d, cells := mc, slots := ms, locals := 64 * d }
def PcP (δ : Dl) (av : List Value) (w : Hw) (sz : Nat) : Array Value → State → Prop := va_Pc av (fun U => U.heap.size = sz ∧ HR δ w U.heap ∧ KS δ U ∧ SX δ (WA w sz) U U.heap)
def QcO (δ : Dl) (o : Outcome) (w' : Hw) (sz' : Nat) (A : Nat → Prop) : Array Value → State → Outcome → State → Prop := fun _ st oc t => (oc = o ∧ HR δ w' t.heap ∧ t.heap.size = sz' ∧ ∀ a, w' a ≠ none → A a) ∧ va_F A st t
/-- how a method that throws ends -/
def FrT (first : State) (o : Outcome) (t : State) (L : List Loc) (k n : Nat) : Prop := (∃ x, o = .threw x) ∧ first.WarmedH t.vm ∧ first.sameButNew ({ t with vm := first.vm } : State) L k n
def MQT (below : List Frame) (Qc : Array Value → State → Outcome → State → Prop) (a : Array Value) (s : State) (mc ms : Nat) (free : Addr → Prop) : State → Prop := fun t =>
  ∃ o, t.status = .running ∧ Ended t below o ∧ Qc a s o t ∧ ∃ L, FrT s o t L mc ms ∧ ∀ q ∈ L, free q.base
def MetT (l : Launch) (y : MethodName) (ws : List Cond) (rm : Room) (Pc : Array Value → State → Prop) (Qc : Array Value → State → Outcome → State → Prop) (mc ms : Nat) (free : Addr → Prop) : Prop :=
  MetFree l y (headSpec ws rm) Pc (fun _ _ _ _ _ => True) (fun a st o t => Qc a st o t ∧ ∃ L, FrT st o t L mc ms ∧ ∀ q ∈ L, free q.base)
/-- THE CONTRACT of a method that returns v, with the heap w' of size sz' behind -/
def MC (l : Launch) (δ : Dl) (y : MethodName) (ws : List Cond) (d mc ms : Nat) (av : List Value) (w : Hw) (sz : Nat) (v : Option Value) (w' : Hw) (sz' : Nat) : Prop :=
  Met l y ws (rmOf d mc ms) (PcP δ av w sz) (QcO δ (.returned v) w' sz' (WA w sz)) mc ms (WA w sz)
/-- THE CONTRACT of a method that throws x -/
def MT (l : Launch) (δ : Dl) (y : MethodName) (ws : List Cond) (d mc ms : Nat) (av : List Value) (w : Hw) (sz : Nat) (x : Nat) (w' : Hw) (sz' : Nat) : Prop :=
  MetT l y ws (rmOf d mc ms) (PcP δ av w sz) (QcO δ (.threw x) w' sz' (WA w sz)) mc ms (WA w sz)
/-- what the end of a walk owes: PR answer heap size, PT exception heap size -/
def Rt (κ : Cx) (ret : Option FieldType) (PR : Option Value → Hw → Nat → Prop) (PT : Nat → Hw → Nat → Prop) : Prop := κ.me.sig.returnType = ret ∧
  (∀ v w' sz' t, PR v w' sz' → MQ κ.bl (QcO κ.δ (.returned v) w' sz' κ.A) κ.as κ.s κ.R.cells κ.R.slots κ.A t → κ.Q t) ∧ (∀ x w' sz' t, PT x w' sz' → MQT κ.bl (QcO κ.δ (.threw x) w' sz' κ.A) κ.as κ.s κ.R.cells κ.R.slots κ.A t → κ.Q t)
/-- the frame at pc, an exception x over it: it comes to its end -/
def GT (κ : Cx) (w : Hw) (sz kc ks : Nat) (L : List (Option Value)) (pc : Nat) (x : Nat) : Prop :=
  ∀ (H : Heap) (locs : List Loc) (ls : Array Slot) (cells slots : Nat), H.size = sz → HR κ.δ w H → (∀ a, w a ≠ none → κ.A a) → va_S κ.A κ.s.heap H locs → lv_has ls κ.nL (lvs 0 L) → cells + kc ≤ κ.R.cells → slots + ks ≤ κ.R.slots → ∀ (st : List Value) (T : State), T.heap = H → Stand κ.p κ.l κ.e κ.R κ.s κ.m κ.as κ.bl κ.me κ.c T locs cells slots → ∃ t, Steps κ.p.tables κ.e κ.bl ((T.setTop (F0 κ.m pc ls st)).pushFrame (.throwing x)) t ∧ κ.Q t
theorem Met.ofW2 {l : Launch} {y : MethodName} {S : Spec} {P : Array Value → State → Prop} {Q : Array Value → State → Outcome → State → Prop} {cc : ByteArray} {maxL : Nat} {ret : Option FieldType} (hy : plainName y.cls = true)
    (his : ∀ args (s : State) m, S.pre.before args s = true → s.methodNamed? y = some m → ∃ meth c, s.vm.method? m = some meth ∧ meth.code = some c ∧ c.code = cc ∧ c.maxLocals = maxL ∧ meth.sig.returnType = ret ∧ meth.locks = false)
    (body : ∀ p e s m args below meth c s₁, BodyLoose p l y S cc maxL ret e s m args below meth c s₁ → c.maxLocals = maxL → P args s →
      W p l e S.room s m args below meth c s.heap [] 0 0 (fun t => ∃ o, t.status = .running ∧ Ended t below o ∧ Q args s o t) (entryFrame m args maxL)) : MetFree l y S P (fun _ _ _ _ _ => True) Q := by
  refine MetFree.of_bodyS (code := cc) (maxLocals := maxL) (ret := ret) hy his ?_
  intro p e s m args below meth c s₁ B hml hP _
  have hh0 : s₁.heap = s.heap := by rw [B.state]; rfl
  obtain ⟨t, a1, o, b1, b2, b3⟩ := body p e s m args below meth c s₁ B hml hP s₁ hh0 (Stand.of_body B)
  exact ⟨t, o, a1, b1, b2, b3⟩
section GC
variable {κ : Cx} {own : String} {cc : ByteArray} {d : Nat} {w w' : Hw} {sz sz' kc ks : Nat} {L : List (Option Value)} {pc : Nat} {st : List Value} {ret : Option FieldType} {PR : Option Value → Hw → Nat → Prop} {PT : Nat → Hw → Nat → Prop}
theorem W.mono {p : Program} {l : Launch} {e : Env} {R : Room} {s : State} {m : MethodId} {args : Array Value} {below : List Frame} {meth : Method} {c : Code} {H : Heap} {locs : List Loc} {cells slots : Nat} {Q Q' : State → Prop} {g : JFrame} (h : ∀ t, Q t → Q' t) (k : W p l e R s m args below meth c H locs cells slots Q g) : W p l e R s m args below meth c H locs cells slots Q' g := by
  intro T hT X
  obtain ⟨t, a, b⟩ := k T hT X
  exact ⟨t, a, h t b⟩
theorem Rt.end {v : Option Value} {H : Heap} {locs : List Loc} (hz : H.size = sz) (hH : HR κ.δ w H) (hA : ∀ a, w a ≠ none → κ.A a) (hS : va_S κ.A κ.s.heap H locs) : ∀ t : State, t.heap = H → κ.s.WarmedH t.vm → QcO κ.δ (.returned v) w sz κ.A κ.as κ.s (.returned v) t :=
  fun t ht hW => ⟨⟨rfl, by rw [ht]; exact hH, by rw [ht]; exact hz, hA⟩, hS.F ht⟩
theorem Rt.go (hr : Rt κ ret PR PT) {v : Option Value} (hp : PR v w sz) {H : Heap} {locs : List Loc} {cells slots : Nat} {g : JFrame} (h1 : cells ≤ κ.R.cells) (h2 : slots ≤ κ.R.slots) (k : W κ.p κ.l κ.e κ.R κ.s κ.m κ.as κ.bl κ.me κ.c H locs κ.R.cells κ.R.slots (MQ κ.bl (QcO κ.δ (.returned v) w sz κ.A) κ.as κ.s κ.R.cells κ.R.slots κ.A) g) : Wk κ H locs cells slots g :=
  W.widen h1 h2 (W.mono (fun t ht => hr.2.1 v w sz t hp ht) k)
theorem g_ireturn (h : Ok κ own cc d) (hr : Rt κ (some .int) PR PT) {z : Int} (dd : decode cc pc = .ok (.ireturn, 1)) (hp : PR (some (vI z)) w sz) : G κ w sz kc ks L pc [vI z] := by
  intro H locs ls cells slots hz hH hA hS hl hc hs
  exact hr.go hp (by omega) (by omega) (W.iret h.hx h.hb hr.1 (Rt.end hz hH hA hS) hS.2.2 dd h.lk)
theorem g_zreturn (h : Ok κ own cc d) (hr : Rt κ (some .boolean) PR PT) {z : Int} (dd : decode cc pc = .ok (.ireturn, 1)) (hp : PR (some (vI z)) w sz) (hz01 : z = 0 ∨ z = 1) : G κ w sz kc ks L pc [vI z] := by
  intro H locs ls cells slots hz hH hA hS hl hc hs
  exact hr.go hp (by omega) (by omega) (W.zret h.hx h.hb hr.1 (nar_z hz01) (Rt.end hz hH hA hS) hS.2.2 dd h.lk)
theorem g_vreturn (h : Ok κ own cc d) (hr : Rt κ none PR PT) (dd : decode cc pc = .ok (.return_, 1)) (hp : PR none w sz) : G κ w sz kc ks L pc [] := by
  intro H locs ls cells slots hz hH hA hS hl hc hs
  exact hr.go hp (by omega) (by omega) (W.vret h.hx h.hb hr.1 (Rt.end hz hH hA hS) hS.2.2 dd h.lk)
theorem g_areturn (h : Ok κ own cc d) {rt : FieldType} (hr : Rt κ (some rt) PR PT) {v : Value} (hrt : (∃ n, rt = .object n) ∨ ∃ t, rt = .array t) (hv : v = .null ∨ ∃ a, v = .ref a) (dd : decode cc pc = .ok (.areturn, 1)) (hp : PR (some v) w sz) : G κ w sz kc ks L pc [v] := by
  intro H locs ls cells slots hz hH hA hS hl hc hs
  exact hr.go hp (by omega) (by omega) (W.aret h.hx h.hb hr.1 hrt hv (Rt.end hz hH hA hS) hS.2.2 dd h.lk)
/-- no handler: the exception leaves the method -/
theorem g_out (h : Ok κ own cc d) (hr : Rt κ ret PR PT) (hn : κ.c.exceptionTable.isEmpty = true) {x : Nat} (hp : PT x w sz) : GT κ w sz kc ks L pc x := by
  intro H locs ls cells slots hz hH hA hS hl hc hs st T hT X
  have X2 := stand_widen X (show cells ≤ κ.R.cells by omega) (show slots ≤ κ.R.slots by omega)
  have hno : ∀ y ∈ κ.c.exceptionTable.toList, covers y pc = false := by
    intro y hy
    have h0 : κ.c.exceptionTable.size = 0 := by simpa [Array.isEmpty] using hn
    have h1 : κ.c.exceptionTable.toList = [] := List.eq_nil_of_length_eq_zero (by simpa using h0)
    rw [h1] at hy
    cases hy
  obtain ⟨h1, h2, h3, h4, h5⟩ := X2.leaveThrown x (g := F0 κ.m pc ls st) rfl rfl rfl hno h.lk
  exact ⟨_, h1, hr.2.2 x w sz _ hp ⟨_, h2, h3, ⟨⟨rfl, by rw [show (T.setFrames (.throwing x :: κ.bl)).heap = T.heap from rfl, hT]; exact hH, by rw [show (T.setFrames (.throwing x :: κ.bl)).heap = T.heap from rfl, hT]; exact hz, hA⟩, hS.F (t := T.setFrames (.throwing x :: κ.bl)) hT⟩, locs, ⟨⟨x, rfl⟩, h4, h5⟩, hS.2.2⟩⟩
theorem g_athrow (h : Ok κ own cc d) {x : Nat} (dd : decode cc pc = .ok (.athrow, 1)) (k : GT κ w sz kc ks L pc x) : G κ w sz kc ks L pc (.ref x :: st) := by
  intro H locs ls cells slots hz hH hA hS hl hc hs T hT X
  obtain ⟨t, a1, b1⟩ := k H locs ls cells slots hz hH hA hS hl hc hs st T hT X
  refine ⟨t, ?_, b1⟩
  have hx := h.hx
  have hdg : decode κ.c.code pc = .ok (.athrow, 1) := by rw [h.hb]; exact dd
  jvm_step X.here [hx, hdg, athrow.wp_sem]
  exact a1
/-! calls -/
theorem pc_blind {δ : Dl} {av : List Value} {w : Hw} {sz : Nat} : FrameBlind (PcP δ av w sz) := by
  intro a U g mk h
  obtain ⟨h0, h1, h2, h3, h4⟩ := h
  exact ⟨h0, h1, h2, h3.calling, h4.go (Vm.Alike.refl U.vm) (fun _ _ _ => rfl) (fun _ h => h)⟩
theorem pc_at (h : Ok κ own cc d) {av : List Value} {H : Heap} {locs : List Loc} (hz : H.size = sz) (hH : HR κ.δ w H) (hA : ∀ a, w a ≠ none → κ.A a) (hS : va_S κ.A κ.s.heap H locs) : ∀ U : State, U.heap = H → κ.s.WarmedH U.vm → PcP κ.δ av w sz av.toArray U := by
  intro U hU hW
  refine ⟨rfl, by rw [hU]; exact hz, by rw [hU]; exact hH, h.K.warm hW, ?_⟩
  rw [hU]
  refine h.sx.go hW.alike (fun a h1 h2 => hS.2.1 a h1 h2) (fun q hq => ?_)
  rcases hq with hq | hq
  · exact hA q hq
  · exact h.hA q (Nat.le_trans hS.1 (by rw [hz]; exact hq))
theorem free_A (h : Ok κ own cc d) {H : Heap} {locs : List Loc} (hz : H.size = sz) (hA : ∀ a, w a ≠ none → κ.A a) (hS : va_S κ.A κ.s.heap H locs) : ∀ q, WA w sz q → κ.A q := by
  intro q hq
  rcases hq with hq | hq
  · exact hA q hq
  · exact h.hA q (Nat.le_trans hS.1 (by rw [hz]; exact hq))
/-- behind a call that returned -/
theorem g_after (h : Ok κ own cc d) {H : Heap} {locs : List Loc} {ls : Array Slot} {cells slots mc ms : Nat} {a : Array Value} {v0 : Option Value} {st0 rest : List Value} (hz0 : H.size = sz) (hA : ∀ a, w a ≠ none → κ.A a) (hS : va_S κ.A κ.s.heap H locs) (hl : lv_has ls κ.nL (lvs 0 L)) (hc : cells + kc ≤ κ.R.cells) (hs : slots + ks ≤ κ.R.slots) (hmc : mc ≤ kc) (hms : ms ≤ ks)
    (hr : va_Run κ.p κ.l κ.e κ.R κ.s κ.m κ.as κ.bl κ.me κ.c H locs cells slots mc ms (F0 κ.m pc ls st0) rest (QcO κ.δ (.returned v0) w' sz' (WA w sz) a) (WA w sz))
    (kk : G κ w' sz' (kc - mc) (ks - ms) L (pc + 3) (v0.toList ++ rest)) : Wk κ H locs cells slots (F0 κ.m pc ls st0) := by
  intro T hT X
  obtain ⟨v, st₀, t, T', L', h0, X', hL, e1, e2, ⟨⟨hv, hH', hz', hA'⟩, hz, hk⟩, stp⟩ := hr T hT X
  cases hv
  rw [h0] at hz hk
  have hf := free_A h hz0 hA hS
  obtain ⟨t2, a1, b1⟩ := kk T'.heap (locs ++ L') ls (cells + mc) (slots + ms) (by rw [e1]; exact hz') (by rw [e1]; exact hH') (fun a ha => hf a (hA' a ha))
    ⟨Nat.le_trans hS.1 (by rw [e1]; exact hz), fun q h1 h2 => by rw [e1, hk q (Nat.lt_of_lt_of_le h1 hS.1) (fun z => h2 (hf q z))]; exact hS.2.1 q h1 h2, fun q hq => by
      rcases List.mem_append.mp hq with h | h
      · exact hS.2.2 q h
      · exact hf _ (hL q h)⟩ hl (by omega) (by omega) T' rfl X'
  exact ⟨t2, stp t2 a1, b1⟩
/-- the words of a call through an object -/
def CV (own : String) (idx : Nat) (C : String) (y : MethodName) (b : ByteArray) (n : Nat) (ret : Option FieldType) (na : Nat) : Prop := (GoodIn lw_all (wsV own idx C y (ws_ y b n ret)) ∧ y.cls = C ∧ y.cls ≠ "java/lang/invoke/MethodHandle" ∧ y.cls ≠ "java/lang/invoke/VarHandle" ∧ (parseMethodDescriptor y.desc).map (fun d => d.parameters.length) = some na ∧ n ≤ 45)
def CS (own : String) (idx : Nat) (y : MethodName) (b : ByteArray) (n : Nat) (ret : Option FieldType) (na : Nat) : Prop := (GoodIn lw_all (va_wsS own idx y (ws_ y b n ret)) ∧ y.cls ≠ "java/lang/invoke/MethodHandle" ∧ y.cls ≠ "java/lang/invoke/VarHandle" ∧ (parseMethodDescriptor y.desc).map (fun d => d.parameters.length) = some na ∧ n ≤ 45)
theorem rm_ok (h : Ok κ own cc d) {d' mc ms n : Nat} (hd : d' < d) (hn : n ≤ 45) : (rmOf d' mc ms).frames + 1 ≤ κ.R.frames ∧ 8 + (n + 11) + (rmOf d' mc ms).locals ≤ κ.R.locals := by
  have h1 := h.fr
  have h2 := h.lo
  constructor
  · show d' + 1 ≤ _
    omega
  · show 8 + (n + 11) + 64 * d' ≤ _
    omega
theorem recv_of' (h : Ok κ own cc d) {H : Heap} (hH : HR κ.δ w H) {b ci : Nat} {f : Nat → Value} {q : vw_C} (hw : w b = some (.inr (ci, f))) (hc : CL[ci]? = some q) : ∃ cell : Cell, H[b]? = some cell ∧ cell.vm.isStatics = false ∧ κ.s.vm.findClass q.1 = some cell.cls := by
  obtain ⟨r, hr, cell, g1, g2, g3, -⟩ := hH b _ hw
  exact ⟨cell, g1, by rw [g3]; rfl, by rw [g2]; exact (h.K.1.1 ci q hc).2.1⟩
theorem st_room {pc : Nat} {ls : Array Slot} {st0 : List Value} (hW : (st.map fun v => v.category).sum ≤ 8) : 2 * (F0 κ.m pc ls st0).monitorRoom + (st.map fun v => v.category).sum ≤ 8 := by
  show 2 * 0 + _ ≤ 8
  omega
/-- invokevirtual of the receiver's own class's method -/
theorem g_callV (h : Ok κ own cc d) {C : String} {idx : Nat} {y : MethodName} {b : ByteArray} {n na d' mc ms ci o : Nat} {retC : Option FieldType} {As : List Value} {v0 : Option Value} {f : Nat → Value} {q : vw_C} (cv : CV own idx C y b n retC na) (hM : MC κ.l κ.δ y (ws_ y b n retC) d' mc ms (.ref o :: As) w sz v0 w' sz') (hw : w o = some (.inr (ci, f))) (hcl : CL[ci]? = some q) (hq : q.1 = C)
    {st0 : List Value} (hst : st0 = As.reverse ++ .ref o :: st) (hna : As.length = na) (dd : decode cc pc = .ok (.invokevirtual idx, 3)) (hd : d' < d) (hmc : mc ≤ kc) (hms : ms ≤ ks) (hW : (st.map fun v => v.category).sum ≤ 8)
    (kk : G κ w' sz' (kc - mc) (ks - ms) L (pc + 3) (v0.toList ++ st)) : G κ w sz kc ks L pc st0 := by
  subst hst; subst hq
  intro H locs ls cells slots hz hH hA hS hl hc hs
  obtain ⟨cg, cy, ch1, ch2, cn, cle⟩ := cv
  refine g_after (mc := mc) (ms := ms) h hz hA hS hl hc hs hmc hms (va_runV (As := As) (rest := st) ⟨h.hx, h.hb, h.hml, h.hown, h.hts⟩ hM (cwV na h.hts cg rfl rfl rfl ⟨cy, ch1, ch2, cn⟩ (rm_ok h hd cle)) ⟨pc_blind, recv_of' h hH hw hcl, pc_at h hz hH hA hS⟩ rfl hna hl.1 rfl (st_room hW) dd ⟨?_, ?_⟩) kk
  · omega
  · omega
theorem g_callS (h : Ok κ own cc d) {idx : Nat} {y : MethodName} {b : ByteArray} {n na d' mc ms : Nat} {retC : Option FieldType} {As : List Value} {v0 : Option Value} (cv : CS own idx y b n retC na) (hM : MC κ.l κ.δ y (ws_ y b n retC) d' mc ms As w sz v0 w' sz')
    {st0 : List Value} (hst : st0 = As.reverse ++ st) (hna : As.length = na) (dd : decode cc pc = .ok (.invokestatic idx, 3)) (hd : d' < d) (hmc : mc ≤ kc) (hms : ms ≤ ks) (hW : (st.map fun v => v.category).sum ≤ 8)
    (kk : G κ w' sz' (kc - mc) (ks - ms) L (pc + 3) (v0.toList ++ st)) : G κ w sz kc ks L pc st0 := by
  subst hst
  intro H locs ls cells slots hz hH hA hS hl hc hs
  obtain ⟨cg, ch1, ch2, cn, cle⟩ := cv
  refine g_after (mc := mc) (ms := ms) h hz hA hS hl hc hs hmc hms (va_runS (As := As) (rest := st) ⟨h.hx, h.hb, h.hml, h.hown, h.hts⟩ hM (va_cwS na h.hts cg rfl rfl rfl ⟨ch1, ch2, cn⟩ (rm_ok h hd cle)) ⟨pc_blind, pc_at h hz hH hA hS⟩ rfl hna hl.1 rfl (st_room hW) dd ⟨?_, ?_⟩) kk
  · omega
  · omega
end GC
