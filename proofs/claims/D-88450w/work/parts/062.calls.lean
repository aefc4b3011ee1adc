/-! ===== calls of all kinds ===== -/
set_option maxRecDepth 100000
section THR
variable {l : Launch} {R : Room} {p : Program} {e : Env} {below : List Frame} {s : State} {m : MethodId} {args : Array Value} {meth : Method} {c : Code} {U : State} {locs : List Loc} {cells slots : Nat}
/-- a call of a method that throws: the caller's frame with the exception over it -/
theorem thr_pay {y : MethodName} {ws : List Cond} {rm : Room} {Pc : Array Value → State → Prop} {Qc : Array Value → State → Outcome → State → Prop} {mc ms : Nat} {free : Addr → Prop} {bytes : ByteArray} {maxL : Nat} {ret : Option FieldType}
    (hM : MetT l y ws rm Pc Qc mc ms free) (hbl : FrameBlind Pc) (hrc : rm.cells = mc) (hrs : rm.slots = ms) (hfr : rm.frames + 1 ≤ R.frames) (hlo : 8 + (maxL + 11) + rm.locals ≤ R.locals)
    (hws : ∀ w ∈ ws, ∀ (a' : Array Value) (U : State), s.WarmedH U.vm → w.before a' U = true) (hcw : Cond.code y bytes maxL ret ∈ ws) (hini : ∀ (a' : Array Value) (U : State), s.WarmedH U.vm → (Cond.initialized y.cls).before a' U = true)
    (X : Stand p l e R s m args below meth c U locs cells slots) {g : JFrame} {ig : Instr} {len : Nat} (hg : g.method = m) (hsize : g.locals.size = c.maxLocals) (hdg : decode c.code g.pc = .ok (ig, len))
    (hW : 2 * g.monitorRoom + (g.stack.map fun v => v.category).sum ≤ 8) {mk : MethodId} (hn : U.methodNamed? y = some mk) (hc : cells + mc ≤ R.cells) (hs : slots + ms ≤ R.slots) {a : Array Value} (hP : Pc a U) :
    ∃ (x : Addr) (st₀ t T' : State) (L : List Loc), st₀.heap = U.heap ∧ Stand p l e R s m args below meth c T' (locs ++ L) (cells + mc) (slots + ms) ∧ (∀ q ∈ L, free q.base) ∧ T'.heap = t.heap ∧ Qc a st₀ (.threw x) t ∧ Steps p.tables e below (doInvoke e (U.setTop g) [] mk a).1 ((T'.setTop g).pushFrame (.throwing x)) := by
  have hcode := hws _ hcw a U X.warmed
  obtain ⟨methY, cY, hmY, hcY, -, hlY, -⟩ := Cond.code_spec hn hcode
  obtain ⟨kY, hkY, -⟩ := className_of_methodNamed hn
  have hiY : kY.init = .initialized := Cond.initialized_spec (findClass_of_methodNamed hn) hkY (hini a U X.warmed)
  have hat : At U g.method c below := by rw [hg]; exact X.here
  have happ : (headSpec ws rm).appliesLoose y e.platform (U.calling g mk a) = true :=
    Spec.appliesLoose_calling (g := g) hat hdg hn hkY hiY (X.room_calling (g := g) (R' := (headSpec ws rm).room) hsize hmY hcY hfr (by rw [hlY]; show _ + (maxL + 11) + rm.locals ≤ _; omega) (by show cells + rm.cells ≤ _; omega) (by show slots + rm.slots ≤ _; omega)) (atoms_intro fun w hw => hws w hw _ _ X.warmed)
  obtain ⟨mid, hmid⟩ := hat.above
  have hfrm : (U.setTop g).frames = (.java g :: mid) ++ below := by rw [State.frames_setTop' g hat.top, hmid]; rfl
  obtain ⟨o, t, hst, -, hend, hq0⟩ := Steps.callFree hM p X.admits X.cas X.clock (acts := []) hfrm happ (hbl _ _ _ _ hP) trivial
  have hq0' : Qc a (U.calling g mk a) o t ∧ ∃ L, FrT (U.calling g mk a) o t L mc ms ∧ ∀ q ∈ L, free q.base := hq0
  obtain ⟨hq, L, ⟨⟨x, rfl⟩, hWt, e2, q2, q3, q4, q5, q6⟩, hL⟩ := hq0'
  rw [State.frames_setTop' g hat.top] at hend
  have hft : t.frames = .throwing x :: .java g :: U.frames.tail := hend
  have hWt' : U.WarmedH t.vm := hWt
  obtain ⟨g₀, hg0⟩ := Option.isSome_iff_exists.mp hat.top
  obtain ⟨r, hr⟩ := State.topJava?_eq_some.mp hg0
  have e3 : t = ({ (U.calling g mk a).setFrames t.frames with heap := t.heap, slotsUsed := t.slotsUsed } : State).setVm t.vm := by
    have h0 : t = ({ t with vm := (U.calling g mk a).vm } : State).setVm t.vm := rfl
    rw [e2] at h0
    exact h0
  have hr' : (({ U with heap := t.heap, slotsUsed := t.slotsUsed } : State).setVm t.vm).frames = .java g₀ :: r := hr
  have et : t = ((({ U with heap := t.heap, slotsUsed := t.slotsUsed } : State).setVm t.vm).setTop g).pushFrame (.throwing x) := by
    refine e3.trans ?_
    rw [hft, State.calling_eq hat.top, State.setFrames_setFrames, State.pushFrame, State.frames_setTop _ hr', State.setTop_of_frames _ hr', State.setFrames_setFrames, hr]
    rfl
  have hsame : U.sameButNew ({ U with heap := t.heap, slotsUsed := t.slotsUsed } : State) L mc ms := by
    refine ⟨?_, q2, q3, q4, q5, q6⟩
    obtain ⟨th, hth, -⟩ := State.frames_cons hr
    show ({ U with heap := t.heap, slotsUsed := t.slotsUsed } : State) = { U.setFrames U.frames with heap := t.heap, slotsUsed := t.slotsUsed }
    rw [State.setFrames_self hth]
  refine ⟨x, U.calling g mk a, t, ({ U with heap := t.heap, slotsUsed := t.slotsUsed } : State).setVm t.vm, L, rfl,
    ⟨X.admits, X.cas, X.clock, X.frames, X.room, X.hears, X.method, X.code, (X.here.setHeapUsed t.heap t.slotsUsed).setVm hWt'.alike, X.tail, State.WarmedH.trans X.warmed hWt', X.limits, X.bytes, X.same.trans (hsame.setVm s.vm)⟩, hL, rfl, hq, ?_⟩
  rw [← et]
  exact hst
end THR
section GD
variable {κ : Cx} {own : String} {cc : ByteArray} {d : Nat} {w w' : Hw} {sz sz' kc ks : Nat} {L : List (Option Value)} {pc : Nat} {st : List Value}
/-- behind a call that threw -/
theorem g_afterT (h : Ok κ own cc d) {H : Heap} {locs : List Loc} {ls : Array Slot} {cells slots mc ms : Nat} {a : Array Value} {x0 : Nat} {rest : List Value} (hz0 : H.size = sz) (hA : ∀ a, w a ≠ none → κ.A a) (hS : va_S κ.A κ.s.heap H locs) (hl : lv_has ls κ.nL (lvs 0 L)) (hc : cells + kc ≤ κ.R.cells) (hs : slots + ks ≤ κ.R.slots) (hmc : mc ≤ kc) (hms : ms ≤ ks) {T : State}
    (hr : ∃ (x : Addr) (st₀ t T' : State) (L' : List Loc), st₀.heap = H ∧ Stand κ.p κ.l κ.e κ.R κ.s κ.m κ.as κ.bl κ.me κ.c T' (locs ++ L') (cells + mc) (slots + ms) ∧ (∀ q ∈ L', WA w sz q.base) ∧ T'.heap = t.heap ∧ QcO κ.δ (.threw x0) w' sz' (WA w sz) a st₀ (.threw x) t ∧ ∀ tg, Steps κ.p.tables κ.e κ.bl ((T'.setTop (F0 κ.m pc ls rest)).pushFrame (.throwing x)) tg → Steps κ.p.tables κ.e κ.bl T tg)
    (kk : GT κ w' sz' (kc - mc) (ks - ms) L pc x0) : ∃ t, Steps κ.p.tables κ.e κ.bl T t ∧ κ.Q t := by
  obtain ⟨x, st₀, t, T', L', h0, X', hL, e1, ⟨⟨hv, hH', hz', hA'⟩, hz, hk⟩, stp⟩ := hr
  cases hv
  rw [h0] at hz hk
  have hf := free_A h hz0 hA hS
  obtain ⟨t2, a1, b1⟩ := kk T'.heap (locs ++ L') ls (cells + mc) (slots + ms) (by rw [e1]; exact hz') (by rw [e1]; exact hH') (fun a ha => hf a (hA' a ha))
    ⟨Nat.le_trans hS.1 (by rw [e1]; exact hz), fun q h1 h2 => by rw [e1, hk q (Nat.lt_of_lt_of_le h1 hS.1) (fun z => h2 (hf q z))]; exact hS.2.1 q h1 h2, fun q hq => by
      rcases List.mem_append.mp hq with h | h
      · exact hS.2.2 q h
      · exact hf _ (hL q h)⟩ hl (by omega) (by omega) rest T' rfl X'
  exact ⟨t2, stp t2 a1, b1⟩
/-- behind an interface call -/
theorem g_after5 (h : Ok κ own cc d) {H : Heap} {locs : List Loc} {ls : Array Slot} {cells slots mc ms : Nat} {a : Array Value} {v0 : Option Value} {st0 rest : List Value} (hz0 : H.size = sz) (hA : ∀ a, w a ≠ none → κ.A a) (hS : va_S κ.A κ.s.heap H locs) (hl : lv_has ls κ.nL (lvs 0 L)) (hc : cells + kc ≤ κ.R.cells) (hs : slots + ks ≤ κ.R.slots) (hmc : mc ≤ kc) (hms : ms ≤ ks)
    (hr : va_Run5 κ.p κ.l κ.e κ.R κ.s κ.m κ.as κ.bl κ.me κ.c H locs cells slots mc ms (F0 κ.m pc ls st0) rest (QcO κ.δ (.returned v0) w' sz' (WA w sz) a) (WA w sz))
    (kk : G κ w' sz' (kc - mc) (ks - ms) L (pc + 5) (v0.toList ++ rest)) : Wk κ H locs cells slots (F0 κ.m pc ls st0) := by
  intro T hT X
  obtain ⟨v, st₀, t, T', L', h0, X', hL, e1, e2, ⟨⟨hv, hH', hz', hA'⟩, hz, hk⟩, stp⟩ := hr T hT X
  cases hv
  rw [h0] at hz hk
  have hf := free_A h hz0 hA hS
  obtain ⟨t2, a1, b1⟩ := kk T'.heap (locs ++ L') ls (cells + mc) (slots + ms) (by rw [e1]; exact hz') (by rw [e1]; exact hH') (fun a ha => hf a (hA' a ha))
    ⟨Nat.le_trans hS.1 (by rw [e1]; exact hz), fun q h1 h2 => by rw [e1, hk q (Nat.lt_of_lt_of_le h1 hS.1) (fun z => h2 (hf q z))]; exact hS.2.1 q h1 h2, fun q hq => by
      rcases List.mem_append.mp hq with h | h
      · exact hS.2.2 q h
      · exact hf _ (hL q h)⟩ hl (by omega) (by omega) T' rfl X'
  exact ⟨t2, stp t2 a1, b1⟩
/-- a constructor's call -/
def CI (own : String) (idx : Nat) (y : MethodName) (b : ByteArray) (n : Nat) (na : Nat) : Prop := GoodIn lw_all (ws_ y b n none) ∧ (Cond.methodLink own idx y ∈ lw_all ∨ ∃ host, (own, idx, y, host) ∈ NWm) ∧ Cond.initialized y.cls ∈ lw_all ∧ Cond.instanceMethod y ∈ lw_all ∧ y.name = "<init>" ∧ y.cls ≠ "java/lang/invoke/MethodHandle" ∧ y.cls ≠ "java/lang/invoke/VarHandle" ∧ (parseMethodDescriptor y.desc).map (fun d => d.parameters.length) = some na ∧ n ≤ 45
theorem Ok.nwm (h : Ok κ own cc d) {q : String × Nat × MethodName × String} (hq : q ∈ NWm) : va_Nw (.methodLinkNest q.1 q.2.1 q.2.2.1 q.2.2.2) κ.s := h.K.2.2.1 q hq
theorem g_callI (h : Ok κ own cc d) {idx : Nat} {y : MethodName} {b : ByteArray} {n na d' mc ms o : Nat} {As : List Value} {v0 : Option Value} (cv : CI own idx y b n na) (hM : MC κ.l κ.δ y (ws_ y b n none) d' mc ms (.ref o :: As) w sz v0 w' sz')
    {st0 : List Value} (hst : st0 = As.reverse ++ .ref o :: st) (hna : As.length = na) (dd : decode cc pc = .ok (.invokespecial idx, 3)) (hd : d' < d) (hmc : mc ≤ kc) (hms : ms ≤ ks) (hW : (st.map fun v => v.category).sum ≤ 8)
    (kk : G κ w' sz' (kc - mc) (ks - ms) L (pc + 3) (v0.toList ++ st)) : G κ w sz kc ks L pc st0 := by
  subst hst
  intro H locs ls cells slots hz hH hA hS hl hc hs
  obtain ⟨cg, clk, cini, cin, cy, ch1, ch2, cn, cle⟩ := cv
  rcases clk with clk | ⟨host, clk⟩
  · exact g_after (mc := mc) (ms := ms) h hz hA hS hl hc hs hmc hms (va_runI (As := As) (rest := st) ⟨h.hx, h.hb, h.hml, h.hown, h.hts⟩ hM (cwI na h.hts cg rfl rfl rfl (h.hts _ cini) (h.hts _ clk) (h.hts _ cin) cy ⟨ch1, ch2, cn⟩ (rm_ok h hd cle)) ⟨pc_blind, pc_at h hz hH hA hS⟩ rfl hna hl.1 rfl (st_room hW) dd ⟨by omega, by omega⟩) kk
  · exact g_after (mc := mc) (ms := ms) h hz hA hS hl hc hs hmc hms (va_runIN (As := As) (rest := st) ⟨h.hx, h.hb, h.hml, h.hown, h.hts⟩ hM ⟨va_cnB na h.hts cg rfl rfl rfl (h.nwm clk) (h.hts _ cini) ⟨ch1, ch2, cn⟩ (rm_ok h hd cle), cy, h.hts _ cin⟩ ⟨pc_blind, pc_at h hz hH hA hS⟩ rfl hna hl.1 rfl (st_room hW) dd ⟨by omega, by omega⟩) kk
/-- a nest mate's private method, or private static one -/
def CVN (own : String) (idx : Nat) (C : String) (y : MethodName) (b : ByteArray) (n : Nat) (ret : Option FieldType) (na : Nat) : Prop := GoodIn lw_all (ws_ y b n ret) ∧ (∃ host, (own, idx, y, host) ∈ NWm) ∧ Cond.initialized y.cls ∈ lw_all ∧ Cond.instanceMethod y ∈ lw_all ∧ Cond.selects C y y ∈ lw_all ∧ y.cls ≠ "java/lang/invoke/MethodHandle" ∧ y.cls ≠ "java/lang/invoke/VarHandle" ∧ (parseMethodDescriptor y.desc).map (fun d => d.parameters.length) = some na ∧ n ≤ 45
def CSN (own : String) (idx : Nat) (y : MethodName) (b : ByteArray) (n : Nat) (ret : Option FieldType) (na : Nat) : Prop := GoodIn lw_all (ws_ y b n ret) ∧ (∃ host, (own, idx, y, host) ∈ NWm) ∧ Cond.initialized y.cls ∈ lw_all ∧ Cond.static y ∈ lw_all ∧ y.cls ≠ "java/lang/invoke/MethodHandle" ∧ y.cls ≠ "java/lang/invoke/VarHandle" ∧ (parseMethodDescriptor y.desc).map (fun d => d.parameters.length) = some na ∧ n ≤ 45
theorem g_callVN (h : Ok κ own cc d) {C : String} {idx : Nat} {y : MethodName} {b : ByteArray} {n na d' mc ms ci o : Nat} {retC : Option FieldType} {As : List Value} {v0 : Option Value} {f : Nat → Value} {q : vw_C} (cv : CVN own idx C y b n retC na) (hM : MC κ.l κ.δ y (ws_ y b n retC) d' mc ms (.ref o :: As) w sz v0 w' sz') (hw : w o = some (.inr (ci, f))) (hcl : CL[ci]? = some q) (hq : q.1 = C)
    {st0 : List Value} (hst : st0 = As.reverse ++ .ref o :: st) (hna : As.length = na) (dd : decode cc pc = .ok (.invokevirtual idx, 3)) (hd : d' < d) (hmc : mc ≤ kc) (hms : ms ≤ ks) (hW : (st.map fun v => v.category).sum ≤ 8)
    (kk : G κ w' sz' (kc - mc) (ks - ms) L (pc + 3) (v0.toList ++ st)) : G κ w sz kc ks L pc st0 := by
  subst hst; subst hq
  intro H locs ls cells slots hz hH hA hS hl hc hs
  obtain ⟨cg, ⟨host, clk⟩, cini, cin, csel, ch1, ch2, cn, cle⟩ := cv
  exact g_after (mc := mc) (ms := ms) h hz hA hS hl hc hs hmc hms (va_runVN (As := As) (rest := st) ⟨h.hx, h.hb, h.hml, h.hown, h.hts⟩ hM ⟨va_cnB na h.hts cg rfl rfl rfl (h.nwm clk) (h.hts _ cini) ⟨ch1, ch2, cn⟩ (rm_ok h hd cle), h.hts _ cin, h.hts _ csel⟩ ⟨pc_blind, recv_of' h hH hw hcl, pc_at h hz hH hA hS⟩ rfl hna hl.1 rfl (st_room hW) dd ⟨by omega, by omega⟩) kk
theorem g_callSN (h : Ok κ own cc d) {idx : Nat} {y : MethodName} {b : ByteArray} {n na d' mc ms : Nat} {retC : Option FieldType} {As : List Value} {v0 : Option Value} (cv : CSN own idx y b n retC na) (hM : MC κ.l κ.δ y (ws_ y b n retC) d' mc ms As w sz v0 w' sz')
    {st0 : List Value} (hst : st0 = As.reverse ++ st) (hna : As.length = na) (dd : decode cc pc = .ok (.invokestatic idx, 3)) (hd : d' < d) (hmc : mc ≤ kc) (hms : ms ≤ ks) (hW : (st.map fun v => v.category).sum ≤ 8)
    (kk : G κ w' sz' (kc - mc) (ks - ms) L (pc + 3) (v0.toList ++ st)) : G κ w sz kc ks L pc st0 := by
  subst hst
  intro H locs ls cells slots hz hH hA hS hl hc hs
  obtain ⟨cg, ⟨host, clk⟩, cini, cst, ch1, ch2, cn, cle⟩ := cv
  exact g_after (mc := mc) (ms := ms) h hz hA hS hl hc hs hmc hms (va_runSN (As := As) (rest := st) ⟨h.hx, h.hb, h.hml, h.hown, h.hts⟩ hM ⟨va_cnB na h.hts cg rfl rfl rfl (h.nwm clk) (h.hts _ cini) ⟨ch1, ch2, cn⟩ (rm_ok h hd cle), h.hts _ cst, trivial⟩ ⟨pc_blind, pc_at h hz hH hA hS⟩ rfl hna hl.1 rfl (st_room hW) dd ⟨by omega, by omega⟩) kk
/-- a call through an object whose class selects y for x -/
def CU (own : String) (idx : Nat) (C owner : String) (x y : MethodName) (b : ByteArray) (n : Nat) (ret : Option FieldType) (na : Nat) : Prop := GoodIn lw_all (va_wsU own idx C owner x y (ws_ y b n ret)) ∧
  (y = ⟨owner, x.name, x.desc⟩ ∨ (GoodIn lw_all (va_wsO own idx C owner x y (ws_ y b n ret)) ∧ ∃ b0 m0 r0, Cond.code ⟨owner, x.name, x.desc⟩ b0 m0 r0 ∈ lw_all) ∨ (⟨owner, x.name, x.desc⟩ : MethodName) ∈ NWd) ∧ owner ≠ "java/lang/invoke/MethodHandle" ∧ owner ≠ "java/lang/invoke/VarHandle" ∧ (parseMethodDescriptor x.desc).map (fun d => d.parameters.length) = some na ∧ n ≤ 45
theorem CU.words (h : Ok κ own cc d) {C owner : String} {idx : Nat} {x y : MethodName} {b : ByteArray} {n na d' mc ms : Nat} {retC : Option FieldType} (cv : CU own idx C owner x y b n retC na) (hd : d' < d) : va_CU κ.R κ.s κ.as own C owner idx x y b n retC (ws_ y b n retC) (rmOf d' mc ms) mc ms na := by
  obtain ⟨cg, ck, ch1, ch2, cn, cle⟩ := cv
  rcases ck with ck | ⟨ck, b0, m0, r0, ck2⟩ | ck
  · exact va_cwU na h.hts cg rfl rfl rfl ck ⟨ch1, ch2, cn⟩ (rm_ok h hd cle)
  · exact va_cwO na h.hts ck rfl rfl rfl ck2 ⟨ch1, ch2, cn⟩ (rm_ok h hd cle)
  · exact va_cwA na h.hts cg rfl rfl rfl (h.K.2.2.2.2.1 _ ck) ⟨ch1, ch2, cn⟩ (rm_ok h hd cle)
theorem g_callU (h : Ok κ own cc d) {C owner : String} {idx : Nat} {x y : MethodName} {b : ByteArray} {n na d' mc ms ci o : Nat} {retC : Option FieldType} {As : List Value} {v0 : Option Value} {f : Nat → Value} {q : vw_C} (cv : CU own idx C owner x y b n retC na) (hM : MC κ.l κ.δ y (ws_ y b n retC) d' mc ms (.ref o :: As) w sz v0 w' sz') (hw : w o = some (.inr (ci, f))) (hcl : CL[ci]? = some q) (hq : q.1 = C)
    {st0 : List Value} (hst : st0 = As.reverse ++ .ref o :: st) (hna : As.length = na) (dd : decode cc pc = .ok (.invokevirtual idx, 3)) (hd : d' < d) (hmc : mc ≤ kc) (hms : ms ≤ ks) (hW : (st.map fun v => v.category).sum ≤ 8)
    (kk : G κ w' sz' (kc - mc) (ks - ms) L (pc + 3) (v0.toList ++ st)) : G κ w sz kc ks L pc st0 := by
  subst hst; subst hq
  intro H locs ls cells slots hz hH hA hS hl hc hs
  exact g_after (mc := mc) (ms := ms) h hz hA hS hl hc hs hmc hms (va_runU (As := As) (rest := st) ⟨h.hx, h.hb, h.hml, h.hown, h.hts⟩ hM (cv.words h hd) ⟨pc_blind, recv_of' h hH hw hcl, pc_at h hz hH hA hS⟩ rfl hna hl.1 rfl (st_room hW) dd ⟨by omega, by omega⟩) kk
/-- super.m(..) -/
def CSU (own : String) (idx : Nat) (y : MethodName) (b : ByteArray) (n : Nat) (ret : Option FieldType) (na : Nat) : Prop := GoodIn lw_all (va_wsSU own idx y (ws_ y b n ret)) ∧ y.name ≠ "<init>" ∧ (parseMethodDescriptor y.desc).map (fun d => d.parameters.length) = some na ∧ n ≤ 45
theorem g_callSU (h : Ok κ own cc d) {idx : Nat} {y : MethodName} {b : ByteArray} {n na d' mc ms ci o : Nat} {retC : Option FieldType} {As : List Value} {v0 : Option Value} {f : Nat → Value} {q : vw_C} (cv : CSU own idx y b n retC na) (hM : MC κ.l κ.δ y (ws_ y b n retC) d' mc ms (.ref o :: As) w sz v0 w' sz') (hw : w o = some (.inr (ci, f))) (hcl : CL[ci]? = some q)
    {st0 : List Value} (hst : st0 = As.reverse ++ .ref o :: st) (hna : As.length = na) (dd : decode cc pc = .ok (.invokespecial idx, 3)) (hd : d' < d) (hmc : mc ≤ kc) (hms : ms ≤ ks) (hW : (st.map fun v => v.category).sum ≤ 8)
    (kk : G κ w' sz' (kc - mc) (ks - ms) L (pc + 3) (v0.toList ++ st)) : G κ w sz kc ks L pc st0 := by
  subst hst
  intro H locs ls cells slots hz hH hA hS hl hc hs
  obtain ⟨cg, ch1, cn, cle⟩ := cv
  obtain ⟨-, hfc, kC, hkC, hkind⟩ := h.K.1.1 ci q hcl
  exact g_after (mc := mc) (ms := ms) h hz hA hS hl hc hs hmc hms (va_runSU (As := As) (rest := st) (C := q.1) ⟨hfc, kC, hkC, hkind⟩ ⟨h.hx, h.hb, h.hml, h.hown, h.hts⟩ hM (va_cwSU na h.hts cg rfl rfl rfl ⟨ch1, cn⟩ (rm_ok h hd cle)) ⟨pc_blind, recv_of' h hH hw hcl, pc_at h hz hH hA hS⟩ rfl hna hl.1 rfl (st_room hW) dd ⟨by omega, by omega⟩) kk
/-- an interface's method on an ArrayList -/
def CF (own : String) (idx : Nat) (C : String) (x y : MethodName) (b : ByteArray) (n : Nat) (ret : Option FieldType) (na : Nat) : Prop := GoodIn lw_all (va_wsF own idx C x y (ws_ y b n ret)) ∧ (C = RJ2 ∧ (x = mAdd ∧ y = ⟨RJ2, "add", "(Ljava/lang/Object;)Z"⟩ ∨ x = mSize ∧ y = ⟨RJ2, "size", "()I"⟩ ∨ x = mGet ∧ y = ⟨RJ2, "get", "(I)Ljava/lang/Object;"⟩)) ∧ x.cls ≠ "java/lang/invoke/MethodHandle" ∧ x.cls ≠ "java/lang/invoke/VarHandle" ∧ (parseMethodDescriptor x.desc).map (fun d => d.parameters.length) = some na ∧ n ≤ 45
theorem CF.fw (h : Ok κ own cc d) {C : String} {x y : MethodName} (hc : C = RJ2 ∧ (x = mAdd ∧ y = ⟨RJ2, "add", "(Ljava/lang/Object;)Z"⟩ ∨ x = mSize ∧ y = ⟨RJ2, "size", "()I"⟩ ∨ x = mGet ∧ y = ⟨RJ2, "get", "(I)Ljava/lang/Object;"⟩)) : va_Fw C x y κ.s := by
  obtain ⟨-, -, -, -, -, -, ⟨h1, h2, h3⟩, -⟩ := h.K.2
  obtain ⟨rfl, hc⟩ := hc
  rcases hc with ⟨rfl, rfl⟩ | ⟨rfl, rfl⟩ | ⟨rfl, rfl⟩
  · exact h1
  · exact h2
  · exact h3
theorem g_callF (h : Ok κ own cc d) {C : String} {idx cnt : Nat} {x y : MethodName} {b : ByteArray} {n na d' mc ms ci o : Nat} {retC : Option FieldType} {As : List Value} {v0 : Option Value} {f : Nat → Value} {q : vw_C} (cv : CF own idx C x y b n retC na) (hM : MC κ.l κ.δ y (ws_ y b n retC) d' mc ms (.ref o :: As) w sz v0 w' sz') (hw : w o = some (.inr (ci, f))) (hcl : CL[ci]? = some q) (hq : q.1 = C)
    {st0 : List Value} (hst : st0 = As.reverse ++ .ref o :: st) (hna : As.length = na) (dd : decode cc pc = .ok (.invokeinterface idx cnt, 5)) (hd : d' < d) (hmc : mc ≤ kc) (hms : ms ≤ ks) (hW : (st.map fun v => v.category).sum ≤ 8)
    (kk : G κ w' sz' (kc - mc) (ks - ms) L (pc + 5) (v0.toList ++ st)) : G κ w sz kc ks L pc st0 := by
  subst hst; subst hq
  intro H locs ls cells slots hz hH hA hS hl hc hs
  obtain ⟨cg, ck, ch1, ch2, cn, cle⟩ := cv
  obtain ⟨-, hfc, kC, hkC, hkind⟩ := h.K.1.1 ci q hcl
  exact g_after5 (mc := mc) (ms := ms) h hz hA hS hl hc hs hmc hms (va_runF (As := As) (rest := st) ⟨hfc, kC, hkC, hkind⟩ ⟨h.hx, h.hb, h.hml, h.hown, h.hts⟩ hM (va_cwF na h.hts cg rfl rfl rfl (CF.fw h ck) ⟨ch1, ch2, cn⟩ (rm_ok h hd cle)) ⟨pc_blind, recv_of' h hH hw hcl, pc_at h hz hH hA hS⟩ rfl hna hl.1 rfl (st_room hW) dd ⟨by omega, by omega⟩) kk
/-- calls that throw -/
theorem g_callVT (h : Ok κ own cc d) {C : String} {idx : Nat} {y : MethodName} {b : ByteArray} {n na d' mc ms ci o x0 : Nat} {retC : Option FieldType} {As : List Value} {f : Nat → Value} {q : vw_C} (cv : CV own idx C y b n retC na) (hM : MT κ.l κ.δ y (ws_ y b n retC) d' mc ms (.ref o :: As) w sz x0 w' sz') (hw : w o = some (.inr (ci, f))) (hcl : CL[ci]? = some q) (hq : q.1 = C)
    {st0 : List Value} (hst : st0 = As.reverse ++ .ref o :: st) (hna : As.length = na) (dd : decode cc pc = .ok (.invokevirtual idx, 3)) (hd : d' < d) (hmc : mc ≤ kc) (hms : ms ≤ ks) (hW : (st.map fun v => v.category).sum ≤ 8)
    (kk : GT κ w' sz' (kc - mc) (ks - ms) L pc x0) : G κ w sz kc ks L pc st0 := by
  subst hst; subst hq
  intro H locs ls cells slots hz hH hA hS hl hc hs T hT X
  obtain ⟨cg, cy, ch1, ch2, cn, cle⟩ := cv
  have cw := cwV (rm := rmOf d' mc ms) na h.hts cg rfl rfl rfl ⟨cy, ch1, ch2, cn⟩ (rm_ok h hd cle)
  obtain ⟨⟨hrc, hrs, hfr, hlo, hws, hcw, hcode, hini, hy, hlen, hlk⟩, hin, hse⟩ := cw
  obtain ⟨cellB, hcB, hoB, hclB⟩ := recv_of' h hH hw hcl
  obtain ⟨mk, methM, hnamed, hmethM, hstM, habM⟩ := Cond.instanceMethod_spec hin
  obtain ⟨methM', cM, hmethM', -, -, -, -, -, -, hsigM⟩ := Cond.code_spec hnamed hcode
  cases hmethM.symm.trans hmethM'
  obtain ⟨c2, r2, m2, q1, q2, q3, q4, kP, hkP, hkPi⟩ := Cond.selects_spec hse
  cases hclB.symm.trans q1
  cases (State.methodFound?_of_named hnamed hy).symm.trans q2
  cases hnamed.symm.trans q3
  have hselP : selectMethod κ.e.platform κ.s.vm cellB.cls mk = .method mk := by rw [Launch.admits_selectMethod X.admits]; exact q4
  obtain ⟨vm₁, X₁, hstep₁⟩ := X.invokevirtual h.hx h.hown hlk hnamed hmethM hstM hkP hkPi hy (a := o) (cell := cellB) (by rw [hT]; exact hcB)
    (fun z h => by rw [h] at hoB; cases hoB) hselP hmethM habM hkP hkPi (g := F0 κ.m pc ls (As.reverse ++ .ref o :: st)) rfl (argsL := As) (rest := st) (hna.trans (hlen _ hsigM)) rfl (by rw [h.hb]; exact dd)
  refine g_afterT (mc := mc) (ms := ms) (a := (Value.ref o :: As).toArray) (rest := st) h hz hA hS hl hc hs hmc hms ?_ kk
  obtain ⟨x, st₀, t, T', L', a1, a2, a3, a4, a5, a6⟩ := thr_pay (g := F0 κ.m pc ls st) hM pc_blind hrc hrs hfr hlo hws hcw (fun a' U hW => word_at hW (Or.inl (by first | rfl | simp [Cond.onTables, Cond.keeps, Cond.steady])) hini) X₁ rfl (hl.1.trans h.hml.symm) (by rw [h.hb]; exact dd) (st_room hW) (X₁.named hnamed) (by omega) (by omega) (pc_at h hz hH hA hS (T.setVm vm₁) hT X₁.warmed)
  exact ⟨x, st₀, t, T', L', a1.trans hT, a2, a3, a4, a5, fun tg ht => hstep₁ _ fun acts => by rw [doInvoke_state]; exact a6.trans ht⟩
theorem g_callUT (h : Ok κ own cc d) {C owner : String} {idx : Nat} {x y : MethodName} {b : ByteArray} {n na d' mc ms ci o x0 : Nat} {retC : Option FieldType} {As : List Value} {f : Nat → Value} {q : vw_C} (cv : CU own idx C owner x y b n retC na) (hM : MT κ.l κ.δ y (ws_ y b n retC) d' mc ms (.ref o :: As) w sz x0 w' sz') (hw : w o = some (.inr (ci, f))) (hcl : CL[ci]? = some q) (hq : q.1 = C)
    {st0 : List Value} (hst : st0 = As.reverse ++ .ref o :: st) (hna : As.length = na) (dd : decode cc pc = .ok (.invokevirtual idx, 3)) (hd : d' < d) (hmc : mc ≤ kc) (hms : ms ≤ ks) (hW : (st.map fun v => v.category).sum ≤ 8)
    (kk : GT κ w' sz' (kc - mc) (ks - ms) L pc x0) : G κ w sz kc ks L pc st0 := by
  subst hst; subst hq
  intro H locs ls cells slots hz hH hA hS hl hc hs T hT X
  have cw := cv.words (mc := mc) (ms := ms) h hd
  obtain ⟨hrc, hrs, hfr, hlo, hws, hcw⟩ := cw.back
  obtain ⟨cellB, hcB, hoB, hclB⟩ := recv_of' h hH hw hcl
  obtain ⟨r0, r, hn, hrm, hstR, hsigR⟩ := cw.decl
  obtain ⟨cn, ck, r1, hcn, hck, hni, hf, hn1⟩ := Cond.sameMethod_found cw.same
  cases hn.symm.trans hn1
  obtain ⟨mk, methM, hnamed, hmethM, -, habM⟩ := Cond.instanceMethod_spec cw.inst
  obtain ⟨c2, r2, m2, q1, q2, q3, q4, kP, hkP, hkPi⟩ := Cond.selects_spec cw.sel
  cases hclB.symm.trans q1
  cases hf.symm.trans q2
  cases hnamed.symm.trans q3
  have hselP : selectMethod κ.e.platform κ.s.vm cellB.cls r0 = .method mk := by rw [Launch.admits_selectMethod X.admits]; exact q4
  obtain ⟨vm₁, X₁, hstep₁⟩ := X.invokevirtualUp h.hx h.hown cw.link cw.same cw.notMH hn hrm hstR (a := o) (cell := cellB) (by rw [hT]; exact hcB)
    (fun z h => by rw [h] at hoB; cases hoB) hselP hmethM habM hkP hkPi (g := F0 κ.m pc ls (As.reverse ++ .ref o :: st)) rfl (argsL := As) (rest := st) (hna.trans (cw.len _ hsigR)) rfl (by rw [h.hb]; exact dd)
  refine g_afterT (mc := mc) (ms := ms) (a := (Value.ref o :: As).toArray) (rest := st) h hz hA hS hl hc hs hmc hms ?_ kk
  obtain ⟨x, st₀, t, T', L', a1, a2, a3, a4, a5, a6⟩ := thr_pay (g := F0 κ.m pc ls st) hM pc_blind hrc hrs hfr hlo hws hcw (fun a' U hW => word_at hW (Or.inl (by first | rfl | simp [Cond.onTables, Cond.keeps, Cond.steady])) cw.init) X₁ rfl (hl.1.trans h.hml.symm) (by rw [h.hb]; exact dd) (st_room hW) (X₁.named hnamed) (by omega) (by omega) (pc_at h hz hH hA hS (T.setVm vm₁) hT X₁.warmed)
  exact ⟨x, st₀, t, T', L', a1.trans hT, a2, a3, a4, a5, fun tg ht => hstep₁ _ fun acts => by rw [doInvoke_state]; exact a6.trans ht⟩
end GD
