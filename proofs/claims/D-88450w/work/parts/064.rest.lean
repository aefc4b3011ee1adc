/-! ===== the last kinds of calls: a private method on an object of a class below, an inherited static one, a method with handlers ===== -/
set_option maxRecDepth 100000
section GR4
variable {κ : Cx} {own : String} {cc : ByteArray} {d : Nat} {w w' : Hw} {sz sz' kc ks : Nat} {L : List (Option Value)} {pc : Nat} {st : List Value}
def CUP (own : String) (idx : Nat) (C : String) (y : MethodName) (b : ByteArray) (n : Nat) (ret : Option FieldType) (na : Nat) : Prop := GoodIn lw_all (ws_ y b n ret) ∧ Cond.methodLink own idx y ∈ lw_all ∧ Cond.sameMethod y.cls y.cls y.name y.desc ∈ lw_all ∧ (C, y, y) ∈ NWs ∧ Cond.instanceMethod y ∈ lw_all ∧ Cond.initialized y.cls ∈ lw_all ∧ y.cls ≠ "java/lang/invoke/MethodHandle" ∧ y.cls ≠ "java/lang/invoke/VarHandle" ∧ (parseMethodDescriptor y.desc).map (fun d => d.parameters.length) = some na ∧ n ≤ 45
theorem CUP.words (h : Ok κ own cc d) {C : String} {idx : Nat} {y : MethodName} {b : ByteArray} {n na d' mc ms : Nat} {retC : Option FieldType} (cv : CUP own idx C y b n retC na) (hd : d' < d) : va_CU κ.R κ.s κ.as own C y.cls idx y y b n retC (ws_ y b n retC) (rmOf d' mc ms) mc ms na := by
  obtain ⟨cg, clk, csm, csel, cin, cini, ch1, ch2, cn, cle⟩ := cv
  have hc : Cond.code y b n retC ∈ ws_ y b n retC := List.mem_cons_self
  have hcode := h.hts _ (cg _ hc).1
  obtain ⟨-, -, -, -, -, -, -, -, -, -, hX⟩ := h.K.2
  refine ⟨⟨rfl, rfl, (rm_ok h hd cle).1, (rm_ok h hd cle).2, pay_in h.hts cg, hc⟩, hcode, h.hts _ cini, ⟨ch1, ch2⟩, fun sig hs => ?_, h.hts _ clk, h.hts _ csm, va_Decl.of (h.hts _ cin) hcode, va_Nw.use rfl (hX _ csel), h.hts _ cin⟩
  rw [hs] at cn
  exact (Option.some.inj cn).symm
theorem g_callP (h : Ok κ own cc d) {C : String} {idx : Nat} {y : MethodName} {b : ByteArray} {n na d' mc ms ci o : Nat} {retC : Option FieldType} {As : List Value} {v0 : Option Value} {f : Nat → Value} {q : vw_C} (cv : CUP own idx C y b n retC na) (hM : MC κ.l κ.δ y (ws_ y b n retC) d' mc ms (.ref o :: As) w sz v0 w' sz') (hw : w o = some (.inr (ci, f))) (hcl : CL[ci]? = some q) (hq : q.1 = C)
    {st0 : List Value} (hst : st0 = As.reverse ++ .ref o :: st) (hna : As.length = na) (dd : decode cc pc = .ok (.invokevirtual idx, 3)) (hd : d' < d) (hmc : mc ≤ kc) (hms : ms ≤ ks) (hW : (st.map fun v => v.category).sum ≤ 8)
    (kk : G κ w' sz' (kc - mc) (ks - ms) L (pc + 3) (v0.toList ++ st)) : G κ w sz kc ks L pc st0 := by
  subst hst; subst hq
  intro H locs ls cells slots hz hH hA hS hl hc hs
  exact g_after (mc := mc) (ms := ms) h hz hA hS hl hc hs hmc hms (va_runU (As := As) (rest := st) ⟨h.hx, h.hb, h.hml, h.hown, h.hts⟩ hM (cv.words h hd) ⟨pc_blind, recv_of' h hH hw hcl, pc_at h hz hH hA hS⟩ rfl hna hl.1 rfl (st_room hW) dd ⟨by omega, by omega⟩) kk
end GR4
section STU
variable {p : Program} {l : Launch} {e : Env} {R : Room} {s : State} {m : MethodId} {args : Array Value} {below : List Frame} {meth : Method} {c : Code} {T : State} {locs : List Loc} {cells slots : Nat}
/-- invokestatic by a reference to a class below the one that declares the method: as with the entries noted -/
theorem st_cold {Q : Unit → Pre} {E : CtlPost} {dt : Bool} {acts : List Action} {u u₀ : State} {f : JFrame} {index ci nt cn : Nat} {r : MethodId} {dk ck : Class} {cf : ClassFile} {nm ds : String} (hs : u.topJava?.isSome) (hp : e.platform.polymorphicOnlyByInvokevirtual = true)
    (hW : u₀.WarmedH u.vm) (hE : u₀.MethodEntryUp e u.vm f.method.cls index cn r ci) (h1 : u₀.vm.classes[f.method.cls]? = some dk) (h2 : dk.cf = some cf) (h3 : cf.constantPool[index]? = some (.methodref ci nt)) (h4 : cf.constantPool.nameAndType? nt = some (nm, ds))
    (hck : u₀.vm.classes[cn]? = some ck) (hno : (ck.methods.any fun x => x.name == nm && !x.isStatic && signaturePolymorphic ck x) = false) :
    Sem.wp (invokestatic.sem index) Q E e dt acts (u.setTop f) ↔ Sem.wp (invokestatic.sem index) Q E e dt acts ((u.setVm (u.vm.calledUp f.method.cls ci index cn r)).setTop f) := by
  obtain ⟨gc, -, W1, gm⟩ := hE.classFirst
  obtain ⟨a0, ha0, ea0⟩ := hW.alike.2.2 _ _ h1
  obtain ⟨a2, ha2, ea2⟩ := hE.warmed.alike.2.2 _ _ h1
  obtain ⟨b1, hb1, eb1⟩ := W1.alike.2.2 _ _ hck
  obtain ⟨b2, hb2, eb2⟩ := hE.warmed.alike.2.2 _ _ hck
  have h3' : cf.constantPool[index]? = some (if false then .interfaceMethodref ci nt else .methodref ci nt) := h3
  have m0 := memberRef_ask_via (e := e) ha0 (by rw [ea0]; exact h2) h3' h4
  have m2 := memberRef_ask_via (e := e) ha2 (by rw [ea2]; exact h2) h3' h4
  have n1 : (b1.methods.any fun x => x.name == nm && !x.isStatic && signaturePolymorphic b1 x) = false := by rw [eb1]; exact hno
  have n2 : (b2.methods.any fun x => x.name == nm && !x.isStatic && signaturePolymorphic b2 x) = false := by rw [eb2]; exact hno
  have t1 : (u.setVm (u.vm.noted f.method.cls ci (.cls cn))).topJava?.isSome := hs
  have t2 : (u.setVm (u.vm.calledUp f.method.cls ci index cn r)).topJava?.isSome := hs
  have lc : ∀ {Q' : ClassId → Pre} {d' : Bool} {acts' : List Action}, Sem.wp (Jvm.resolveClassAt ci) Q' E e d' acts' (u.setTop f) ↔ Q' cn d' acts' ((u.setVm (u.vm.noted f.method.cls ci (.cls cn))).setTop f) := W.resolveClassAt_links (t := u.setTop f) (State.method?_setTop f hs) gc
  have lm : ∀ {Q' : MethodId → Pre} {d' : Bool} {acts' : List Action}, Sem.wp (Jvm.resolveMethodAt index) Q' E e d' acts' ((u.setVm (u.vm.noted f.method.cls ci (.cls cn))).setTop f) ↔ Q' r d' acts' ((u.setVm (u.vm.calledUp f.method.cls ci index cn r)).setTop f) := W.resolveMethodAt_links (t := (u.setVm (u.vm.noted f.method.cls ci (.cls cn))).setTop f) (State.method?_setTop f t1) gm
  simp [invokestatic.sem, hp, Seam.memberRefOf, State.method?_setTop f hs, State.method?_setTop f t2, m0, m2, lc, W.resolveClassAt_ready (s := (u.setVm (u.vm.calledUp f.method.cls ci index cn r)).setTop f) (State.method?_setTop f t2) hE.classReady, hb1, hb2, n1, n2, lm, W.resolveMethodAt_ready (s := (u.setVm (u.vm.calledUp f.method.cls ci index cn r)).setTop f) (State.method?_setTop f t2) hE.ready, -Array.any_eq_true]
theorem st_up (X : Stand p l e R s m args below meth c T locs cells slots) (hx : p.tables.exec = Jvm.exec) {own owner : String} {index : Nat} {x : MethodName} (hown : s.vm.findClass own = some m.cls) (hlk : (Cond.methodLink own index x).before args s = true) (hsm : (Cond.sameMethod x.cls owner x.name x.desc).before args s = true)
    (ho : owner ≠ "java/lang/invoke/MethodHandle" ∧ owner ≠ "java/lang/invoke/VarHandle") {r : MethodId} {mr : Method} {kr : Class} (hn : s.methodNamed? ⟨owner, x.name, x.desc⟩ = some r) (hmr : s.vm.method? r = some mr) (hst : mr.isStatic = true) (hkr : s.vm.classes[r.cls]? = some kr) (hini : kr.init = .initialized)
    {g : JFrame} (hg : g.method = m) {as rest : List Value} (hlen : as.length = mr.sig.parameters.length) (hstk : g.stack = as.reverse ++ rest) (hdg : decode c.code g.pc = .ok (.invokestatic index, 3)) :
    ∃ vm', Stand p l e R s m args below meth c (T.setVm vm') locs cells slots ∧ ∀ tg, (∀ acts, Steps p.tables e below (doInvoke e ((T.setVm vm').setTop { g with stack := rest }) acts r as.toArray).1 tg) → Steps p.tables e below (T.setTop g) tg := by
  have pl := X.admits.platform
  obtain ⟨cn, ck, r1, hcn, hck, hni, hf, hn1⟩ := Cond.sameMethod_found hsm
  cases hn.symm.trans hn1
  obtain ⟨ci, hl, hright⟩ := Cond.methodLink_specUp hown hcn hck hni hf hlk e.platform (by rw [pl]) (by rw [pl])
  have hE : s.MethodEntryUp e T.vm m.cls index cn r ci := State.methodEntryUp X.warmed hl hright
  obtain ⟨kx, hkx, hnx⟩ := className_of_methodNamed hn
  cases hkr.symm.trans hkx
  obtain ⟨dk, cf, nt, nm, ds, ck', _, _, hd, hcf, hcp, hnt, -, -, hck', -, hnopoly, -⟩ := hl.here
  cases hck.symm.trans hck'
  obtain ⟨dk2, hdk2, edk2⟩ := hE.warmed.alike.2.2 _ _ hd
  obtain ⟨k2, hk2, ek2⟩ := hE.warmed.alike.2.2 _ _ hkr
  obtain ⟨c2, hc2, ec2⟩ := hE.warmed.alike.2.2 _ _ hck
  have hno : (ck.methods.any fun y => y.name == nm && !y.isStatic && signaturePolymorphic ck y) = false := by simp [hnopoly]
  have hno2 : (c2.methods.any fun y => y.name == nm && !y.isStatic && signaturePolymorphic c2 y) = false := by rw [ec2]; exact hno
  have hcp' : cf.constantPool[index]? = some (if false then .interfaceMethodref ci nt else .methodref ci nt) := hcp
  refine ⟨T.vm.calledUp m.cls ci index cn r, X.noted hE.warmed, fun tg ht => ?_⟩
  subst hg
  jvm_step X.here [hx, hdg, st_cold (e := e) (u := T) (u₀ := s) (f := g) X.here.top (by rw [pl]) X.warmed hE hd hcf hcp hnt hck hno,
    invokestatic.wp_ready (e := e) (s := T.setVm (T.vm.calledUp g.method.cls ci index cn r)) (k := k2) (meth := mr) (m := r) (args := as) (rest := rest) (f := g)
      X.here.top ⟨ci, nm, ds, false, cn, c2, memberRef_ask_via (e := e) hdk2 (by rw [edk2]; exact hcf) hcp' hnt, hE.classReady, hc2, hno2⟩ hE.ready hk2
      (by show (T.vm.calledUp g.method.cls ci index cn r).method? r = some mr; rw [hE.warmed.alike.method?]; exact hmr)
      (by rw [ek2]; show signaturePolymorphic kr mr = false; simp [signaturePolymorphic, hnx, ho.1, ho.2]) hst (by rw [ek2]; exact hini) hlen hstk]
  exact fun acts => ht _
end STU
section GR5
variable {κ : Cx} {own : String} {cc : ByteArray} {d : Nat} {w w' : Hw} {sz sz' kc ks : Nat} {L : List (Option Value)} {pc : Nat} {st : List Value}
/-- a static method, named by a class below -/
def CSI (own : String) (idx : Nat) (x y : MethodName) (b : ByteArray) (n : Nat) (ret : Option FieldType) (na : Nat) : Prop := GoodIn lw_all (ws_ y b n ret) ∧ Cond.methodLink own idx x ∈ lw_all ∧ Cond.sameMethod x.cls y.cls x.name x.desc ∈ lw_all ∧ (y = ⟨y.cls, x.name, x.desc⟩) ∧ Cond.static y ∈ lw_all ∧ Cond.initialized y.cls ∈ lw_all ∧ y.cls ≠ "java/lang/invoke/MethodHandle" ∧ y.cls ≠ "java/lang/invoke/VarHandle" ∧ (parseMethodDescriptor y.desc).map (fun d => d.parameters.length) = some na ∧ n ≤ 45
theorem g_callSI (h : Ok κ own cc d) {idx : Nat} {x y : MethodName} {b : ByteArray} {n na d' mc ms : Nat} {retC : Option FieldType} {As : List Value} {v0 : Option Value} (cv : CSI own idx x y b n retC na) (hM : MC κ.l κ.δ y (ws_ y b n retC) d' mc ms As w sz v0 w' sz')
    {st0 : List Value} (hst : st0 = As.reverse ++ st) (hna : As.length = na) (dd : decode cc pc = .ok (.invokestatic idx, 3)) (hd : d' < d) (hmc : mc ≤ kc) (hms : ms ≤ ks) (hW : (st.map fun v => v.category).sum ≤ 8)
    (kk : G κ w' sz' (kc - mc) (ks - ms) L (pc + 3) (v0.toList ++ st)) : G κ w sz kc ks L pc st0 := by
  subst hst
  intro H locs ls cells slots hz hH hA hS hl hc hs
  obtain ⟨cg, clk, csm, hyx, cst, cini, ch1, ch2, cn, cle⟩ := cv
  have hcm : Cond.code y b n retC ∈ ws_ y b n retC := List.mem_cons_self
  have hcode := h.hts _ (cg _ hcm).1
  refine g_after (mc := mc) (ms := ms) (a := As.toArray) h hz hA hS hl hc hs hmc hms ?_ kk
  have hK := back_of (p := κ.p) (e := κ.e) (below := κ.bl) (sargs := κ.as) (len := 3) (W := 8) (R := κ.R) (s := κ.s) hM pc_blind rfl rfl (rm_ok h hd cle).1 (rm_ok h hd cle).2 (pay_in h.hts cg) hcm (fun a' U hW => word_at hW (Or.inl (by first | rfl | simp [Cond.onTables, Cond.keeps, Cond.steady])) (h.hts _ cini))
  intro T hT X
  obtain ⟨mk, hnamed⟩ := Cond.code_named hcode
  obtain ⟨methM, cM, hmethM, -, -, -, -, -, -, hsigM⟩ := Cond.code_spec hnamed hcode
  have hstatic : methM.isStatic = true := Cond.static_spec hnamed hmethM (h.hts _ cst)
  obtain ⟨kP, hkP, -⟩ := className_of_methodNamed hnamed
  have hinitP : kP.init = .initialized := Cond.initialized_spec (findClass_of_methodNamed hnamed) hkP (h.hts _ cini)
  have hln : As.length = methM.sig.parameters.length := by
    rw [hsigM] at cn
    exact hna.trans (Option.some.inj cn).symm
  obtain ⟨vm₁, X₁, hstep₁⟩ := st_up X h.hx h.hown (h.hts _ clk) (h.hts _ csm) ⟨ch1, ch2⟩ (by rw [← hyx]; exact hnamed) hmethM hstatic hkP hinitP (g := F0 κ.m pc ls (As.reverse ++ st)) rfl (as := As) (rest := st) hln rfl (by rw [h.hb]; exact dd)
  obtain ⟨v, ⟨U', l2, c2, s2⟩, X', ⟨g', mk', t, L', e1, e2, hq, h1, hL, h2, h3⟩, stp⟩ := hK κ.m κ.me κ.c ⟨T.setVm vm₁, locs, cells, slots⟩ (F0 κ.m pc ls st) (.invokestatic idx) mk As.toArray X₁ rfl (hl.1.trans h.hml.symm) (by rw [h.hb]; exact dd) (st_room hW) (X₁.named hnamed) ⟨by show cells + mc ≤ _; omega, by show slots + ms ≤ _; omega, pc_at h hz hH hA hS (T.setVm vm₁) hT X₁.warmed⟩
  dsimp only [Pt.U, Pt.locs, Pt.cells, Pt.slots] at X' e1 e2 h1 h2 h3 stp
  subst h1; subst h2; subst h3
  exact ⟨v, (T.setVm vm₁).calling g' mk' As.toArray, t, U', L', hT, X', hL, e1, e2, hq, fun tg ht => hstep₁ _ fun acts => by rw [doInvoke_state]; exact stp.trans ht⟩
end GR5
