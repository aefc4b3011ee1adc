/-! ===== an exception is caught ===== -/
set_option maxRecDepth 100000
/-- the search through a table of one row that takes the exception, the row's class cold or warm -/
theorem find_one {Q : Handler → Pre} {E : CtlPost} {e : Env} {d : Bool} {acts : List Action} {s : State} {f : JFrame} {a : Addr} {meth : Method} {code : Code} {x : ExceptionTableEntry} {c : ClassId} {cell : Cell} (hm : s.vm.method? f.method = some meth) (hc : meth.code = some code) (ht : code.exceptionTable.toList = [x]) (hx : covers x f.pc = true) (h0 : x.catchType ≠ 0)
    (hl : s.vm.ClassLinks e.platform f.method.cls x.catchType c) (hcell : s.heap[a]? = some cell) (hobj : ∀ k, cell.vm ≠ .statics k) (hk : ∃ k, s.vm.classes[cell.cls]? = some k) (hcl : ∃ k, s.vm.classes[c]? = some k) (hfit : s.vm.assignable cell.cls c = true) :
    Sem.wp (findHandler f a) Q E e d acts s ↔ Q (.found x.handlerPc) d acts (s.setVm (s.vm.noted f.method.cls x.catchType (.cls c))) := by
  rw [W.findHandler_eq hm hc, ht]
  simp only [covers] at hx
  obtain ⟨ha, htb⟩ := (resolveClass_links e.toSetting hl).op (op := VmOp.resolveClass f.method.cls x.catchType) rfl
  have hal : s.vm.Alike (s.vm.noted f.method.cls x.catchType (.cls c)) := (Vm.Alike.refl s.vm).noted _ _ _
  obtain ⟨k1, hk1⟩ := hk
  obtain ⟨k2, hk2⟩ := hcl
  obtain ⟨k3, hk3, -⟩ := hal.2.2 _ _ hk1
  obtain ⟨k4, hk4, -⟩ := hal.2.2 _ _ hk2
  have hf2 : (s.vm.noted f.method.cls x.catchType (.cls c)).assignable cell.cls c = true := by rw [hal.assignable]; exact hfit
  simp [findHandler.go, hx, h0, ha, htb, hcell, hobj, hk3, hk4, hf2, VmOp.dirties, VmOp.acts]
theorem caught_one {tb : Tables} {e : Env} {s tg : State} {g : JFrame} {c : Code} {below : List Frame} {a : Addr} (h : At s g.method c below) {pc : Nat} {vm' : Vm}
    (hf : ∀ (Q : Handler → Pre) (E : CtlPost) (d : Bool) (acts : List Action), Sem.wp (findHandler g a) Q E e d acts ((s.setTop g).pushFrame (.throwing a)) ↔ Q (.found pc) d acts (((s.setTop g).pushFrame (.throwing a)).setVm vm'))
    (hr : Steps tb e below ((s.setVm vm').setTop { g with pc := pc, stack := [.ref a] }) tg) : Steps tb e below ((s.setTop g).pushFrame (.throwing a)) tg := by
  obtain ⟨hgo, hw⟩ := h.throwing a
  have hst : ∀ r, (stepThrowing e ((s.setTop g).pushFrame (.throwing a)) a (.java g :: r)).Is ((((s.setTop g).pushFrame (.throwing a)).setVm vm').setFrames (.java { g with pc := pc, stack := [.ref a] } :: r)) [] := by
    intro r
    simp only [stepThrowing, searchFrame, vmDo]
    generalize hres : Sem.go _ e false [] ((s.setTop g).pushFrame (.throwing a)) = res
    obtain ⟨as, rfl, has⟩ := Sem.eq_ok_of hres (a := Handler.found pc) (s' := ((s.setTop g).pushFrame (.throwing a)).setVm vm') (acts' := []) (by simp [hf _ _ _ _])
    exact ⟨rfl, has⟩
  refine Steps.head hgo hw ?_
  rw [stepThread_throwing (frames_entered h.top _), (hst _).1]
  obtain ⟨g₀, hg⟩ := Option.isSome_iff_exists.mp h.top
  obtain ⟨r, hfr⟩ := State.topJava?_eq_some.mp hg
  have hfr' : (s.setVm vm').frames = .java g₀ :: r := hfr
  have hsw : ∀ (u : State) (F G : List Frame), ((u.setFrames F).setVm vm').setFrames G = (u.setVm vm').setFrames G := fun u F G => by
    rw [show (u.setFrames F).setVm vm' = (u.setVm vm').setFrames F from rfl, State.setFrames_setFrames]
  rw [State.setTop_of_frames _ hfr'] at hr
  rw [hfr, List.tail_cons, State.pushFrame, hsw, State.setTop_of_frames _ hfr, hsw]
  exact hr
section GCA
variable {κ : Cx} {own : String} {cc : ByteArray} {d : Nat} {w : Hw} {sz kc ks : Nat} {L : List (Option Value)} {pc : Nat}
theorem g_catch (h : Ok κ own cc d) {f t hp ct ci x0 : Nat} {nm : String} {fv : Nat → Value} {q : vw_C} (htab : κ.c.exceptionTable.toList.map (fun h => (h.startPc, h.endPc, h.handlerPc, h.catchType)) = [(f, t, hp, ct)]) (hpc : f ≤ pc ∧ pc < t) (hct : ct ≠ 0) (q1 : Cond.classLink own ct nm ∈ lw_all) (hw : w x0 = some (.inr (ci, fv))) (hcl : CL[ci]? = some q) (hq : q.1 = nm)
    (kk : G κ w sz kc ks L hp [.ref x0]) : GT κ w sz kc ks L pc x0 := by
  intro H locs ls cells slots hz hH hA hS hl hc hs st T hT X
  have hlen : κ.c.exceptionTable.toList.length = 1 := by have := congrArg List.length htab; simpa using this
  obtain ⟨x, hx⟩ := List.length_eq_one_iff.mp hlen
  rw [hx] at htab
  simp only [List.map_cons, List.map_nil, List.cons.injEq, Prod.mk.injEq, and_true] at htab
  obtain ⟨e1, e2, e3, e4⟩ := htab
  obtain ⟨cell, g1, g2, g3⟩ := recv_of' h hH hw hcl
  obtain ⟨c', hc', hcl'⟩ := Cond.classLink_spec h.hown (h.hts _ q1) κ.e.platform (by rw [X.admits.platform])
  rw [hq] at g3
  have hcc : cell.cls = c' := Option.some.inj (g3.symm.trans hc')
  obtain ⟨dk, _, _, kt, hd, _, _, _, _, hkt, _, hopen⟩ := hcl'.here
  have hcl0 := X.warmed.classLinks hcl'
  have hW' : κ.s.WarmedH (T.vm.noted κ.m.cls ct (.cls c')) := X.warmed.noted hd hopen (State.rightAt_cls hcl')
  obtain ⟨kt', hkt', -⟩ := X.warmed.alike.2.2 _ _ hkt
  have hasg : T.vm.assignable cell.cls c' = true := by
    rw [hcc]
    unfold Vm.assignable
    show T.vm.assignableAux (255 + 1) _ _ = true
    rw [Vm.assignableAux]
    simp
  obtain ⟨t2, a1, b1⟩ := kk H locs ls cells slots hz hH hA hS hl hc hs (T.setVm (T.vm.noted κ.m.cls ct (.cls c'))) hT (X.noted hW')
  refine ⟨t2, ?_, b1⟩
  refine caught_one (pc := hp) (vm' := T.vm.noted κ.m.cls ct (.cls c')) (g := F0 κ.m pc ls st) X.here (fun Q E d acts => ?_) a1
  have hvm := Stand.throwing_vm T (F0 κ.m pc ls st) x0
  have hhp := Stand.throwing_heap T (F0 κ.m pc ls st) x0
  have key := find_one (Q := Q) (E := E) (e := κ.e) (d := d) (acts := acts) (s := (T.setTop (F0 κ.m pc ls st)).pushFrame (.throwing x0)) (f := F0 κ.m pc ls st) (a := x0) (meth := κ.me) (code := κ.c) (x := x) (c := c') (cell := cell)
    (by rw [hvm]; exact X.method') X.code hx (by simp only [covers, e1, e2]; simp; exact hpc) (by rw [e4]; exact hct) (by rw [hvm, e4]; exact hcl0) (by rw [hhp, hT]; exact g1) (VmData.ne_statics_of g2) (by rw [hvm, hcc]; exact ⟨kt', hkt'⟩) (by rw [hvm]; exact ⟨kt', hkt'⟩) (by rw [hvm]; exact hasg)
  rw [key, e3, e4, hvm]
end GCA
