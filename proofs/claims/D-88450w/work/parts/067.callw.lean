/-! ===== a call of a method that has handlers ===== -/
set_option maxRecDepth 100000
section GCW
variable {κ : Cx} {own : String} {cc : ByteArray} {d : Nat} {w w' : Hw} {sz sz' kc ks : Nat} {L : List (Option Value)} {pc : Nat} {st : List Value}
def CVW (own : String) (idx : Nat) (C : String) (y : MethodName) (b : ByteArray) (n : Nat) (ret : Option FieldType) (hh : List (Nat × Nat × Nat × Nat)) (na : Nat) : Prop := GoodIn lw_all (wsV own idx C y (wsW_ y b n ret hh)) ∧ y.cls = C ∧ y.cls ≠ "java/lang/invoke/MethodHandle" ∧ y.cls ≠ "java/lang/invoke/VarHandle" ∧ (parseMethodDescriptor y.desc).map (fun d => d.parameters.length) = some na ∧ n ≤ 45
theorem back_ofW {l : Launch} {R : Room} {p : Program} {e : Env} {below : List Frame} {s : State} {sargs : Array Value} {y : MethodName} {len W : Nat} {ws : List Cond} {rm : Room} {Pc : Array Value → State → Prop} {Qc : Array Value → State → Outcome → State → Prop} {mc ms : Nat} {free : Addr → Prop} {bytes : ByteArray} {maxL : Nat} {ret : Option FieldType} {hh : List (Nat × Nat × Nat × Nat)}
    (hM : Met l y ws rm Pc Qc mc ms free) (hblind : FrameBlind Pc) (hrc : rm.cells = mc) (hrs : rm.slots = ms) (hframes : rm.frames + 1 ≤ R.frames) (hlocals : W + (maxL + 11) + rm.locals ≤ R.locals)
    (hws : ∀ w ∈ ws, ∀ a' U, s.WarmedH U.vm → w.before a' U = true) (hcode : Cond.codeWith y bytes maxL ret hh ∈ ws) (hinit : ∀ a' U, s.WarmedH U.vm → (Cond.initialized y.cls).before a' U = true) :
    Back l R p e below s sargs y len W (PreOf R mc ms Pc) (PostOf Qc mc ms free) := by
  refine Back.of_freeWith (S := headSpec ws rm) (P := Pc) (K := fun _ _ _ _ _ => True) (Q := fun a st o t => Qc a st o t ∧ ∃ L, FrameEnd st o t L mc ms ∧ ∀ q ∈ L, free q.base) (bytes := bytes) (maxL := maxL) (ret := ret) (handlers := hh)
    (E := fun a st o t L k n => k = mc ∧ n = ms ∧ ∀ q ∈ L, free q.base) hM hframes hlocals ?_ ?_ (fun _ _ _ _ _ _ _ _ _ => trivial) ?_ ?_
  · intro m meth c A a X hp
    exact ⟨atoms_intro fun w hw => hws w hw _ _ X.warmed, hws _ hcode _ _ X.warmed, hinit _ _ X.warmed, by rw [show (headSpec ws rm).room.cells = mc from hrc]; exact hp.1, by rw [show (headSpec ws rm).room.slots = ms from hrs]; exact hp.2.1⟩
  · intro m meth c A a g mk X hp
    exact hblind _ _ _ _ hp.2.2
  · intro a st o t ⟨hq, L, hF, hL⟩
    exact ⟨L, mc, ms, hF, rfl, rfl, hL⟩
  · intro m meth c A a g mk v t L k n X hp hq hF ⟨e1, e2, hL⟩
    subst e1; subst e2
    exact ⟨g, mk, t, L, rfl, rfl, hq.1, rfl, hL, rfl, rfl⟩
theorem g_callVW (h : Ok κ own cc d) {C : String} {idx : Nat} {y : MethodName} {b : ByteArray} {n na d' mc ms ci o : Nat} {retC : Option FieldType} {hh : List (Nat × Nat × Nat × Nat)} {As : List Value} {v0 : Option Value} {f : Nat → Value} {q : vw_C} (cv : CVW own idx C y b n retC hh na) (hM : MC κ.l κ.δ y (wsW_ y b n retC hh) d' mc ms (.ref o :: As) w sz v0 w' sz') (hw : w o = some (.inr (ci, f))) (hcl : CL[ci]? = some q) (hq : q.1 = C)
    {st0 : List Value} (hst : st0 = As.reverse ++ .ref o :: st) (hna : As.length = na) (dd : decode cc pc = .ok (.invokevirtual idx, 3)) (hd : d' < d) (hmc : mc ≤ kc) (hms : ms ≤ ks) (hW : (st.map fun v => v.category).sum ≤ 8)
    (kk : G κ w' sz' (kc - mc) (ks - ms) L (pc + 3) (v0.toList ++ st)) : G κ w sz kc ks L pc st0 := by
  subst hst; subst hq
  intro H locs ls cells slots hz hH hA hS hl hc hs
  obtain ⟨cg, cy, ch1, ch2, cn, cle⟩ := cv
  have ok : ∀ x ∈ wsV own idx q.1 y (wsW_ y b n retC hh), x.before κ.as κ.s = true := fun x hx => h.hts x (cg x hx).1
  have hG : GoodIn lw_all (wsW_ y b n retC hh) := fun x hx => cg x (by unfold wsV; exact List.mem_append_right _ hx)
  have hcm : Cond.codeWith y b n retC hh ∈ wsW_ y b n retC hh := List.mem_cons_self
  have hcode := h.hts _ (hG _ hcm).1
  have hlk : (Cond.methodLink own idx y).before κ.as κ.s = true := ok _ (by simp [wsV])
  have hin : (Cond.instanceMethod y).before κ.as κ.s = true := ok _ (by simp [wsV])
  have hse : (Cond.selects q.1 y y).before κ.as κ.s = true := ok _ (by simp [wsV])
  have hini : (Cond.initialized y.cls).before κ.as κ.s = true := by rw [cy]; exact ok _ (by simp [wsV])
  refine g_after (mc := mc) (ms := ms) (a := (Value.ref o :: As).toArray) h hz hA hS hl hc hs hmc hms ?_ kk
  have hK := back_ofW (p := κ.p) (e := κ.e) (below := κ.bl) (sargs := κ.as) (len := 3) (W := 8) (R := κ.R) (s := κ.s) hM pc_blind rfl rfl (rm_ok h hd cle).1 (rm_ok h hd cle).2 (pay_in h.hts hG) hcm (fun a' U hW => word_at hW (Or.inl (by first | rfl | simp [Cond.onTables, Cond.keeps, Cond.steady])) hini)
  intro T hT X
  obtain ⟨cellB, hcB, hoB, hclB⟩ := recv_of' h hH hw hcl
  obtain ⟨mk, methM, hnamed, hmethM, hstM, habM⟩ := Cond.instanceMethod_spec hin
  obtain ⟨mk2, methM', cM, hn2, hmethM', -, -, -, -, -, -, hsigM⟩ := Cond.codeWith_spec hcode
  cases hnamed.symm.trans hn2
  cases hmethM.symm.trans hmethM'
  obtain ⟨c2, r2, m2, q1, q2, q3, q4, kP, hkP, hkPi⟩ := Cond.selects_spec hse
  cases hclB.symm.trans q1
  cases (State.methodFound?_of_named hnamed ⟨ch1, ch2⟩).symm.trans q2
  cases hnamed.symm.trans q3
  have hselP : selectMethod κ.e.platform κ.s.vm cellB.cls mk = .method mk := by rw [Launch.admits_selectMethod X.admits]; exact q4
  have hln : As.length = methM.sig.parameters.length := by
    rw [hsigM] at cn
    exact hna.trans (Option.some.inj cn).symm
  obtain ⟨vm₁, X₁, hstep₁⟩ := X.invokevirtual h.hx h.hown hlk hnamed hmethM hstM hkP hkPi ⟨ch1, ch2⟩ (a := o) (cell := cellB) (by rw [hT]; exact hcB)
    (fun z h => by rw [h] at hoB; cases hoB) hselP hmethM habM hkP hkPi (g := F0 κ.m pc ls (As.reverse ++ .ref o :: st)) rfl (argsL := As) (rest := st) hln rfl (by rw [h.hb]; exact dd)
  obtain ⟨v, ⟨U', l2, c2, s2⟩, X', ⟨g', mk', t, L', e1, e2, hq, h1, hL, h2, h3⟩, stp⟩ := hK κ.m κ.me κ.c ⟨T.setVm vm₁, locs, cells, slots⟩ (F0 κ.m pc ls st) (.invokevirtual idx) mk (Value.ref o :: As).toArray X₁ rfl (hl.1.trans h.hml.symm) (by rw [h.hb]; exact dd) (st_room hW) (X₁.named hnamed) ⟨by show cells + mc ≤ _; omega, by show slots + ms ≤ _; omega, pc_at h hz hH hA hS (T.setVm vm₁) hT X₁.warmed⟩
  dsimp only [Pt.U, Pt.locs, Pt.cells, Pt.slots] at X' e1 e2 h1 h2 h3 stp
  subst h1; subst h2; subst h3
  exact ⟨v, (T.setVm vm₁).calling g' mk' (Value.ref o :: As).toArray, t, U', L', hT, X', hL, e1, e2, hq, fun tg ht => hstep₁ _ fun acts => by rw [doInvoke_state]; exact stp.trans ht⟩
/-- the script -/
theorem g_sld (h : Ok κ own cc d) {i : Int} (hi : 0 ≤ i ∧ i < κ.δ.2.2 7) (hn : κ.δ.2.2 7 ≤ 2147483647) (dd : decode cc pc = .ok (.iaload, 1)) (kk : G κ w sz kc ks L (pc + 1) (.int (Int32.ofNat (κ.δ.2.2 (8 + i.toNat))) :: st)) : G κ w sz kc ks L pc (vI i :: .ref (κ.δ.2.2 6) :: st) := by
  intro H locs ls cells slots hz hH hA hS hl hc hs
  obtain ⟨cell, g1, g2, g3, g4, g5, g6, g7⟩ := h.sx.2.2.2.2
  have hcl : (Int32.ofInt i).toNatClampNeg = i.toNat := i32_cl hi.1 (by omega)
  have hsz : i.toNat < cell.slots.size := by omega
  refine W.iald h.hx h.hb (cell := cell) (by rw [hS.2.1 _ (Array.getElem?_eq_some_iff.mp g1).1 g7]; exact g1) g2 g3 ?_ (v := .int (Int32.ofNat (κ.δ.2.2 (8 + i.toNat)))) ?_ rfl rfl dd (kk H locs ls cells slots hz hH hA hS hl hc hs)
  · intro z
    rcases z with z | z
    · exact i32_nn hi.1 (by omega) z
    · rw [hcl] at z
      omega
  · rw [hcl]
    exact g6 i.toNat (by omega)
theorem g_slen (h : Ok κ own cc d) (dd : decode cc pc = .ok (.arraylength, 1)) (kk : G κ w sz kc ks L (pc + 1) (vI (κ.δ.2.2 7) :: st)) : G κ w sz kc ks L pc (.ref (κ.δ.2.2 6) :: st) := by
  intro H locs ls cells slots hz hH hA hS hl hc hs
  obtain ⟨cell, g1, g2, g3, g4, g5, g6, g7⟩ := h.sx.2.2.2.2
  refine W.alen (n := Int32.ofInt (κ.δ.2.2 7)) h.hx h.hb (cell := cell) (by rw [hS.2.1 _ (Array.getElem?_eq_some_iff.mp g1).1 g7]; exact g1) g2 (g5.trans (Int32.ofInt_eq_ofNat (n := κ.δ.2.2 7)).symm) rfl rfl dd (kk H locs ls cells slots hz hH hA hS hl hc hs)
end GCW
