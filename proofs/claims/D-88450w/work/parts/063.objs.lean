/-! ===== new objects and arrays, stores of references, casts, statics, copies ===== -/
set_option maxRecDepth 100000
section GO
variable {κ : Cx} {own : String} {cc : ByteArray} {d : Nat} {w w' : Hw} {sz sz' kc ks : Nat} {L : List (Option Value)} {pc : Nat} {st : List Value}
theorem S_new (h : Ok κ own cc d) {H H1 : Heap} {locs : List Loc} (hS : va_S κ.A κ.s.heap H locs) (z1 : H1.size = H.size + 1) (o1 : ∀ q, q < H.size → H1[q]? = H[q]?) : va_S κ.A κ.s.heap H1 locs :=
  ⟨Nat.le_trans hS.1 (by omega), fun x h1 h2 => (o1 x (Nat.lt_of_lt_of_le h1 hS.1)).trans (hS.2.1 x h1 h2), hS.2.2⟩
theorem g_new (h : Ok κ own cc d) {idx ci N : Nat} {C : String} {T : u_T} (hck : CK ci C T N) (ty : Nat → FieldType) (hty : ∀ k, k < N → parseFieldDescriptor (T k).2.2.1 = some (ty k)) (q1 : Cond.classLink own idx C ∈ lw_all) (q2 : Cond.instantiable C N ∈ lw_all) (q3 : Cond.initialized C ∈ lw_all) {f : Nat → Value} (hf : ∀ k, k < N → defaultValue (ty k) = f k) (dd : decode cc pc = .ok (.new idx, 3)) (hc1 : 1 ≤ kc) (hs1 : N ≤ ks)
    (kk : G κ (wup w sz (.inr (ci, f))) (sz + 1) (kc - 1) (ks - N) L (pc + 3) (.ref sz :: st)) : G κ w sz kc ks L pc st := by
  intro H locs ls cells slots hz hH hA hS hl hc hs
  subst hz
  obtain ⟨hcl, hin, -, -⟩ := hck
  have hKn := h.K.1.1 ci _ hcl
  refine W.newcK h.hx h.hb h.hown (h.hts _ q1) (h.hts _ q2) (h.hts _ q3) rfl dd (by omega) (by omega) hKn.2.1 rfl fun H1 kC hkC e1 z1 o1 => ?_
  refine kk H1 locs ls (cells + 1) (slots + N) z1 (hH.new ?_ o1) (A_new hA (h.hA _ hS.1)) (S_new h hS z1 o1) hl (by omega) (by omega)
  obtain ⟨cell, a1, a2, a3, a4⟩ := u_born ty h.hts hin hKn hkC e1 hty
  exact ⟨_, hcl, cell, a1, a2, a3, fun k hk => (a4 k hk).trans (congrArg some (hf k hk))⟩
theorem hat_arr {δ : Dl} {a t n : Nat} {cA : ClassId} {f : Int → Value} {H : Heap} (hc : cA = δ.2.1 t) (h : H[a]? = some (arrV cA n (fun j => f (j : Int)))) : hat δ a (.inl (t, n, f)) H := by
  subst hc
  exact h
theorem i32_nn {a : Int} (h0 : 0 ≤ a) (h1 : a ≤ 2147483647) : ¬ Int32.ofInt a < 0 := by
  rw [← i32_0, i32_lt (by omega) (by omega)]
  omega
theorem g_newa (h : Ok κ own cc d) {atype : ArrayType} {t : Nat} (hw : Cond.arrayClass (newarray.typeOf atype) ∈ lw_all) (ht : (ATs κ.δ.2.1)[t]? = some (κ.δ.2.1 t, newarray.typeOf atype)) (hra : ∀ cA, va_RA κ.s (κ.δ.2.1 t) (newarray.typeOf atype) → κ.s.vm.findClass ("[" ++ (newarray.typeOf atype).toString) = some cA → cA = κ.δ.2.1 t) {n : Int} {v0 : Value} (hv : defaultValue (newarray.typeOf atype) = v0) (dd : decode cc pc = .ok (.newarray atype, 2)) (h0 : 0 ≤ n) (h1 : n.toNat * 8 ≤ 536870912) (hb8 : componentBytes (newarray.typeOf atype) ≤ 8) (hc1 : 1 ≤ kc) (hs1 : n.toNat ≤ ks)
    (kk : G κ (wup w sz (.inl (t, n.toNat, fun _ => v0))) (sz + 1) (kc - 1) (ks - n.toNat) L (pc + 2) (.ref sz :: st)) : G κ w sz kc ks L pc (vI n :: st) := by
  intro H locs ls cells slots hz hH hA hS hl hc hs
  subst hz
  have hbb : n.toNat * componentBytes (newarray.typeOf atype) ≤ 536870912 := Nat.le_trans (Nat.mul_le_mul_left _ hb8) h1
  refine va_newaK h.hx h.hb (h.hts _ hw) rfl dd (n := Int32.ofInt n) (N := n.toNat) rfl (i32_nn h0 (by omega)) (i32_cl h0 (by omega)) hbb (by omega) (by omega) rfl fun H1 cA e1 z1 o1 ar fc => ?_
  have hcA := hra cA (h.K.1.2 t _ ht).2 fc
  exact kk H1 locs ls (cells + 1) (slots + n.toNat) z1 (hH.new (hat_arr hcA (by rw [hv] at e1; exact e1)) o1) (A_new hA (h.hA _ hS.1)) (S_new h hS z1 o1) hl (by omega) (by omega)
theorem g_anewa (h : Ok κ own cc d) {idx t : Nat} {C : String} (q1 : Cond.classLink own idx C ∈ lw_all) (ht : (ATs κ.δ.2.1)[t]? = some (κ.δ.2.1 t, .object C)) (hao : va_AO C κ.s) {n : Int} (dd : decode cc pc = .ok (.anewarray idx, 3)) (h0 : 0 ≤ n) (h1 : n.toNat * 4 ≤ 536870912) (hc1 : 1 ≤ kc) (hs1 : n.toNat ≤ ks)
    (kk : G κ (wup w sz (.inl (t, n.toNat, fun _ => .null))) (sz + 1) (kc - 1) (ks - n.toNat) L (pc + 3) (.ref sz :: st)) : G κ w sz kc ks L pc (vI n :: st) := by
  intro H locs ls cells slots hz hH hA hS hl hc hs
  subst hz
  have hcl : (Int32.ofInt n).toNatClampNeg = n.toNat := i32_cl h0 (by omega)
  refine W.anew h.hx h.hb h.hown (h.hts _ q1) (va_AO.use hao) rfl dd (n := Int32.ofInt n) rfl (i32_nn h0 (by omega)) (by rw [hcl]; exact h1) (by omega) (by rw [hcl]; omega) fun cA kA comp f1 f2 f3 f4 => ?_
  obtain ⟨-, -, -, -, -, r4⟩ := (h.K.1.2 t _ ht).2
  have hcA : cA = κ.δ.2.1 t := Option.some.inj (f1.symm.trans r4)
  rw [hcl]
  refine kk _ locs ls (cells + 1) (slots + n.toNat) (by rw [Array.size_push]) (hH.new (hat_arr hcA ?_) ?_) (A_new hA (h.hA _ hS.1)) (S_new h hS (by rw [Array.size_push]) ?_) hl (by omega) (by omega)
  · rw [Array.getElem?_push_size, ← arrV_new]
  · intro q hq
    rw [Array.getElem?_push, if_neg (Nat.ne_of_lt hq)]
  · intro q hq
    rw [Array.getElem?_push, if_neg (Nat.ne_of_lt hq)]
/-- a store of an object of class ci into an array of references -/
theorem g_aast (h : Ok κ own cc d) {t n a v ci : Nat} {C : String} {i : Int} {f : Int → Value} {fv : Nat → Value} {q : vw_C} (ht : (ATs κ.δ.2.1)[t]? = some (κ.δ.2.1 t, .object C)) (hw : w a = some (.inl (t, n, f))) (hv : w v = some (.inr (ci, fv))) (hcl : CL[ci]? = some q) (hca : q.1 = C ∨ (q.1, C) ∈ NWc) (hi : 0 ≤ i ∧ i < n) (hn : n ≤ 2147483647) (dd : decode cc pc = .ok (.aastore, 1))
    (kk : G κ (wup w a (.inl (t, n, iup f i (.ref v)))) sz kc ks L (pc + 1) st) : G κ w sz kc ks L pc (.ref v :: vI i :: .ref a :: st) := by
  intro H locs ls cells slots hz hH hA hS hl hc hs
  have hc0 : H[a]? = some (arrV (κ.δ.2.1 t) n (fun j => f (j : Int))) := hH a _ hw
  obtain ⟨r, hr, cellV, g1, g2, g3, -⟩ := hH v _ hv
  obtain ⟨kA, comp, k1, k2, k3, -⟩ := (h.K.1.2 t _ ht).2
  obtain ⟨kE, hkE, -⟩ := Vm.findClass_spec k3
  obtain ⟨-, hfc, kC, hkC, -⟩ := h.K.1.1 ci q hcl
  have hasg : κ.s.vm.assignable cellV.cls comp = true := by
    rw [g2]
    rcases hca with hca | hca
    · rw [hca] at hfc
      cases k3.symm.trans hfc
      unfold Vm.assignable
      show κ.s.vm.assignableAux (255 + 1) _ _ = true
      rw [Vm.assignableAux]
      simp
    · obtain ⟨c0, t1, f1, f2, f3⟩ := Cond.castable_spec (va_Nw.use (A := κ.as) rfl (h.K.2.2.2.1 _ hca))
      cases hfc.symm.trans f1
      cases k3.symm.trans f2
      exact f3
  have hcl' : (Int32.ofInt i).toNatClampNeg = i.toNat := i32_cl hi.1 (by omega)
  refine W.aast h.hx h.hb hc0 (fun q h => by cases h) (fun h => by cases h) k1 k2 rfl hkE ⟨i32_nn hi.1 (by omega), by rw [hcl', arrV_size]; omega⟩ g1 (fun q h => by rw [g3] at h; cases h) (by rw [g2]; exact hkC) hasg rfl rfl dd fun H1 e1 z oq => ?_
  refine kk H1 _ ls cells slots (z.trans hz) (hH.up ?_ oq) (A_up hA hw) (S_put h hA hw hS z oq) hl hc hs
  show H1[a]? = some (arrV _ _ _)
  rw [hcl'] at e1
  rw [e1, arrV_store]
  exact congrArg some (arr_up hi.1)
theorem g_gets (h : Ok κ own cc d) {C n dn ref : String} {v : Value} {idx : Nat} (hZ : va_Z C n dn v κ.A κ.s κ.s.heap) (q1 : Cond.fieldLink own idx ref n dn ∈ lw_all) (hsm : ref = C) (dd : decode cc pc = .ok (.getstatic idx, 3)) (kk : G κ w sz kc ks L (pc + 3) (v :: st)) : G κ w sz kc ks L pc st := by
  intro H locs ls cells slots hz hH hA hS hl hc hs
  subst hsm
  exact va_gets h.hx h.hb hZ hS h.hown (h.hts _ q1) (fun x hx => hx) dd (kk H locs ls cells slots hz hH hA hS hl hc hs)
theorem g_ldcS (h : Ok κ own cc d) {tx : String} {idx q : Nat} (hZ : vk_R own idx tx q κ.s) (dd : decode cc pc = .ok (.ldc idx, 2)) (kk : G κ w sz kc ks L (pc + 2) (.ref q :: st)) : G κ w sz kc ks L pc st := by
  intro H locs ls cells slots hz hH hA hS hl hc hs
  exact va_ldcS h.hx h.hb h.hown hZ dd (kk H locs ls cells slots hz hH hA hS hl hc hs)
theorem g_ldcM (h : Ok κ own cc d) {C : String} {idx mi : Nat} (q1 : Cond.classLink own idx C ∈ lw_all) (hM : va_Mi C mi κ.s) (dd : decode cc pc = .ok (.ldc idx, 2)) (kk : G κ w sz kc ks L (pc + 2) (.ref mi :: st)) : G κ w sz kc ks L pc st := by
  intro H locs ls cells slots hz hH hA hS hl hc hs
  exact va_ldcM h.hx h.hb h.hown (h.hts _ q1) hM dd (kk H locs ls cells slots hz hH hA hS hl hc hs)
def mGC : MethodName := ⟨"java/lang/Object", "getClass", "()Ljava/lang/Class;"⟩
theorem g_getC (h : Ok κ own cc d) {idx a n : Nat} {f : Int → Value} (hd : 1 ≤ d) (q1 : Cond.methodLink own idx mGC ∈ lw_all) (q2 : Cond.selects "[Ljava/lang/Object;" mGC mGC ∈ lw_all) (q3 : Cond.instanceMethod mGC ∈ lw_all) (q4 : Cond.native mGC ∈ lw_all) (hw : w a = some (.inl (5, n, f))) (hW : (st.map fun v => v.category).sum ≤ 8) (dd : decode cc pc = .ok (.invokevirtual idx, 3)) (kk : G κ w sz kc ks L (pc + 3) (.ref (κ.δ.2.2 3) :: st)) : G κ w sz kc ks L pc (.ref a :: st) := by
  intro H locs ls cells slots hz hH hA hS hl hc hs
  have hc0 : H[a]? = some (arrV (κ.δ.2.1 5) n (fun j => f (j : Int))) := hH a _ hw
  obtain ⟨-, -, -, -, -, r4⟩ := (h.K.1.2 5 (κ.δ.2.1 5, .object "java/lang/Object") rfl).2
  obtain ⟨-, -, -, -, -, -, -, -, hM, hD, -⟩ := h.K.2
  have h1 := h.fr
  have h2 := h.lo
  exact va_getC h.hx h.hb (h.hml.trans hl.1.symm) h.hown (h.hts _ q1) (va_Dc.use hD) (h.hts _ q2) (h.hts _ q3) (h.hts _ q4) hM ⟨_, hc0, rfl, r4⟩ (by omega) (by omega) dd (kk H locs ls cells slots hz hH hA hS hl hc hs)
/-- casts: the object's class is that one, or can be cast to it -/
def KY (own : String) (idx : Nat) (C : String) : Prop := ∃ nm, Cond.classLink own idx nm ∈ lw_all ∧ (C = nm ∨ (C, nm) ∈ NWc)
def KN (own : String) (idx : Nat) (C : String) : Prop := ∃ nm, Cond.classLink own idx nm ∈ lw_all ∧ (C, nm) ∈ NNc
theorem g_cast (h : Ok κ own cc d) {idx a ci : Nat} {f : Nat → Value} {q : vw_C} (hw : w a = some (.inr (ci, f))) (hcl : CL[ci]? = some q) (hk : KY own idx q.1) (dd : decode cc pc = .ok (.checkcast idx, 3)) (kk : G κ w sz kc ks L (pc + 3) (.ref a :: st)) : G κ w sz kc ks L pc (.ref a :: st) := by
  intro H locs ls cells slots hz hH hA hS hl hc hs
  obtain ⟨nm, q1, hk⟩ := hk
  obtain ⟨-, hfc, kC, hkC, hkind⟩ := h.K.1.1 ci q hcl
  rcases hk with hk | hk
  · subst hk
    exact va_castS h.hx h.hb h.hown (h.hts _ q1) ⟨hfc, kC, hkC, hkind⟩ (recv_of' h hH hw hcl) dd (kk H locs ls cells slots hz hH hA hS hl hc hs)
  · exact va_castY h.hx h.hb h.hown (h.hts _ q1) (h.K.2.2.2.1 _ hk) (recv_of' h hH hw hcl) dd (kk H locs ls cells slots hz hH hA hS hl hc hs)
theorem g_instY (h : Ok κ own cc d) {idx a ci : Nat} {f : Nat → Value} {q : vw_C} (hw : w a = some (.inr (ci, f))) (hcl : CL[ci]? = some q) (hk : KY own idx q.1) (dd : decode cc pc = .ok (.instanceof idx, 3)) (kk : G κ w sz kc ks L (pc + 3) (vI 1 :: st)) : G κ w sz kc ks L pc (.ref a :: st) := by
  intro H locs ls cells slots hz hH hA hS hl hc hs
  obtain ⟨nm, q1, hk⟩ := hk
  obtain ⟨-, hfc, kC, hkC, hkind⟩ := h.K.1.1 ci q hcl
  rcases hk with hk | hk
  · subst hk
    exact va_instS h.hx h.hb h.hown (h.hts _ q1) ⟨hfc, kC, hkC, hkind⟩ (recv_of' h hH hw hcl) dd (kk H locs ls cells slots hz hH hA hS hl hc hs)
  · exact va_instY h.hx h.hb h.hown (h.hts _ q1) (h.K.2.2.2.1 _ hk) (recv_of' h hH hw hcl) dd (kk H locs ls cells slots hz hH hA hS hl hc hs)
theorem g_instN (h : Ok κ own cc d) {idx a ci : Nat} {f : Nat → Value} {q : vw_C} (hw : w a = some (.inr (ci, f))) (hcl : CL[ci]? = some q) (hk : KN own idx q.1) (dd : decode cc pc = .ok (.instanceof idx, 3)) (kk : G κ w sz kc ks L (pc + 3) (vI 0 :: st)) : G κ w sz kc ks L pc (.ref a :: st) := by
  intro H locs ls cells slots hz hH hA hS hl hc hs
  obtain ⟨nm, q1, hk⟩ := hk
  exact va_instNo h.hx h.hb h.hown (h.hts _ q1) (h.K.2.2.2.2.2.1 _ hk) (recv_of' h hH hw hcl) dd (kk H locs ls cells slots hz hH hA hS hl hc hs)
def rv : Option Nat → Value
  | none => .null
  | some a => .ref a
theorem rv_eq (r : Option Nat) : rv r = va_rf r := by cases r <;> rfl
theorem g_acmp_eq (h : Ok κ own cc d) {a b : Option Nat} {off : Int} {tgt : Nat} (dd : decode cc pc = .ok (.if_acmp .eq off, 3)) (ht : (pc : Int) + off = (tgt : Int)) (kt : a = b → G κ w sz kc ks L tgt st) (kf : ¬ a = b → G κ w sz kc ks L (pc + 3) st) : G κ w sz kc ks L pc (rv b :: rv a :: st) := by
  intro H locs ls cells slots hz hH hA hS hl hc hs
  rw [rv_eq, rv_eq]
  exact lv_acmp_eq h.hx h.hb dd ht (fun q => kt q H locs ls cells slots hz hH hA hS hl hc hs) (fun q => kf q H locs ls cells slots hz hH hA hS hl hc hs)
theorem g_acmp_ne (h : Ok κ own cc d) {a b : Option Nat} {off : Int} {tgt : Nat} (dd : decode cc pc = .ok (.if_acmp .ne off, 3)) (ht : (pc : Int) + off = (tgt : Int)) (kt : ¬ a = b → G κ w sz kc ks L tgt st) (kf : a = b → G κ w sz kc ks L (pc + 3) st) : G κ w sz kc ks L pc (rv b :: rv a :: st) := by
  intro H locs ls cells slots hz hH hA hS hl hc hs
  rw [rv_eq, rv_eq]
  exact lv_acmp_ne h.hx h.hb dd ht (fun q => kt q H locs ls cells slots hz hH hA hS hl hc hs) (fun q => kf q H locs ls cells slots hz hH hA hS hl hc hs)
/-- the length of the JDK's empty array -/
theorem g_alen0 (h : Ok κ own cc d) (dd : decode cc pc = .ok (.arraylength, 1)) (kk : G κ w sz kc ks L (pc + 1) (vI 0 :: st)) : G κ w sz kc ks L pc (.ref (κ.δ.2.2 0) :: st) := by
  intro H locs ls cells slots hz hH hA hS hl hc hs
  obtain ⟨cell, g1, g2, g3, g4, g5, g6, g7⟩ := h.sx.2.1
  refine W.alen (n := Int32.ofInt 0) (ty := .object "java/lang/Object") h.hx h.hb (cell := cell) (by rw [hS.2.1 _ (Array.getElem?_eq_some_iff.mp g1).1 g7]; exact g1) g2 g5 rfl rfl dd (kk H locs ls cells slots hz hH hA hS hl hc hs)
/-- System.arraycopy of the first n places -/
def cpy (f g : Int → Value) (n : Int) : Int → Value := fun i => if 0 ≤ i ∧ i < n then f i else g i
theorem g_copy (h : Ok κ own cc d) {idx t a0 a n0 n1 : Nat} {n : Int} {f g : Int → Value} {ty : FieldType} (hd : 1 ≤ d) (q1 : Cond.methodLink own idx arraycopyName ∈ lw_all) (q2 : Cond.native arraycopyName ∈ lw_all) (q3 : Cond.static arraycopyName ∈ lw_all) (q4 : Cond.initialized "java/lang/System" ∈ lw_all) (ht : (ATs κ.δ.2.1)[t]? = some (κ.δ.2.1 t, ty)) (hw0 : w a0 = some (.inl (t, n0, f))) (hw1 : w a = some (.inl (t, n1, g))) (h0 : 0 ≤ n) (h1 : n.toNat ≤ n0) (h2 : n.toNat ≤ n1) (hn0 : n0 ≤ 2147483647) (hn1 : n1 ≤ 2147483647)
    (hel : ∀ (H : Heap), HR κ.δ w H → ∀ (T : State), T.heap = H → ∀ (vm₁ : Vm), κ.s.vm.Alike vm₁ → ∀ (kA : Class) (comp : ClassId), κ.s.vm.classes[κ.δ.2.1 t]? = some kA → kA.kind = .array comp ty → ∀ i : Nat, i < n.toNat → fits ty (f (i : Int)) = true ∧ (match f (i : Int) with
      | .ref y => ∃ c, T.heap[y]? = some c ∧ (∀ q, c.vm ≠ .statics q) ∧ (∃ kv, vm₁.classes[c.cls]? = some kv) ∧ (∃ kc, vm₁.classes[comp]? = some kc) ∧ vm₁.assignable c.cls comp = true
      | _ => True))
    (hW : (st.map fun v => v.category).sum ≤ 8) (dd : decode cc pc = .ok (.invokestatic idx, 3)) (kk : G κ (wup w a (.inl (t, n1, cpy f g n))) sz kc ks L (pc + 3) st) : G κ w sz kc ks L pc (vI n :: vI 0 :: .ref a :: vI 0 :: .ref a0 :: st) := by
  intro H locs ls cells slots hz hH hA hS hl hc hs T hT X
  have hc0 : H[a0]? = some (arrV (κ.δ.2.1 t) n0 (fun j => f (j : Int))) := hH a0 _ hw0
  have hc1 : H[a]? = some (arrV (κ.δ.2.1 t) n1 (fun j => g (j : Int))) := hH a _ hw1
  obtain ⟨-, k0, hk0, cm0, hkk0⟩ := (h.K.1.2 t _ ht).1 n0 (fun j => f (j : Int))
  have e0 : (Int32.ofInt 0).toNatClampNeg = 0 := i32_cl (by omega) (by omega)
  have en : (Int32.ofInt n).toNatClampNeg = n.toNat := i32_cl h0 (by omega)
  have i0 : (Int32.ofInt 0).toInt = 0 := i32_ti (by omega)
  have iN : (Int32.ofInt n).toInt = n := i32_ti (by omega)
  have hfr := h.fr
  have hlo := h.lo
  have hnw : nativeFrameWords "java/lang/System" "arraycopy" 5 ≤ 40 := by decide
  obtain ⟨vm', X', step⟩ := X.arraycopy h.hx h.hown (h.hts _ q1) (h.hts _ q2) (h.hts _ q3) (h.hts _ q4) (src := a0) (dst := a) (cs := arrV (κ.δ.2.1 t) n0 (fun j => f (j : Int))) (cd := arrV (κ.δ.2.1 t) n1 (fun j => g (j : Int))) (srcPos := Int32.ofInt 0) (destPos := Int32.ofInt 0) (n := Int32.ofInt n) (by rw [hT]; exact hc0) (by rw [hT]; exact hc1)
    (fun _ h => by cases h) (fun _ h => by cases h) (fun h => by cases h) (fun h => by cases h) hk0 hk0 hkk0 hkk0 (by simp) (i32_nn (by omega) (by omega)) (i32_nn (by omega) (by omega)) (i32_nn h0 (by omega))
    (by rw [i0, iN, arrV_size]; omega) (by rw [i0, iN, arrV_size]; omega)
    (fun vm₁ hal i hi => by
      rw [en] at hi
      have e : (arrV (κ.δ.2.1 t) n0 (fun j => f (j : Int))).slots.getD ((Int32.ofInt 0).toNatClampNeg + i) .null = f (i : Int) := by
        rw [e0, Nat.zero_add, Array.getD_eq_getD_getElem?, arrV_read _ _ (by omega)]
        rfl
      rw [e]
      exact hel H hH T hT vm₁ hal k0 cm0 hk0 hkk0 i hi)
    (g := F0 κ.m pc ls (vI n :: vI 0 :: .ref a :: vI 0 :: .ref a0 :: st)) rfl (hl.1.trans h.hml.symm) (rest := st) rfl (by rw [h.hb]; exact dd) (by omega) (by show 2 * 0 + _ + (nativeFrameWords "java/lang/System" "arraycopy" 5 + 11) ≤ _; omega)
  have e1 : copied (arrV (κ.δ.2.1 t) n0 (fun j => f (j : Int))) (arrV (κ.δ.2.1 t) n1 (fun j => g (j : Int))) (Int32.ofInt 0) (Int32.ofInt 0) (Int32.ofInt n) = arrV (κ.δ.2.1 t) n1 (fun j => cpy f g n (j : Int)) := by
    unfold copied
    rw [va_copied (fun z => z) (κ.δ.2.1 t) (κ.δ.2.1 t) (fun j : Nat => f (j : Int)) (fun j : Nat => g (j : Int)) (show (Int32.ofInt 0).toNatClampNeg + (Int32.ofInt n).toNatClampNeg ≤ n0 by rw [e0, en]; omega)]
    congr 1
    funext j
    rw [e0, en]
    by_cases hj : j < n.toNat
    · rw [pk_cpy_in (Nat.zero_le _) (by omega), cpy, if_pos (by omega)]
      simp
    · rw [pk_cpy_out (Or.inr (by omega)), cpy, if_neg (by omega)]
  rw [e1] at X' step
  have hlt : a < H.size := (Array.getElem?_eq_some_iff.mp hc1).1
  have hheap : ((T.setVm vm').setCell a (arrV (κ.δ.2.1 t) n1 (fun j => cpy f g n (j : Int)))).heap = H.setIfInBounds a (arrV (κ.δ.2.1 t) n1 (fun j => cpy f g n (j : Int))) := by rw [← hT]; rfl
  have oq : ∀ q : Nat, q ≠ a → (H.setIfInBounds a (arrV (κ.δ.2.1 t) n1 (fun j => cpy f g n (j : Int))))[q]? = H[q]? := fun q hq => by simp [Array.getElem?_setIfInBounds, Ne.symm hq]
  have hAa : κ.A a := hA a (by rw [hw1]; exact fun z => by cases z)
  obtain ⟨t2, a1, b1⟩ := kk _ _ ls cells slots (by rw [Array.size_setIfInBounds]; exact hz) (hH.up (show (H.setIfInBounds a _)[a]? = some _ by simp [Array.getElem?_setIfInBounds, hlt]) oq) (A_up hA hw1) ⟨by simp; exact hS.1, fun q g1 g2 => by
      rw [oq q (fun e => g2 (by rw [e]; exact hAa))]
      exact hS.2.1 q g1 g2, fun q hq => by
      rcases List.mem_append.mp hq with h | h
      · exact hS.2.2 q h
      · obtain ⟨z, -, hz⟩ := List.mem_map.mp h
        rw [← hz]
        exact hAa⟩ hl hc hs _ hheap X'
  exact ⟨t2, step t2 a1, b1⟩
end GO
