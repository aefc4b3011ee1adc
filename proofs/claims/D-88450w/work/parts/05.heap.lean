/-! ===== the rows of the layer that touch the heap; contracts and calls ===== -/
set_option maxRecDepth 100000
/-- a class of CL with what its fields' rows need -/
def CK (ci : Nat) (C : String) (T : u_T) (N : Nat) : Prop := CL[ci]? = some (C, T, N) ∧ (∀ w ∈ u_ws C T N, w ∈ lw_all) ∧ (∃ ty : Nat → FieldType, ∀ k, k < N → parseFieldDescriptor (T k).2.2.1 = some (ty k)) ∧ (∀ a, a < N → ∀ b, b < N → a ≠ b → (T a).2.1 ≠ (T b).2.1)
theorem ck0 : CK 0 RX0 TX0 13 := ⟨rfl, in_X0, ⟨tyX0, tyX0_ok⟩, nmX0⟩
theorem ck1 : CK 1 RX1 TX1 64 := ⟨rfl, in_X1, ⟨tyX1, tyX1_ok⟩, nmX1⟩
theorem ck2 : CK 2 RX2 TX2 3 := ⟨rfl, in_X2, ⟨tyX2, tyX2_ok⟩, nmX2⟩
theorem ck3 : CK 3 RX3 TX3 3 := ⟨rfl, in_X3, ⟨tyX3, tyX3_ok⟩, nmX3⟩
theorem ck4 : CK 4 RX4 TX4 6 := ⟨rfl, in_X4, ⟨tyX4, tyX4_ok⟩, nmX4⟩
theorem ck5 : CK 5 RX6 TX6 3 := ⟨rfl, in_X6, ⟨tyX6, tyX6_ok⟩, nmX6⟩
theorem ck6 : CK 6 RX7 TX7 7 := ⟨rfl, in_X7, ⟨tyX7, tyX7_ok⟩, nmX7⟩
theorem ck7 : CK 7 RX8 TX8 1 := ⟨rfl, in_X8, ⟨tyX8, tyX8_ok⟩, nmX8⟩
theorem ck8 : CK 8 RX9 TX9 3 := ⟨rfl, in_X9, ⟨tyX9, tyX9_ok⟩, nmX9⟩
theorem ck9 : CK 9 RX10 TX10 2 := ⟨rfl, in_X10, ⟨tyX10, tyX10_ok⟩, nmX10⟩
theorem ck10 : CK 10 RX11 TX11 4 := ⟨rfl, in_X11, ⟨tyX11, tyX11_ok⟩, nmX11⟩
theorem ck11 : CK 11 RX12 TX12 2 := ⟨rfl, in_X12, ⟨tyX12, tyX12_ok⟩, nmX12⟩
theorem ck12 : CK 12 RX13 TX13 3 := ⟨rfl, in_X13, ⟨tyX13, tyX13_ok⟩, nmX13⟩
theorem ck13 : CK 13 RX14 TX14 6 := ⟨rfl, in_X14, ⟨tyX14, tyX14_ok⟩, nmX14⟩
theorem ck14 : CK 14 RX16 TX16 8 := ⟨rfl, in_X16, ⟨tyX16, tyX16_ok⟩, nmX16⟩
theorem ck15 : CK 15 RX17 TX17 8 := ⟨rfl, in_X17, ⟨tyX17, tyX17_ok⟩, nmX17⟩
theorem ck16 : CK 16 RJ2 TJ2 3 := ⟨rfl, in_J2, ⟨tyJ2, tyJ2_ok⟩, nmJ2⟩
/-- a field entry of a class's pool: field k of class ci -/
def FL (own : String) (idx ci k : Nat) : Prop := ∃ (C ref : String) (T : u_T) (N : Nat), CK ci C T N ∧ k < N ∧
  (Cond.fieldLink own idx ref (T k).2.1 (T k).2.2.1 ∈ lw_all ∨ ∃ host, (own, idx, ref, (T k).2.1, (T k).2.2.1, host) ∈ NWf) ∧ (ref = (T k).1 ∨ Cond.sameField ref (T k).1 (T k).2.1 (T k).2.2.1 ∈ lw_all)
def FP (own : String) (idx ci k : Nat) (ty : FieldType) : Prop := ∃ (C ref : String) (T : u_T) (N : Nat), CK ci C T N ∧ k < N ∧
  (Cond.fieldLink own idx ref (T k).2.1 (T k).2.2.1 ∈ lw_all ∨ ∃ host, (own, idx, ref, (T k).2.1, (T k).2.2.1, host) ∈ NWf) ∧ (ref = (T k).1 ∨ Cond.sameField ref (T k).1 (T k).2.1 (T k).2.2.1 ∈ lw_all) ∧ (T k).2.2.2 = false ∧ parseFieldDescriptor (T k).2.2.1 = some ty
def FF (own : String) (idx ci k : Nat) (ty : FieldType) : Prop := ∃ (C ref : String) (T : u_T) (N : Nat), CK ci C T N ∧ k < N ∧
  Cond.fieldLink own idx ref (T k).2.1 (T k).2.2.1 ∈ lw_all ∧ (ref = (T k).1 ∨ Cond.sameField ref (T k).1 (T k).2.1 (T k).2.2.1 ∈ lw_all) ∧ (T k).2.2.2 = true ∧ (T k).1 = own ∧ parseFieldDescriptor (T k).2.2.1 = some ty
theorem hat_obj {δ : Dl} {a ci : Nat} {f : Nat → Value} {H : Heap} {C : String} {T : u_T} {N : Nat} (h : hat δ a (.inr (ci, f)) H) (hc : CL[ci]? = some (C, T, N)) : t_OB a (δ.1.1 ci) N (δ.1.2 ci) H f := by
  obtain ⟨r, hr, ho⟩ := h
  cases hr.symm.trans hc
  exact ho
theorem same_of {args : Array Value} {s : State} {ref : String} {o n dd : String} (hts : ∀ w ∈ lw_all, w.before args s = true) (h : ref = o ∨ Cond.sameField ref o n dd ∈ lw_all) : ∀ x, s.fieldFound? o n dd = some x → s.fieldFound? ref n dd = some x := by
  intro x hx
  rcases h with rfl | h
  · exact hx
  · exact u_same (hts _ h) x hx
section GH
variable {κ : Cx} {own : String} {cc : ByteArray} {d : Nat} {w : Hw} {sz kc ks : Nat} {L : List (Option Value)} {pc : Nat} {st : List Value}
theorem Ok.nwf (h : Ok κ own cc d) {q : String × Nat × String × String × String × String} (hq : q ∈ NWf) : (Cond.fieldLinkNest q.1 q.2.1 q.2.2.1 q.2.2.2.1 q.2.2.2.2.1 q.2.2.2.2.2).before κ.as κ.s = true := va_Nw.use rfl (h.K.2.1 q hq)
theorem g_get (h : Ok κ own cc d) {idx ci k a : Nat} {f : Nat → Value} (F : FL own idx ci k) (hw : w a = some (.inr (ci, f))) {v : Value} (hv : f k = v) (dd : decode cc pc = .ok (.getfield idx, 3)) (kk : G κ w sz kc ks L (pc + 3) (v :: st)) : G κ w sz kc ks L pc (.ref a :: st) := by
  intro H locs ls cells slots hz hH hA hS hl hc hs
  obtain ⟨C, ref, T, N, ⟨hcl, hin, -, -⟩, hk, hln, hsm⟩ := F
  obtain ⟨cell, q1, q2, q3, q4⟩ := hat_obj (hH a _ hw) hcl
  obtain ⟨hSl, hfc, kC, hkC, hkind⟩ := h.K.1.1 ci _ hcl
  obtain ⟨cf, kf, fi, fd, hi, hsl⟩ := hSl k hk
  have hst := (u_facts hfc hkC (u_lays h.hts hin hk) hi).1
  have hsame := same_of h.hts hsm _ hi
  have hval : cell.slots[fd.slot]? = some v := by rw [hsl, q4 k hk, hv]
  have hkn : cell.vm ≠ .unknown := by rw [q3]; exact fun z => by cases z
  rcases hln with hln | ⟨host, hln⟩
  · exact W.getf h.hx h.hb h.hown (h.hts _ hln) hsame hst q1 hkn hval rfl rfl dd (kk H locs ls cells slots hz hH hA hS hl hc hs)
  · exact va_Wgetf h.hx h.hb h.hown (h.nwf hln) hsame hst q1 hkn hval rfl rfl dd (kk H locs ls cells slots hz hH hA hS hl hc hs)
theorem S_put (h : Ok κ own cc d) {H H1 : Heap} {locs : List Loc} {a i : Nat} (hA : ∀ a, w a ≠ none → κ.A a) {e : En} (hw : w a = some e) (hS : va_S κ.A κ.s.heap H locs) (z : H1.size = H.size) (oq : ∀ q : Nat, q ≠ a → H1[q]? = H[q]?) : va_S κ.A κ.s.heap H1 (locs ++ [⟨a, i⟩]) :=
  hS.put z oq (hA a (by rw [hw]; exact fun z => by cases z))
theorem A_up (hA : ∀ a, w a ≠ none → κ.A a) {a : Nat} {e e' : En} (hw : w a = some e) : ∀ b, wup w a e' b ≠ none → κ.A b := by
  intro b hb
  by_cases hq : b = a
  · subst hq
    exact hA b (by rw [hw]; exact fun z => by cases z)
  · rw [wup_n hq] at hb
    exact hA b hb
theorem A_new (hA : ∀ a, w a ≠ none → κ.A a) {a : Nat} {e' : En} (ha : κ.A a) : ∀ b, wup w a e' b ≠ none → κ.A b := by
  intro b hb
  by_cases hq : b = a
  · subst hq
    exact ha
  · rw [wup_n hq] at hb
    exact hA b hb
theorem g_put (h : Ok κ own cc d) {idx ci k a : Nat} {ty : FieldType} {f : Nat → Value} {v : Value} (F : FP own idx ci k ty) (hw : w a = some (.inr (ci, f))) (hn : narrow ty v = v) (hfit : fits ty v = true) (dd : decode cc pc = .ok (.putfield idx, 3)) (kk : G κ (wup w a (.inr (ci, fup f k v))) sz kc ks L (pc + 3) st) : G κ w sz kc ks L pc (v :: .ref a :: st) := by
  intro H locs ls cells slots hz hH hA hS hl hc hs
  obtain ⟨C, ref, T, N, ⟨hcl, hin, ⟨ty0, hty⟩, hnm⟩, hk, hln, hsm, hfin, hd⟩ := F
  have hap := va_apart (own := own) h.hts hin ty0 hty hnm h.K.1 hcl
  obtain ⟨cell, q1, q2, q3, q4⟩ := hat_obj (hH a _ hw) hcl
  obtain ⟨hSl, hfc, kC, hkC, hkind⟩ := h.K.1.1 ci _ hcl
  obtain ⟨cf, kf, fi, fd, hi, hsl⟩ := hSl k hk
  have hlay := h.hts _ (hin _ (u_in_lay hk))
  unfold u_lay at hlay
  rw [if_neg (by rw [hfin]; decide)] at hlay
  have hst := (u_facts hfc hkC (u_lays h.hts hin hk) hi).1
  have h6 := u_store hfc hkC hkind hlay hi hd hn hfit
  have hsame := same_of h.hts hsm _ hi
  have go : ∀ H' : Heap, H'[a]? = some (cell.setSlot fd.slot v) → H'.size = H.size → (∀ q, q ≠ a → H'[q]? = H[q]?) → Wk κ H' (locs ++ [⟨a, fd.slot⟩]) cells slots (F0 κ.m (pc + 3) ls st) := by
    intro H' e1 e2 e3
    refine kk H' _ ls cells slots (e2.trans hz) (hH.up ?_ e3) (A_up hA hw) (S_put h hA hw hS e2 e3) hl hc hs
    refine ⟨_, hcl, _, e1, q2, q3, fun j hj => ?_⟩
    rw [hsl]
    have := t_set q4 hap hk v j hj
    rw [this]
    unfold fup updV
    rfl
  rcases hln with hln | ⟨host, hln⟩
  · exact W.putK h.hx h.hb (f := fd) ⟨h.hown, h.hts _ hln, ⟨_, _, _, hsame⟩, hst⟩ (by rw [q2]; exact h6) q1 q3 (by rw [hsl]; exact k2_hasslot (q4 k hk)) rfl rfl dd go
  · exact va_WputK h.hx h.hb (f := fd) h.hown (h.nwf hln) hsame hst (by rw [q2]; exact h6) q1 q3 (by rw [hsl]; exact k2_hasslot (q4 k hk)) rfl rfl dd go
theorem g_putF (h : Ok κ own cc d) {idx ci k a : Nat} {ty : FieldType} {f : Nat → Value} {v : Value} (F : FF own idx ci k ty) (hin2 : κ.me.name = "<init>") (hw : w a = some (.inr (ci, f))) (hn : narrow ty v = v) (hfit : fits ty v = true) (dd : decode cc pc = .ok (.putfield idx, 3)) (kk : G κ (wup w a (.inr (ci, fup f k v))) sz kc ks L (pc + 3) st) : G κ w sz kc ks L pc (v :: .ref a :: st) := by
  intro H locs ls cells slots hz hH hA hS hl hc hs
  obtain ⟨C, ref, T, N, ⟨hcl, hin, ⟨ty0, hty⟩, hnm⟩, hk, hln, hsm, hfin, hdecl, hd⟩ := F
  have hap := va_apart (own := own) h.hts hin ty0 hty hnm h.K.1 hcl
  obtain ⟨cell, q1, q2, q3, q4⟩ := hat_obj (hH a _ hw) hcl
  obtain ⟨hSl, hfc, kC, hkC, hkind⟩ := h.K.1.1 ci _ hcl
  obtain ⟨cf, kf, fi, fd, hi, hsl⟩ := hSl k hk
  have hlay := h.hts _ (hin _ (u_in_lay hk))
  unfold u_lay at hlay
  rw [if_pos hfin] at hlay
  have hst := (u_facts hfc hkC (u_lays h.hts hin hk) hi).1
  have hcf : κ.m.cls = cf := by
    obtain ⟨_, _, c', _, _, _, -, -, hf', -, -, -, hown2, -⟩ := Cond.laysFinal_spec hlay
    have e1 : c' = cf := by have := hi.symm.trans hf'; simp at this; exact this.1.symm
    rw [hdecl] at hown2
    rw [← e1]; exact Option.some.inj (h.hown.symm.trans hown2)
  have h6 := u_fits hfc hkC hkind (Or.inr hlay) hi hd hn hfit
  have hsame := same_of h.hts hsm _ hi
  refine W.putFinK h.hx h.hb h.hown (h.hts _ hln) hsame hst hcf hin2 (by rw [q2]; exact h6) q1 q3 (by rw [hsl]; exact k2_hasslot (q4 k hk)) rfl rfl dd fun H' e1 e2 e3 => ?_
  refine kk H' _ ls cells slots (e2.trans hz) (hH.up ?_ e3) (A_up hA hw) (S_put h hA hw hS e2 e3) hl hc hs
  refine ⟨_, hcl, _, e1, q2, q3, fun j hj => ?_⟩
  rw [hsl]
  have := t_set q4 hap hk v j hj
  rw [this]
  unfold fup updV
  rfl
/-! arrays: kinds 0 int, 1 byte, 2 boolean, 3 long, 4 World, 5 Object -/
theorem Ok.arr (h : Ok κ own cc d) (t : Nat) {q : ClassId × FieldType} (ht : (ATs κ.δ.2.1)[t]? = some q) (n : Nat) (f : Nat → Value) : κ.s.isArrayOf (arrV q.1 n f) q.2 := (h.K.1.2 t q ht).1 n f
theorem g_alen (h : Ok κ own cc d) {t n a : Nat} {f : Int → Value} {q : ClassId × FieldType} (ht : (ATs κ.δ.2.1)[t]? = some q := by rfl) (he : q.1 = κ.δ.2.1 t := by rfl) (hw : w a = some (.inl (t, n, f))) (dd : decode cc pc = .ok (.arraylength, 1)) (kk : G κ w sz kc ks L (pc + 1) (vI n :: st)) : G κ w sz kc ks L pc (.ref a :: st) := by
  intro H locs ls cells slots hz hH hA hS hl hc hs
  have hc0 : H[a]? = some (arrV (κ.δ.2.1 t) n (fun j => f (j : Int))) := hH a _ hw
  refine W.alen (n := Int32.ofInt n) (ty := q.2) h.hx h.hb hc0 (by rw [← he]; exact h.arr t ht n _) (by rw [arrV_size]; exact (Int32.ofInt_eq_ofNat (n := n)).symm) rfl rfl dd (kk H locs ls cells slots hz hH hA hS hl hc hs)
theorem arr_up {cA : ClassId} {n : Nat} {f : Int → Value} {i : Int} {v : Value} (h0 : 0 ≤ i) : arrV cA n (updV (fun j : Nat => f (j : Int)) i.toNat v) = arrV cA n (fun j : Nat => iup f i v (j : Int)) := by
  congr 1
  funext j
  unfold updV iup
  by_cases hj : j = i.toNat
  · rw [if_pos hj, if_pos (by omega)]
  · rw [if_neg hj, if_neg (by omega)]
theorem nar_b {x : Int} (hx : -128 ≤ x ∧ x ≤ 127) : narrow .byte (.int (Int32.ofInt x)) = vI x := congrArg Value.int (zByte_of hx)
theorem nar_z {x : Int} (hx : x = 0 ∨ x = 1) : narrow .boolean (.int (Int32.ofInt x)) = vI x := by
  rcases hx with rfl | rfl <;> decide
theorem g_iald (h : Ok κ own cc d) {n a : Nat} {f : Int → Value} {i : Int} (hw : w a = some (.inl (0, n, f))) (hi : 0 ≤ i ∧ i < n) (dd : decode cc pc = .ok (.iaload, 1)) (kk : G κ w sz kc ks L (pc + 1) (f i :: st)) (hn : n ≤ 2147483647 := by decide) : G κ w sz kc ks L pc (vI i :: .ref a :: st) := by
  intro H locs ls cells slots hz hH hA hS hl hc hs
  have hc0 : H[a]? = some (arrV (κ.δ.2.1 0) n (fun j => f (j : Int))) := hH a _ hw
  refine W.iald h.hx h.hb hc0 (h.arr 0 rfl n _) (fun z => by cases z) (by rw [arrV_size]; exact i32_in hi hn) (v := f i) ?_ rfl rfl dd (kk H locs ls cells slots hz hH hA hS hl hc hs)
  rw [i32_cl hi.1 (by omega), arrV_read _ _ (by omega), Int.toNat_of_nonneg hi.1]
theorem g_bald (h : Ok κ own cc d) {n a : Nat} {f : Int → Value} {i : Int} (hw : w a = some (.inl (1, n, f))) (hi : 0 ≤ i ∧ i < n) (dd : decode cc pc = .ok (.baload, 1)) (kk : G κ w sz kc ks L (pc + 1) (f i :: st)) (hn : n ≤ 2147483647 := by decide) : G κ w sz kc ks L pc (vI i :: .ref a :: st) := by
  intro H locs ls cells slots hz hH hA hS hl hc hs
  have hc0 : H[a]? = some (arrV (κ.δ.2.1 1) n (fun j => f (j : Int))) := hH a _ hw
  refine W.bald h.hx h.hb hc0 (h.arr 1 rfl n _) (fun z => by cases z) (by rw [arrV_size]; exact i32_in hi hn) (v := f i) ?_ rfl rfl dd (kk H locs ls cells slots hz hH hA hS hl hc hs)
  rw [i32_cl hi.1 (by omega), arrV_read _ _ (by omega), Int.toNat_of_nonneg hi.1]
theorem g_zald (h : Ok κ own cc d) {n a : Nat} {f : Int → Value} {i : Int} (hw : w a = some (.inl (2, n, f))) (hi : 0 ≤ i ∧ i < n) (dd : decode cc pc = .ok (.baload, 1)) (kk : G κ w sz kc ks L (pc + 1) (f i :: st)) (hn : n ≤ 2147483647 := by decide) : G κ w sz kc ks L pc (vI i :: .ref a :: st) := by
  intro H locs ls cells slots hz hH hA hS hl hc hs
  have hc0 : H[a]? = some (arrV (κ.δ.2.1 2) n (fun j => f (j : Int))) := hH a _ hw
  refine W.zald h.hx h.hb hc0 (h.arr 2 rfl n _) (fun z => by cases z) (by rw [arrV_size]; exact i32_in hi hn) (v := f i) ?_ rfl rfl dd (kk H locs ls cells slots hz hH hA hS hl hc hs)
  rw [i32_cl hi.1 (by omega), arrV_read _ _ (by omega), Int.toNat_of_nonneg hi.1]
theorem g_lald (h : Ok κ own cc d) {n a : Nat} {f : Int → Value} {i : Int} (hw : w a = some (.inl (3, n, f))) (hi : 0 ≤ i ∧ i < n) (dd : decode cc pc = .ok (.laload, 1)) (kk : G κ w sz kc ks L (pc + 1) (f i :: st)) (hn : n ≤ 2147483647 := by decide) : G κ w sz kc ks L pc (vI i :: .ref a :: st) := by
  intro H locs ls cells slots hz hH hA hS hl hc hs
  have hc0 : H[a]? = some (arrV (κ.δ.2.1 3) n (fun j => f (j : Int))) := hH a _ hw
  refine W.lald h.hx h.hb hc0 (h.arr 3 rfl n _) (fun z => by cases z) (by rw [arrV_size]; exact i32_in hi hn) (v := f i) ?_ rfl rfl dd (kk H locs ls cells slots hz hH hA hS hl hc hs)
  rw [i32_cl hi.1 (by omega), arrV_read _ _ (by omega), Int.toNat_of_nonneg hi.1]
theorem g_wald (h : Ok κ own cc d) {n a : Nat} {f : Int → Value} {i : Int} (hw : w a = some (.inl (4, n, f))) (hi : 0 ≤ i ∧ i < n) (dd : decode cc pc = .ok (.aaload, 1)) (kk : G κ w sz kc ks L (pc + 1) (f i :: st)) (hn : n ≤ 2147483647 := by decide) : G κ w sz kc ks L pc (vI i :: .ref a :: st) := by
  intro H locs ls cells slots hz hH hA hS hl hc hs
  have hc0 : H[a]? = some (arrV (κ.δ.2.1 4) n (fun j => f (j : Int))) := hH a _ hw
  refine W.aald h.hx h.hb hc0 (h.arr 4 rfl n _) (by rfl) (fun z => by cases z) (by rw [arrV_size]; exact i32_in hi hn) (v := f i) ?_ rfl rfl dd (kk H locs ls cells slots hz hH hA hS hl hc hs)
  rw [i32_cl hi.1 (by omega), arrV_read _ _ (by omega), Int.toNat_of_nonneg hi.1]
theorem g_oald (h : Ok κ own cc d) {n a : Nat} {f : Int → Value} {i : Int} (hw : w a = some (.inl (5, n, f))) (hi : 0 ≤ i ∧ i < n) (dd : decode cc pc = .ok (.aaload, 1)) (kk : G κ w sz kc ks L (pc + 1) (f i :: st)) (hn : n ≤ 2147483647 := by decide) : G κ w sz kc ks L pc (vI i :: .ref a :: st) := by
  intro H locs ls cells slots hz hH hA hS hl hc hs
  have hc0 : H[a]? = some (arrV (κ.δ.2.1 5) n (fun j => f (j : Int))) := hH a _ hw
  refine W.aald h.hx h.hb hc0 (h.arr 5 rfl n _) (by rfl) (fun z => by cases z) (by rw [arrV_size]; exact i32_in hi hn) (v := f i) ?_ rfl rfl dd (kk H locs ls cells slots hz hH hA hS hl hc hs)
  rw [i32_cl hi.1 (by omega), arrV_read _ _ (by omega), Int.toNat_of_nonneg hi.1]
theorem g_iast (h : Ok κ own cc d) {n a : Nat} {f : Int → Value} {i : Int} {x : Int} (hw : w a = some (.inl (0, n, f))) (hi : 0 ≤ i ∧ i < n) (dd : decode cc pc = .ok (.iastore, 1)) (kk : G κ (wup w a (.inl (0, n, iup f i (vI x)))) sz kc ks L (pc + 1) st) (hn : n ≤ 2147483647 := by decide) : G κ w sz kc ks L pc (vI x :: vI i :: .ref a :: st) := by
  intro H locs ls cells slots hz hH hA hS hl hc hs
  have hc0 : H[a]? = some (arrV (κ.δ.2.1 0) n (fun j => f (j : Int))) := hH a _ hw
  refine W.iast h.hx h.hb hc0 (h.arr 0 rfl n _) (fun z => by cases z) (by rw [arrV_size]; exact i32_in hi hn) rfl rfl dd fun H1 e1 z oq => ?_
  refine kk H1 _ ls cells slots (z.trans hz) (hH.up ?_ oq) (A_up hA hw) (S_put h hA hw hS z oq) hl hc hs
  show H1[a]? = some (arrV _ _ _)
  rw [i32_cl hi.1 (by omega)] at e1
  rw [e1, arrV_store]
  exact congrArg some (arr_up hi.1)
theorem g_bast (h : Ok κ own cc d) {n a : Nat} {f : Int → Value} {i : Int} {x : Int} (hw : w a = some (.inl (1, n, f))) (hi : 0 ≤ i ∧ i < n) (dd : decode cc pc = .ok (.bastore, 1)) (kk : G κ (wup w a (.inl (1, n, iup f i (vI x)))) sz kc ks L (pc + 1) st) (hx : -128 ≤ x ∧ x ≤ 127 := by omega) (hn : n ≤ 2147483647 := by decide) : G κ w sz kc ks L pc (vI x :: vI i :: .ref a :: st) := by
  intro H locs ls cells slots hz hH hA hS hl hc hs
  have hc0 : H[a]? = some (arrV (κ.δ.2.1 1) n (fun j => f (j : Int))) := hH a _ hw
  refine W.bast h.hx h.hb hc0 (h.arr 1 rfl n _) (fun z => by cases z) (by rw [arrV_size]; exact i32_in hi hn) rfl rfl dd fun H1 e1 z oq => ?_
  refine kk H1 _ ls cells slots (z.trans hz) (hH.up ?_ oq) (A_up hA hw) (S_put h hA hw hS z oq) hl hc hs
  show H1[a]? = some (arrV _ _ _)
  rw [i32_cl hi.1 (by omega)] at e1
  rw [nar_b hx] at e1
  rw [e1, arrV_store]
  exact congrArg some (arr_up hi.1)
theorem g_zast (h : Ok κ own cc d) {n a : Nat} {f : Int → Value} {i : Int} {x : Int} (hw : w a = some (.inl (2, n, f))) (hi : 0 ≤ i ∧ i < n) (dd : decode cc pc = .ok (.bastore, 1)) (kk : G κ (wup w a (.inl (2, n, iup f i (vI x)))) sz kc ks L (pc + 1) st) (hx : x = 0 ∨ x = 1 := by omega) (hn : n ≤ 2147483647 := by decide) : G κ w sz kc ks L pc (vI x :: vI i :: .ref a :: st) := by
  intro H locs ls cells slots hz hH hA hS hl hc hs
  have hc0 : H[a]? = some (arrV (κ.δ.2.1 2) n (fun j => f (j : Int))) := hH a _ hw
  refine W.zast h.hx h.hb hc0 (h.arr 2 rfl n _) (fun z => by cases z) (by rw [arrV_size]; exact i32_in hi hn) rfl rfl dd fun H1 e1 z oq => ?_
  refine kk H1 _ ls cells slots (z.trans hz) (hH.up ?_ oq) (A_up hA hw) (S_put h hA hw hS z oq) hl hc hs
  show H1[a]? = some (arrV _ _ _)
  rw [i32_cl hi.1 (by omega)] at e1
  rw [nar_z hx] at e1
  rw [e1, arrV_store]
  exact congrArg some (arr_up hi.1)
theorem g_last (h : Ok κ own cc d) {n a : Nat} {f : Int → Value} {i : Int} {x : Int} (hw : w a = some (.inl (3, n, f))) (hi : 0 ≤ i ∧ i < n) (dd : decode cc pc = .ok (.lastore, 1)) (kk : G κ (wup w a (.inl (3, n, iup f i (vL x)))) sz kc ks L (pc + 1) st) (hn : n ≤ 2147483647 := by decide) : G κ w sz kc ks L pc (vL x :: vI i :: .ref a :: st) := by
  intro H locs ls cells slots hz hH hA hS hl hc hs
  have hc0 : H[a]? = some (arrV (κ.δ.2.1 3) n (fun j => f (j : Int))) := hH a _ hw
  refine W.last h.hx h.hb hc0 (h.arr 3 rfl n _) (fun z => by cases z) (by rw [arrV_size]; exact i32_in hi hn) rfl rfl dd fun H1 e1 z oq => ?_
  refine kk H1 _ ls cells slots (z.trans hz) (hH.up ?_ oq) (A_up hA hw) (S_put h hA hw hS z oq) hl hc hs
  show H1[a]? = some (arrV _ _ _)
  rw [i32_cl hi.1 (by omega)] at e1
  rw [e1, arrV_store]
  exact congrArg some (arr_up hi.1)
end GH
