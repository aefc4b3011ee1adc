/-! ===== the rows of the layer: one an instruction ===== -/
set_option maxRecDepth 100000
section GR
variable {κ : Cx} {own : String} {cc : ByteArray} {d : Nat} {w : Hw} {sz kc ks : Nat} {L : List (Option Value)} {pc : Nat} {st : List Value}
theorem i32_le {a b : Int} (ha : -2147483648 ≤ a ∧ a ≤ 2147483647) (hb : -2147483648 ≤ b ∧ b ≤ 2147483647) : Int32.ofInt a ≤ Int32.ofInt b ↔ a ≤ b := Int32.ofInt_le_iff_le ha.1 ha.2 hb.1 hb.2
theorem i32_lt {a b : Int} (ha : -2147483648 ≤ a ∧ a ≤ 2147483647) (hb : -2147483648 ≤ b ∧ b ≤ 2147483647) : Int32.ofInt a < Int32.ofInt b ↔ a < b := Int32.ofInt_lt_iff_lt ha.1 ha.2 hb.1 hb.2
theorem i32_ti {a : Int} (ha : -2147483648 ≤ a ∧ a ≤ 2147483647) : (Int32.ofInt a).toInt = a := Int32.toInt_ofInt_of_le ha.1 (by omega)
theorem i32_eq {a b : Int} (ha : -2147483648 ≤ a ∧ a ≤ 2147483647) (hb : -2147483648 ≤ b ∧ b ≤ 2147483647) : Int32.ofInt a = Int32.ofInt b ↔ a = b := by
  constructor
  · intro h
    have := congrArg Int32.toInt h
    rwa [i32_ti ha, i32_ti hb] at this
  · intro h
    rw [h]
theorem i32_r (x : Int32) : -2147483648 ≤ x.toInt ∧ x.toInt ≤ 2147483647 := by
  have h1 := x.toInt_lt
  have h2 := x.le_toInt
  omega
theorem i32_0 : Int32.ofInt 0 = 0 := by decide
theorem i32_cl {a : Int} (h0 : 0 ≤ a) (h1 : a ≤ 2147483647) : (Int32.ofInt a).toNatClampNeg = a.toNat := Int32.toNatClampNeg_ofInt_of_le (by omega) (by omega)
theorem i32_in {a : Int} {n : Nat} (h : 0 ≤ a ∧ a < n) (hn : n ≤ 2147483647) : ¬ (Int32.ofInt a < 0 ∨ n ≤ (Int32.ofInt a).toNatClampNeg) := by
  intro q
  rcases q with q | q
  · rw [← i32_0, i32_lt (by omega) (by omega)] at q
    omega
  · rw [i32_cl h.1 (by omega)] at q
    omega
theorem hpS {i : Nat} (hc : c1 (L.getD i none) = true) : ∀ j, j + 1 = i + 1 → c1 (L.getD j none) = true := fun j hj => by
  obtain rfl : j = i := by omega
  exact hc
theorem hpZ : ∀ j, j + 1 = 0 → c1 (L.getD j none) = true := fun j hj => absurd hj (by omega)
theorem wkgo {g g' : JFrame} {H : Heap} {locs : List Loc} {cells slots : Nat} (h : g = g') (k : Wk κ H locs cells slots g') : Wk κ H locs cells slots g := h ▸ k

theorem g_iconst (h : Ok κ own cc d) {n : Int} (dd : decode cc pc = .ok (.iconst n, 1)) (k : G κ w sz kc ks L (pc + 1) (vI n :: st)) : G κ w sz kc ks L pc (st) := by
  intro H locs ls cells slots hz hH hA hS hl hc hs
  exact lv_iconst h.hx h.hb dd rfl (k H locs ls cells slots hz hH hA hS hl hc hs)
theorem g_bipush (h : Ok κ own cc d) {n : Int} (dd : decode cc pc = .ok (.bipush n, 2)) (k : G κ w sz kc ks L (pc + 2) (vI n :: st)) (hv : (Int8.ofInt n).toInt32 = Int32.ofInt n := by decide) : G κ w sz kc ks L pc st := by
  intro H locs ls cells slots hz hH hA hS hl hc hs
  exact lv_bipush h.hx h.hb dd hv (k H locs ls cells slots hz hH hA hS hl hc hs)
theorem g_sipush (h : Ok κ own cc d) {n : Int} (dd : decode cc pc = .ok (.sipush n, 3)) (k : G κ w sz kc ks L (pc + 3) (vI n :: st)) (hv : (Int16.ofInt n).toInt32 = Int32.ofInt n := by decide) : G κ w sz kc ks L pc st := by
  intro H locs ls cells slots hz hH hA hS hl hc hs
  exact lv_sipush h.hx h.hb dd hv (k H locs ls cells slots hz hH hA hS hl hc hs)
theorem g_lconst0 (h : Ok κ own cc d) (dd : decode cc pc = .ok (.lconst 0, 1)) (k : G κ w sz kc ks L (pc + 1) (vL 0 :: st)) : G κ w sz kc ks L pc (st) := by
  intro H locs ls cells slots hz hH hA hS hl hc hs
  exact lv_lconst h.hx h.hb dd (by decide) (k H locs ls cells slots hz hH hA hS hl hc hs)
theorem g_lconst1 (h : Ok κ own cc d) (dd : decode cc pc = .ok (.lconst 1, 1)) (k : G κ w sz kc ks L (pc + 1) (vL 1 :: st)) : G κ w sz kc ks L pc (st) := by
  intro H locs ls cells slots hz hH hA hS hl hc hs
  exact lv_lconst h.hx h.hb dd (by decide) (k H locs ls cells slots hz hH hA hS hl hc hs)
theorem g_null (h : Ok κ own cc d) (dd : decode cc pc = .ok (.aconst_null, 1)) (k : G κ w sz kc ks L (pc + 1) (.null :: st)) : G κ w sz kc ks L pc (st) := by
  intro H locs ls cells slots hz hH hA hS hl hc hs
  exact lv_null h.hx h.hb dd (k H locs ls cells slots hz hH hA hS hl hc hs)
theorem g_ldc (h : Ok κ own cc d) {idx : Nat} {x : Int32} (n : Int) (q : Cond.constant own idx x ∈ lw_all) (hn : Int32.ofInt n = x) (dd : decode cc pc = .ok (.ldc idx, 2)) (k : G κ w sz kc ks L (pc + 2) (vI n :: st)) : G κ w sz kc ks L pc st := by
  intro H locs ls cells slots hz hH hA hS hl hc hs
  subst hn
  exact W.ldc h.hx h.hb h.hown (h.hts _ q) rfl dd (k H locs ls cells slots hz hH hA hS hl hc hs)
theorem g_ldc2 (h : Ok κ own cc d) {idx : Nat} {x : Int64} (n : Int) (q : Cond.constantLong own idx x ∈ lw_all) (hn : Int64.ofInt n = x) (dd : decode cc pc = .ok (.ldc2_w idx, 3)) (k : G κ w sz kc ks L (pc + 3) (vL n :: st)) : G κ w sz kc ks L pc st := by
  intro H locs ls cells slots hz hH hA hS hl hc hs
  subst hn
  exact W.ldc2 h.hx h.hb h.hown (h.hts _ q) rfl dd (k H locs ls cells slots hz hH hA hS hl hc hs)
theorem g_iload_n (h : Ok κ own cc d) {z : Int} {i : Fin 4} (dd : decode cc pc = .ok (.iload_n i, 1)) (hi : L[(i : Nat)]? = some (some (vI z))) (k : G κ w sz kc ks L (pc + 1) (vI z :: st)) : G κ w sz kc ks L pc st := by
  intro H locs ls cells slots hz hH hA hS hl hc hs
  exact lv_iload_n h.hx h.hb dd rfl (lvs_get hl hi) (k H locs ls cells slots hz hH hA hS hl hc hs)
theorem g_iload (h : Ok κ own cc d) {z : Int} {i : Nat} (dd : decode cc pc = .ok (.iload i, 2)) (hi : L[i]? = some (some (vI z))) (k : G κ w sz kc ks L (pc + 2) (vI z :: st)) : G κ w sz kc ks L pc st := by
  intro H locs ls cells slots hz hH hA hS hl hc hs
  exact lv_iload h.hx h.hb dd (lvs_get hl hi) (k H locs ls cells slots hz hH hA hS hl hc hs)
theorem g_lload_n (h : Ok κ own cc d) {z : Int} {i : Fin 4} (dd : decode cc pc = .ok (.lload_n i, 1)) (hi : L[(i : Nat)]? = some (some (vL z))) (k : G κ w sz kc ks L (pc + 1) (vL z :: st)) : G κ w sz kc ks L pc st := by
  intro H locs ls cells slots hz hH hA hS hl hc hs
  exact lv_lload_n h.hx h.hb dd rfl (lvs_get hl hi) (k H locs ls cells slots hz hH hA hS hl hc hs)
theorem g_lload (h : Ok κ own cc d) {z : Int} {i : Nat} (dd : decode cc pc = .ok (.lload i, 2)) (hi : L[i]? = some (some (vL z))) (k : G κ w sz kc ks L (pc + 2) (vL z :: st)) : G κ w sz kc ks L pc st := by
  intro H locs ls cells slots hz hH hA hS hl hc hs
  exact lv_lload h.hx h.hb dd (lvs_get hl hi) (k H locs ls cells slots hz hH hA hS hl hc hs)
theorem g_aload_n (h : Ok κ own cc d) {a : Nat} {i : Fin 4} (dd : decode cc pc = .ok (.aload_n i, 1)) (hi : L[(i : Nat)]? = some (some (.ref a))) (k : G κ w sz kc ks L (pc + 1) (.ref a :: st)) : G κ w sz kc ks L pc st := by
  intro H locs ls cells slots hz hH hA hS hl hc hs
  exact lv_aload_n h.hx h.hb dd rfl (lvs_get hl hi) (k H locs ls cells slots hz hH hA hS hl hc hs)
theorem g_aload (h : Ok κ own cc d) {a : Nat} {i : Nat} (dd : decode cc pc = .ok (.aload i, 2)) (hi : L[i]? = some (some (.ref a))) (k : G κ w sz kc ks L (pc + 2) (.ref a :: st)) : G κ w sz kc ks L pc st := by
  intro H locs ls cells slots hz hH hA hS hl hc hs
  exact lv_aload h.hx h.hb dd (lvs_get hl hi) (k H locs ls cells slots hz hH hA hS hl hc hs)
theorem g_aload_nN (h : Ok κ own cc d) {i : Fin 4} (dd : decode cc pc = .ok (.aload_n i, 1)) (hi : L[(i : Nat)]? = some (some .null)) (k : G κ w sz kc ks L (pc + 1) (.null :: st)) : G κ w sz kc ks L pc st := by
  intro H locs ls cells slots hz hH hA hS hl hc hs
  exact lv_aload_nN h.hx h.hb dd rfl (lvs_get hl hi) (k H locs ls cells slots hz hH hA hS hl hc hs)
theorem g_aloadN (h : Ok κ own cc d) {i : Nat} (dd : decode cc pc = .ok (.aload i, 2)) (hi : L[i]? = some (some .null)) (k : G κ w sz kc ks L (pc + 2) (.null :: st)) : G κ w sz kc ks L pc st := by
  intro H locs ls cells slots hz hH hA hS hl hc hs
  exact lv_aloadN h.hx h.hb dd (lvs_get hl hi) (k H locs ls cells slots hz hH hA hS hl hc hs)
theorem g_istore_n0 (h : Ok κ own cc d) {z : Int} {i : Fin 4} (dd : decode cc pc = .ok (.istore_n i, 1)) (hn : (i : Nat) < κ.nL) (hp : ∀ j, j + 1 = (i : Nat) → c1 (L.getD j none) = true) (k : G κ w sz kc ks (L.set i (some (vI z))) (pc + 1) st) : G κ w sz kc ks L pc (vI z :: st) := by
  intro H locs ls cells slots hz hH hA hS hl hc hs
  exact lv_istore_n h.hx h.hb dd rfl hl hn rfl (fun ls' hl' => k H locs ls' cells slots hz hH hA hS (lvs_set hp hl') hc hs)
theorem g_istore_w0 (h : Ok κ own cc d) {z : Int} {i : Nat} (dd : decode cc pc = .ok (.istore i, 2)) (hn : i < κ.nL) (hp : ∀ j, j + 1 = i → c1 (L.getD j none) = true) (k : G κ w sz kc ks (L.set i (some (vI z))) (pc + 2) st) : G κ w sz kc ks L pc (vI z :: st) := by
  intro H locs ls cells slots hz hH hA hS hl hc hs
  exact lv_istore h.hx h.hb dd hl hn rfl (fun ls' hl' => k H locs ls' cells slots hz hH hA hS (lvs_set hp hl') hc hs)
theorem g_istore0 (h : Ok κ own cc d) {z : Int} {x0 : Option Value} {t : List (Option Value)} (dd : decode cc pc = .ok (.istore_n 0, 1)) (k : G κ w sz kc ks (some (vI z) :: t) (pc + 1) st) (hn : 0 < κ.nL := by first | assumption | omega) : G κ w sz kc ks (x0 :: t) pc (vI z :: st) := g_istore_n0 h (i := 0) dd hn hpZ k
theorem g_istore1 (h : Ok κ own cc d) {z : Int} {x0 x1 : Option Value} {t : List (Option Value)} (dd : decode cc pc = .ok (.istore_n 1, 1)) (k : G κ w sz kc ks (x0 :: some (vI z) :: t) (pc + 1) st) (hc1 : c1 x0 = true := by rfl) (hn : 1 < κ.nL := by first | assumption | omega) : G κ w sz kc ks (x0 :: x1 :: t) pc (vI z :: st) := g_istore_n0 h (i := 1) dd hn (hpS (i := 0) hc1) k
theorem g_istore2 (h : Ok κ own cc d) {z : Int} {x0 x1 x2 : Option Value} {t : List (Option Value)} (dd : decode cc pc = .ok (.istore_n 2, 1)) (k : G κ w sz kc ks (x0 :: x1 :: some (vI z) :: t) (pc + 1) st) (hc1 : c1 x1 = true := by rfl) (hn : 2 < κ.nL := by first | assumption | omega) : G κ w sz kc ks (x0 :: x1 :: x2 :: t) pc (vI z :: st) := g_istore_n0 h (i := 2) dd hn (hpS (i := 1) hc1) k
theorem g_istore3 (h : Ok κ own cc d) {z : Int} {x0 x1 x2 x3 : Option Value} {t : List (Option Value)} (dd : decode cc pc = .ok (.istore_n 3, 1)) (k : G κ w sz kc ks (x0 :: x1 :: x2 :: some (vI z) :: t) (pc + 1) st) (hc1 : c1 x2 = true := by rfl) (hn : 3 < κ.nL := by first | assumption | omega) : G κ w sz kc ks (x0 :: x1 :: x2 :: x3 :: t) pc (vI z :: st) := g_istore_n0 h (i := 3) dd hn (hpS (i := 2) hc1) k
theorem g_istore4 (h : Ok κ own cc d) {z : Int} {x0 x1 x2 x3 x4 : Option Value} {t : List (Option Value)} (dd : decode cc pc = .ok (.istore 4, 2)) (k : G κ w sz kc ks (x0 :: x1 :: x2 :: x3 :: some (vI z) :: t) (pc + 2) st) (hc1 : c1 x3 = true := by rfl) (hn : 4 < κ.nL := by first | assumption | omega) : G κ w sz kc ks (x0 :: x1 :: x2 :: x3 :: x4 :: t) pc (vI z :: st) := g_istore_w0 h dd hn (hpS (i := 3) hc1) k
theorem g_istore5 (h : Ok κ own cc d) {z : Int} {x0 x1 x2 x3 x4 x5 : Option Value} {t : List (Option Value)} (dd : decode cc pc = .ok (.istore 5, 2)) (k : G κ w sz kc ks (x0 :: x1 :: x2 :: x3 :: x4 :: some (vI z) :: t) (pc + 2) st) (hc1 : c1 x4 = true := by rfl) (hn : 5 < κ.nL := by first | assumption | omega) : G κ w sz kc ks (x0 :: x1 :: x2 :: x3 :: x4 :: x5 :: t) pc (vI z :: st) := g_istore_w0 h dd hn (hpS (i := 4) hc1) k
theorem g_istore6 (h : Ok κ own cc d) {z : Int} {x0 x1 x2 x3 x4 x5 x6 : Option Value} {t : List (Option Value)} (dd : decode cc pc = .ok (.istore 6, 2)) (k : G κ w sz kc ks (x0 :: x1 :: x2 :: x3 :: x4 :: x5 :: some (vI z) :: t) (pc + 2) st) (hc1 : c1 x5 = true := by rfl) (hn : 6 < κ.nL := by first | assumption | omega) : G κ w sz kc ks (x0 :: x1 :: x2 :: x3 :: x4 :: x5 :: x6 :: t) pc (vI z :: st) := g_istore_w0 h dd hn (hpS (i := 5) hc1) k
theorem g_istore7 (h : Ok κ own cc d) {z : Int} {x0 x1 x2 x3 x4 x5 x6 x7 : Option Value} {t : List (Option Value)} (dd : decode cc pc = .ok (.istore 7, 2)) (k : G κ w sz kc ks (x0 :: x1 :: x2 :: x3 :: x4 :: x5 :: x6 :: some (vI z) :: t) (pc + 2) st) (hc1 : c1 x6 = true := by rfl) (hn : 7 < κ.nL := by first | assumption | omega) : G κ w sz kc ks (x0 :: x1 :: x2 :: x3 :: x4 :: x5 :: x6 :: x7 :: t) pc (vI z :: st) := g_istore_w0 h dd hn (hpS (i := 6) hc1) k
theorem g_istore8 (h : Ok κ own cc d) {z : Int} {x0 x1 x2 x3 x4 x5 x6 x7 x8 : Option Value} {t : List (Option Value)} (dd : decode cc pc = .ok (.istore 8, 2)) (k : G κ w sz kc ks (x0 :: x1 :: x2 :: x3 :: x4 :: x5 :: x6 :: x7 :: some (vI z) :: t) (pc + 2) st) (hc1 : c1 x7 = true := by rfl) (hn : 8 < κ.nL := by first | assumption | omega) : G κ w sz kc ks (x0 :: x1 :: x2 :: x3 :: x4 :: x5 :: x6 :: x7 :: x8 :: t) pc (vI z :: st) := g_istore_w0 h dd hn (hpS (i := 7) hc1) k
theorem g_istore9 (h : Ok κ own cc d) {z : Int} {x0 x1 x2 x3 x4 x5 x6 x7 x8 x9 : Option Value} {t : List (Option Value)} (dd : decode cc pc = .ok (.istore 9, 2)) (k : G κ w sz kc ks (x0 :: x1 :: x2 :: x3 :: x4 :: x5 :: x6 :: x7 :: x8 :: some (vI z) :: t) (pc + 2) st) (hc1 : c1 x8 = true := by rfl) (hn : 9 < κ.nL := by first | assumption | omega) : G κ w sz kc ks (x0 :: x1 :: x2 :: x3 :: x4 :: x5 :: x6 :: x7 :: x8 :: x9 :: t) pc (vI z :: st) := g_istore_w0 h dd hn (hpS (i := 8) hc1) k
theorem g_istore10 (h : Ok κ own cc d) {z : Int} {x0 x1 x2 x3 x4 x5 x6 x7 x8 x9 x10 : Option Value} {t : List (Option Value)} (dd : decode cc pc = .ok (.istore 10, 2)) (k : G κ w sz kc ks (x0 :: x1 :: x2 :: x3 :: x4 :: x5 :: x6 :: x7 :: x8 :: x9 :: some (vI z) :: t) (pc + 2) st) (hc1 : c1 x9 = true := by rfl) (hn : 10 < κ.nL := by first | assumption | omega) : G κ w sz kc ks (x0 :: x1 :: x2 :: x3 :: x4 :: x5 :: x6 :: x7 :: x8 :: x9 :: x10 :: t) pc (vI z :: st) := g_istore_w0 h dd hn (hpS (i := 9) hc1) k
theorem g_istore11 (h : Ok κ own cc d) {z : Int} {x0 x1 x2 x3 x4 x5 x6 x7 x8 x9 x10 x11 : Option Value} {t : List (Option Value)} (dd : decode cc pc = .ok (.istore 11, 2)) (k : G κ w sz kc ks (x0 :: x1 :: x2 :: x3 :: x4 :: x5 :: x6 :: x7 :: x8 :: x9 :: x10 :: some (vI z) :: t) (pc + 2) st) (hc1 : c1 x10 = true := by rfl) (hn : 11 < κ.nL := by first | assumption | omega) : G κ w sz kc ks (x0 :: x1 :: x2 :: x3 :: x4 :: x5 :: x6 :: x7 :: x8 :: x9 :: x10 :: x11 :: t) pc (vI z :: st) := g_istore_w0 h dd hn (hpS (i := 10) hc1) k
theorem g_istore12 (h : Ok κ own cc d) {z : Int} {x0 x1 x2 x3 x4 x5 x6 x7 x8 x9 x10 x11 x12 : Option Value} {t : List (Option Value)} (dd : decode cc pc = .ok (.istore 12, 2)) (k : G κ w sz kc ks (x0 :: x1 :: x2 :: x3 :: x4 :: x5 :: x6 :: x7 :: x8 :: x9 :: x10 :: x11 :: some (vI z) :: t) (pc + 2) st) (hc1 : c1 x11 = true := by rfl) (hn : 12 < κ.nL := by first | assumption | omega) : G κ w sz kc ks (x0 :: x1 :: x2 :: x3 :: x4 :: x5 :: x6 :: x7 :: x8 :: x9 :: x10 :: x11 :: x12 :: t) pc (vI z :: st) := g_istore_w0 h dd hn (hpS (i := 11) hc1) k
theorem g_istore13 (h : Ok κ own cc d) {z : Int} {x0 x1 x2 x3 x4 x5 x6 x7 x8 x9 x10 x11 x12 x13 : Option Value} {t : List (Option Value)} (dd : decode cc pc = .ok (.istore 13, 2)) (k : G κ w sz kc ks (x0 :: x1 :: x2 :: x3 :: x4 :: x5 :: x6 :: x7 :: x8 :: x9 :: x10 :: x11 :: x12 :: some (vI z) :: t) (pc + 2) st) (hc1 : c1 x12 = true := by rfl) (hn : 13 < κ.nL := by first | assumption | omega) : G κ w sz kc ks (x0 :: x1 :: x2 :: x3 :: x4 :: x5 :: x6 :: x7 :: x8 :: x9 :: x10 :: x11 :: x12 :: x13 :: t) pc (vI z :: st) := g_istore_w0 h dd hn (hpS (i := 12) hc1) k
theorem g_istore14 (h : Ok κ own cc d) {z : Int} {x0 x1 x2 x3 x4 x5 x6 x7 x8 x9 x10 x11 x12 x13 x14 : Option Value} {t : List (Option Value)} (dd : decode cc pc = .ok (.istore 14, 2)) (k : G κ w sz kc ks (x0 :: x1 :: x2 :: x3 :: x4 :: x5 :: x6 :: x7 :: x8 :: x9 :: x10 :: x11 :: x12 :: x13 :: some (vI z) :: t) (pc + 2) st) (hc1 : c1 x13 = true := by rfl) (hn : 14 < κ.nL := by first | assumption | omega) : G κ w sz kc ks (x0 :: x1 :: x2 :: x3 :: x4 :: x5 :: x6 :: x7 :: x8 :: x9 :: x10 :: x11 :: x12 :: x13 :: x14 :: t) pc (vI z :: st) := g_istore_w0 h dd hn (hpS (i := 13) hc1) k
theorem g_istore15 (h : Ok κ own cc d) {z : Int} {x0 x1 x2 x3 x4 x5 x6 x7 x8 x9 x10 x11 x12 x13 x14 x15 : Option Value} {t : List (Option Value)} (dd : decode cc pc = .ok (.istore 15, 2)) (k : G κ w sz kc ks (x0 :: x1 :: x2 :: x3 :: x4 :: x5 :: x6 :: x7 :: x8 :: x9 :: x10 :: x11 :: x12 :: x13 :: x14 :: some (vI z) :: t) (pc + 2) st) (hc1 : c1 x14 = true := by rfl) (hn : 15 < κ.nL := by first | assumption | omega) : G κ w sz kc ks (x0 :: x1 :: x2 :: x3 :: x4 :: x5 :: x6 :: x7 :: x8 :: x9 :: x10 :: x11 :: x12 :: x13 :: x14 :: x15 :: t) pc (vI z :: st) := g_istore_w0 h dd hn (hpS (i := 14) hc1) k
theorem g_astore_n0 (h : Ok κ own cc d) {a : Nat} {i : Fin 4} (dd : decode cc pc = .ok (.astore_n i, 1)) (hn : (i : Nat) < κ.nL) (hp : ∀ j, j + 1 = (i : Nat) → c1 (L.getD j none) = true) (k : G κ w sz kc ks (L.set i (some (.ref a))) (pc + 1) st) : G κ w sz kc ks L pc (.ref a :: st) := by
  intro H locs ls cells slots hz hH hA hS hl hc hs
  exact lv_astore_n h.hx h.hb dd rfl hl hn rfl (fun ls' hl' => k H locs ls' cells slots hz hH hA hS (lvs_set hp hl') hc hs)
theorem g_astore_w0 (h : Ok κ own cc d) {a : Nat} {i : Nat} (dd : decode cc pc = .ok (.astore i, 2)) (hn : i < κ.nL) (hp : ∀ j, j + 1 = i → c1 (L.getD j none) = true) (k : G κ w sz kc ks (L.set i (some (.ref a))) (pc + 2) st) : G κ w sz kc ks L pc (.ref a :: st) := by
  intro H locs ls cells slots hz hH hA hS hl hc hs
  exact lv_astore h.hx h.hb dd hl hn rfl (fun ls' hl' => k H locs ls' cells slots hz hH hA hS (lvs_set hp hl') hc hs)
theorem g_astore0 (h : Ok κ own cc d) {a : Nat} {x0 : Option Value} {t : List (Option Value)} (dd : decode cc pc = .ok (.astore_n 0, 1)) (k : G κ w sz kc ks (some (.ref a) :: t) (pc + 1) st) (hn : 0 < κ.nL := by first | assumption | omega) : G κ w sz kc ks (x0 :: t) pc (.ref a :: st) := g_astore_n0 h (i := 0) dd hn hpZ k
theorem g_astore1 (h : Ok κ own cc d) {a : Nat} {x0 x1 : Option Value} {t : List (Option Value)} (dd : decode cc pc = .ok (.astore_n 1, 1)) (k : G κ w sz kc ks (x0 :: some (.ref a) :: t) (pc + 1) st) (hc1 : c1 x0 = true := by rfl) (hn : 1 < κ.nL := by first | assumption | omega) : G κ w sz kc ks (x0 :: x1 :: t) pc (.ref a :: st) := g_astore_n0 h (i := 1) dd hn (hpS (i := 0) hc1) k
theorem g_astore2 (h : Ok κ own cc d) {a : Nat} {x0 x1 x2 : Option Value} {t : List (Option Value)} (dd : decode cc pc = .ok (.astore_n 2, 1)) (k : G κ w sz kc ks (x0 :: x1 :: some (.ref a) :: t) (pc + 1) st) (hc1 : c1 x1 = true := by rfl) (hn : 2 < κ.nL := by first | assumption | omega) : G κ w sz kc ks (x0 :: x1 :: x2 :: t) pc (.ref a :: st) := g_astore_n0 h (i := 2) dd hn (hpS (i := 1) hc1) k
theorem g_astore3 (h : Ok κ own cc d) {a : Nat} {x0 x1 x2 x3 : Option Value} {t : List (Option Value)} (dd : decode cc pc = .ok (.astore_n 3, 1)) (k : G κ w sz kc ks (x0 :: x1 :: x2 :: some (.ref a) :: t) (pc + 1) st) (hc1 : c1 x2 = true := by rfl) (hn : 3 < κ.nL := by first | assumption | omega) : G κ w sz kc ks (x0 :: x1 :: x2 :: x3 :: t) pc (.ref a :: st) := g_astore_n0 h (i := 3) dd hn (hpS (i := 2) hc1) k
theorem g_astore4 (h : Ok κ own cc d) {a : Nat} {x0 x1 x2 x3 x4 : Option Value} {t : List (Option Value)} (dd : decode cc pc = .ok (.astore 4, 2)) (k : G κ w sz kc ks (x0 :: x1 :: x2 :: x3 :: some (.ref a) :: t) (pc + 2) st) (hc1 : c1 x3 = true := by rfl) (hn : 4 < κ.nL := by first | assumption | omega) : G κ w sz kc ks (x0 :: x1 :: x2 :: x3 :: x4 :: t) pc (.ref a :: st) := g_astore_w0 h dd hn (hpS (i := 3) hc1) k
theorem g_astore5 (h : Ok κ own cc d) {a : Nat} {x0 x1 x2 x3 x4 x5 : Option Value} {t : List (Option Value)} (dd : decode cc pc = .ok (.astore 5, 2)) (k : G κ w sz kc ks (x0 :: x1 :: x2 :: x3 :: x4 :: some (.ref a) :: t) (pc + 2) st) (hc1 : c1 x4 = true := by rfl) (hn : 5 < κ.nL := by first | assumption | omega) : G κ w sz kc ks (x0 :: x1 :: x2 :: x3 :: x4 :: x5 :: t) pc (.ref a :: st) := g_astore_w0 h dd hn (hpS (i := 4) hc1) k
theorem g_astore6 (h : Ok κ own cc d) {a : Nat} {x0 x1 x2 x3 x4 x5 x6 : Option Value} {t : List (Option Value)} (dd : decode cc pc = .ok (.astore 6, 2)) (k : G κ w sz kc ks (x0 :: x1 :: x2 :: x3 :: x4 :: x5 :: some (.ref a) :: t) (pc + 2) st) (hc1 : c1 x5 = true := by rfl) (hn : 6 < κ.nL := by first | assumption | omega) : G κ w sz kc ks (x0 :: x1 :: x2 :: x3 :: x4 :: x5 :: x6 :: t) pc (.ref a :: st) := g_astore_w0 h dd hn (hpS (i := 5) hc1) k
theorem g_astore7 (h : Ok κ own cc d) {a : Nat} {x0 x1 x2 x3 x4 x5 x6 x7 : Option Value} {t : List (Option Value)} (dd : decode cc pc = .ok (.astore 7, 2)) (k : G κ w sz kc ks (x0 :: x1 :: x2 :: x3 :: x4 :: x5 :: x6 :: some (.ref a) :: t) (pc + 2) st) (hc1 : c1 x6 = true := by rfl) (hn : 7 < κ.nL := by first | assumption | omega) : G κ w sz kc ks (x0 :: x1 :: x2 :: x3 :: x4 :: x5 :: x6 :: x7 :: t) pc (.ref a :: st) := g_astore_w0 h dd hn (hpS (i := 6) hc1) k
theorem g_astore8 (h : Ok κ own cc d) {a : Nat} {x0 x1 x2 x3 x4 x5 x6 x7 x8 : Option Value} {t : List (Option Value)} (dd : decode cc pc = .ok (.astore 8, 2)) (k : G κ w sz kc ks (x0 :: x1 :: x2 :: x3 :: x4 :: x5 :: x6 :: x7 :: some (.ref a) :: t) (pc + 2) st) (hc1 : c1 x7 = true := by rfl) (hn : 8 < κ.nL := by first | assumption | omega) : G κ w sz kc ks (x0 :: x1 :: x2 :: x3 :: x4 :: x5 :: x6 :: x7 :: x8 :: t) pc (.ref a :: st) := g_astore_w0 h dd hn (hpS (i := 7) hc1) k
theorem g_astore9 (h : Ok κ own cc d) {a : Nat} {x0 x1 x2 x3 x4 x5 x6 x7 x8 x9 : Option Value} {t : List (Option Value)} (dd : decode cc pc = .ok (.astore 9, 2)) (k : G κ w sz kc ks (x0 :: x1 :: x2 :: x3 :: x4 :: x5 :: x6 :: x7 :: x8 :: some (.ref a) :: t) (pc + 2) st) (hc1 : c1 x8 = true := by rfl) (hn : 9 < κ.nL := by first | assumption | omega) : G κ w sz kc ks (x0 :: x1 :: x2 :: x3 :: x4 :: x5 :: x6 :: x7 :: x8 :: x9 :: t) pc (.ref a :: st) := g_astore_w0 h dd hn (hpS (i := 8) hc1) k
theorem g_astore10 (h : Ok κ own cc d) {a : Nat} {x0 x1 x2 x3 x4 x5 x6 x7 x8 x9 x10 : Option Value} {t : List (Option Value)} (dd : decode cc pc = .ok (.astore 10, 2)) (k : G κ w sz kc ks (x0 :: x1 :: x2 :: x3 :: x4 :: x5 :: x6 :: x7 :: x8 :: x9 :: some (.ref a) :: t) (pc + 2) st) (hc1 : c1 x9 = true := by rfl) (hn : 10 < κ.nL := by first | assumption | omega) : G κ w sz kc ks (x0 :: x1 :: x2 :: x3 :: x4 :: x5 :: x6 :: x7 :: x8 :: x9 :: x10 :: t) pc (.ref a :: st) := g_astore_w0 h dd hn (hpS (i := 9) hc1) k
theorem g_astore11 (h : Ok κ own cc d) {a : Nat} {x0 x1 x2 x3 x4 x5 x6 x7 x8 x9 x10 x11 : Option Value} {t : List (Option Value)} (dd : decode cc pc = .ok (.astore 11, 2)) (k : G κ w sz kc ks (x0 :: x1 :: x2 :: x3 :: x4 :: x5 :: x6 :: x7 :: x8 :: x9 :: x10 :: some (.ref a) :: t) (pc + 2) st) (hc1 : c1 x10 = true := by rfl) (hn : 11 < κ.nL := by first | assumption | omega) : G κ w sz kc ks (x0 :: x1 :: x2 :: x3 :: x4 :: x5 :: x6 :: x7 :: x8 :: x9 :: x10 :: x11 :: t) pc (.ref a :: st) := g_astore_w0 h dd hn (hpS (i := 10) hc1) k
theorem g_astore12 (h : Ok κ own cc d) {a : Nat} {x0 x1 x2 x3 x4 x5 x6 x7 x8 x9 x10 x11 x12 : Option Value} {t : List (Option Value)} (dd : decode cc pc = .ok (.astore 12, 2)) (k : G κ w sz kc ks (x0 :: x1 :: x2 :: x3 :: x4 :: x5 :: x6 :: x7 :: x8 :: x9 :: x10 :: x11 :: some (.ref a) :: t) (pc + 2) st) (hc1 : c1 x11 = true := by rfl) (hn : 12 < κ.nL := by first | assumption | omega) : G κ w sz kc ks (x0 :: x1 :: x2 :: x3 :: x4 :: x5 :: x6 :: x7 :: x8 :: x9 :: x10 :: x11 :: x12 :: t) pc (.ref a :: st) := g_astore_w0 h dd hn (hpS (i := 11) hc1) k
theorem g_astore13 (h : Ok κ own cc d) {a : Nat} {x0 x1 x2 x3 x4 x5 x6 x7 x8 x9 x10 x11 x12 x13 : Option Value} {t : List (Option Value)} (dd : decode cc pc = .ok (.astore 13, 2)) (k : G κ w sz kc ks (x0 :: x1 :: x2 :: x3 :: x4 :: x5 :: x6 :: x7 :: x8 :: x9 :: x10 :: x11 :: x12 :: some (.ref a) :: t) (pc + 2) st) (hc1 : c1 x12 = true := by rfl) (hn : 13 < κ.nL := by first | assumption | omega) : G κ w sz kc ks (x0 :: x1 :: x2 :: x3 :: x4 :: x5 :: x6 :: x7 :: x8 :: x9 :: x10 :: x11 :: x12 :: x13 :: t) pc (.ref a :: st) := g_astore_w0 h dd hn (hpS (i := 12) hc1) k
theorem g_astore14 (h : Ok κ own cc d) {a : Nat} {x0 x1 x2 x3 x4 x5 x6 x7 x8 x9 x10 x11 x12 x13 x14 : Option Value} {t : List (Option Value)} (dd : decode cc pc = .ok (.astore 14, 2)) (k : G κ w sz kc ks (x0 :: x1 :: x2 :: x3 :: x4 :: x5 :: x6 :: x7 :: x8 :: x9 :: x10 :: x11 :: x12 :: x13 :: some (.ref a) :: t) (pc + 2) st) (hc1 : c1 x13 = true := by rfl) (hn : 14 < κ.nL := by first | assumption | omega) : G κ w sz kc ks (x0 :: x1 :: x2 :: x3 :: x4 :: x5 :: x6 :: x7 :: x8 :: x9 :: x10 :: x11 :: x12 :: x13 :: x14 :: t) pc (.ref a :: st) := g_astore_w0 h dd hn (hpS (i := 13) hc1) k
theorem g_astore15 (h : Ok κ own cc d) {a : Nat} {x0 x1 x2 x3 x4 x5 x6 x7 x8 x9 x10 x11 x12 x13 x14 x15 : Option Value} {t : List (Option Value)} (dd : decode cc pc = .ok (.astore 15, 2)) (k : G κ w sz kc ks (x0 :: x1 :: x2 :: x3 :: x4 :: x5 :: x6 :: x7 :: x8 :: x9 :: x10 :: x11 :: x12 :: x13 :: x14 :: some (.ref a) :: t) (pc + 2) st) (hc1 : c1 x14 = true := by rfl) (hn : 15 < κ.nL := by first | assumption | omega) : G κ w sz kc ks (x0 :: x1 :: x2 :: x3 :: x4 :: x5 :: x6 :: x7 :: x8 :: x9 :: x10 :: x11 :: x12 :: x13 :: x14 :: x15 :: t) pc (.ref a :: st) := g_astore_w0 h dd hn (hpS (i := 14) hc1) k
theorem g_astoreN_n0 (h : Ok κ own cc d) {i : Fin 4} (dd : decode cc pc = .ok (.astore_n i, 1)) (hn : (i : Nat) < κ.nL) (hp : ∀ j, j + 1 = (i : Nat) → c1 (L.getD j none) = true) (k : G κ w sz kc ks (L.set i (some (.null))) (pc + 1) st) : G κ w sz kc ks L pc (.null :: st) := by
  intro H locs ls cells slots hz hH hA hS hl hc hs
  exact lv_astore_nN h.hx h.hb dd rfl hl hn rfl (fun ls' hl' => k H locs ls' cells slots hz hH hA hS (lvs_set hp hl') hc hs)
theorem g_astoreN_w0 (h : Ok κ own cc d) {i : Nat} (dd : decode cc pc = .ok (.astore i, 2)) (hn : i < κ.nL) (hp : ∀ j, j + 1 = i → c1 (L.getD j none) = true) (k : G κ w sz kc ks (L.set i (some (.null))) (pc + 2) st) : G κ w sz kc ks L pc (.null :: st) := by
  intro H locs ls cells slots hz hH hA hS hl hc hs
  exact lv_astoreN h.hx h.hb dd hl hn rfl (fun ls' hl' => k H locs ls' cells slots hz hH hA hS (lvs_set hp hl') hc hs)
theorem g_astoreN0 (h : Ok κ own cc d) {x0 : Option Value} {t : List (Option Value)} (dd : decode cc pc = .ok (.astore_n 0, 1)) (k : G κ w sz kc ks (some (.null) :: t) (pc + 1) st) (hn : 0 < κ.nL := by first | assumption | omega) : G κ w sz kc ks (x0 :: t) pc (.null :: st) := g_astoreN_n0 h (i := 0) dd hn hpZ k
theorem g_astoreN1 (h : Ok κ own cc d) {x0 x1 : Option Value} {t : List (Option Value)} (dd : decode cc pc = .ok (.astore_n 1, 1)) (k : G κ w sz kc ks (x0 :: some (.null) :: t) (pc + 1) st) (hc1 : c1 x0 = true := by rfl) (hn : 1 < κ.nL := by first | assumption | omega) : G κ w sz kc ks (x0 :: x1 :: t) pc (.null :: st) := g_astoreN_n0 h (i := 1) dd hn (hpS (i := 0) hc1) k
theorem g_astoreN2 (h : Ok κ own cc d) {x0 x1 x2 : Option Value} {t : List (Option Value)} (dd : decode cc pc = .ok (.astore_n 2, 1)) (k : G κ w sz kc ks (x0 :: x1 :: some (.null) :: t) (pc + 1) st) (hc1 : c1 x1 = true := by rfl) (hn : 2 < κ.nL := by first | assumption | omega) : G κ w sz kc ks (x0 :: x1 :: x2 :: t) pc (.null :: st) := g_astoreN_n0 h (i := 2) dd hn (hpS (i := 1) hc1) k
theorem g_astoreN3 (h : Ok κ own cc d) {x0 x1 x2 x3 : Option Value} {t : List (Option Value)} (dd : decode cc pc = .ok (.astore_n 3, 1)) (k : G κ w sz kc ks (x0 :: x1 :: x2 :: some (.null) :: t) (pc + 1) st) (hc1 : c1 x2 = true := by rfl) (hn : 3 < κ.nL := by first | assumption | omega) : G κ w sz kc ks (x0 :: x1 :: x2 :: x3 :: t) pc (.null :: st) := g_astoreN_n0 h (i := 3) dd hn (hpS (i := 2) hc1) k
theorem g_astoreN4 (h : Ok κ own cc d) {x0 x1 x2 x3 x4 : Option Value} {t : List (Option Value)} (dd : decode cc pc = .ok (.astore 4, 2)) (k : G κ w sz kc ks (x0 :: x1 :: x2 :: x3 :: some (.null) :: t) (pc + 2) st) (hc1 : c1 x3 = true := by rfl) (hn : 4 < κ.nL := by first | assumption | omega) : G κ w sz kc ks (x0 :: x1 :: x2 :: x3 :: x4 :: t) pc (.null :: st) := g_astoreN_w0 h dd hn (hpS (i := 3) hc1) k
theorem g_astoreN5 (h : Ok κ own cc d) {x0 x1 x2 x3 x4 x5 : Option Value} {t : List (Option Value)} (dd : decode cc pc = .ok (.astore 5, 2)) (k : G κ w sz kc ks (x0 :: x1 :: x2 :: x3 :: x4 :: some (.null) :: t) (pc + 2) st) (hc1 : c1 x4 = true := by rfl) (hn : 5 < κ.nL := by first | assumption | omega) : G κ w sz kc ks (x0 :: x1 :: x2 :: x3 :: x4 :: x5 :: t) pc (.null :: st) := g_astoreN_w0 h dd hn (hpS (i := 4) hc1) k
theorem g_astoreN6 (h : Ok κ own cc d) {x0 x1 x2 x3 x4 x5 x6 : Option Value} {t : List (Option Value)} (dd : decode cc pc = .ok (.astore 6, 2)) (k : G κ w sz kc ks (x0 :: x1 :: x2 :: x3 :: x4 :: x5 :: some (.null) :: t) (pc + 2) st) (hc1 : c1 x5 = true := by rfl) (hn : 6 < κ.nL := by first | assumption | omega) : G κ w sz kc ks (x0 :: x1 :: x2 :: x3 :: x4 :: x5 :: x6 :: t) pc (.null :: st) := g_astoreN_w0 h dd hn (hpS (i := 5) hc1) k
theorem g_astoreN7 (h : Ok κ own cc d) {x0 x1 x2 x3 x4 x5 x6 x7 : Option Value} {t : List (Option Value)} (dd : decode cc pc = .ok (.astore 7, 2)) (k : G κ w sz kc ks (x0 :: x1 :: x2 :: x3 :: x4 :: x5 :: x6 :: some (.null) :: t) (pc + 2) st) (hc1 : c1 x6 = true := by rfl) (hn : 7 < κ.nL := by first | assumption | omega) : G κ w sz kc ks (x0 :: x1 :: x2 :: x3 :: x4 :: x5 :: x6 :: x7 :: t) pc (.null :: st) := g_astoreN_w0 h dd hn (hpS (i := 6) hc1) k
theorem g_astoreN8 (h : Ok κ own cc d) {x0 x1 x2 x3 x4 x5 x6 x7 x8 : Option Value} {t : List (Option Value)} (dd : decode cc pc = .ok (.astore 8, 2)) (k : G κ w sz kc ks (x0 :: x1 :: x2 :: x3 :: x4 :: x5 :: x6 :: x7 :: some (.null) :: t) (pc + 2) st) (hc1 : c1 x7 = true := by rfl) (hn : 8 < κ.nL := by first | assumption | omega) : G κ w sz kc ks (x0 :: x1 :: x2 :: x3 :: x4 :: x5 :: x6 :: x7 :: x8 :: t) pc (.null :: st) := g_astoreN_w0 h dd hn (hpS (i := 7) hc1) k
theorem g_astoreN9 (h : Ok κ own cc d) {x0 x1 x2 x3 x4 x5 x6 x7 x8 x9 : Option Value} {t : List (Option Value)} (dd : decode cc pc = .ok (.astore 9, 2)) (k : G κ w sz kc ks (x0 :: x1 :: x2 :: x3 :: x4 :: x5 :: x6 :: x7 :: x8 :: some (.null) :: t) (pc + 2) st) (hc1 : c1 x8 = true := by rfl) (hn : 9 < κ.nL := by first | assumption | omega) : G κ w sz kc ks (x0 :: x1 :: x2 :: x3 :: x4 :: x5 :: x6 :: x7 :: x8 :: x9 :: t) pc (.null :: st) := g_astoreN_w0 h dd hn (hpS (i := 8) hc1) k
theorem g_astoreN10 (h : Ok κ own cc d) {x0 x1 x2 x3 x4 x5 x6 x7 x8 x9 x10 : Option Value} {t : List (Option Value)} (dd : decode cc pc = .ok (.astore 10, 2)) (k : G κ w sz kc ks (x0 :: x1 :: x2 :: x3 :: x4 :: x5 :: x6 :: x7 :: x8 :: x9 :: some (.null) :: t) (pc + 2) st) (hc1 : c1 x9 = true := by rfl) (hn : 10 < κ.nL := by first | assumption | omega) : G κ w sz kc ks (x0 :: x1 :: x2 :: x3 :: x4 :: x5 :: x6 :: x7 :: x8 :: x9 :: x10 :: t) pc (.null :: st) := g_astoreN_w0 h dd hn (hpS (i := 9) hc1) k
theorem g_astoreN11 (h : Ok κ own cc d) {x0 x1 x2 x3 x4 x5 x6 x7 x8 x9 x10 x11 : Option Value} {t : List (Option Value)} (dd : decode cc pc = .ok (.astore 11, 2)) (k : G κ w sz kc ks (x0 :: x1 :: x2 :: x3 :: x4 :: x5 :: x6 :: x7 :: x8 :: x9 :: x10 :: some (.null) :: t) (pc + 2) st) (hc1 : c1 x10 = true := by rfl) (hn : 11 < κ.nL := by first | assumption | omega) : G κ w sz kc ks (x0 :: x1 :: x2 :: x3 :: x4 :: x5 :: x6 :: x7 :: x8 :: x9 :: x10 :: x11 :: t) pc (.null :: st) := g_astoreN_w0 h dd hn (hpS (i := 10) hc1) k
theorem g_astoreN12 (h : Ok κ own cc d) {x0 x1 x2 x3 x4 x5 x6 x7 x8 x9 x10 x11 x12 : Option Value} {t : List (Option Value)} (dd : decode cc pc = .ok (.astore 12, 2)) (k : G κ w sz kc ks (x0 :: x1 :: x2 :: x3 :: x4 :: x5 :: x6 :: x7 :: x8 :: x9 :: x10 :: x11 :: some (.null) :: t) (pc + 2) st) (hc1 : c1 x11 = true := by rfl) (hn : 12 < κ.nL := by first | assumption | omega) : G κ w sz kc ks (x0 :: x1 :: x2 :: x3 :: x4 :: x5 :: x6 :: x7 :: x8 :: x9 :: x10 :: x11 :: x12 :: t) pc (.null :: st) := g_astoreN_w0 h dd hn (hpS (i := 11) hc1) k
theorem g_astoreN13 (h : Ok κ own cc d) {x0 x1 x2 x3 x4 x5 x6 x7 x8 x9 x10 x11 x12 x13 : Option Value} {t : List (Option Value)} (dd : decode cc pc = .ok (.astore 13, 2)) (k : G κ w sz kc ks (x0 :: x1 :: x2 :: x3 :: x4 :: x5 :: x6 :: x7 :: x8 :: x9 :: x10 :: x11 :: x12 :: some (.null) :: t) (pc + 2) st) (hc1 : c1 x12 = true := by rfl) (hn : 13 < κ.nL := by first | assumption | omega) : G κ w sz kc ks (x0 :: x1 :: x2 :: x3 :: x4 :: x5 :: x6 :: x7 :: x8 :: x9 :: x10 :: x11 :: x12 :: x13 :: t) pc (.null :: st) := g_astoreN_w0 h dd hn (hpS (i := 12) hc1) k
theorem g_astoreN14 (h : Ok κ own cc d) {x0 x1 x2 x3 x4 x5 x6 x7 x8 x9 x10 x11 x12 x13 x14 : Option Value} {t : List (Option Value)} (dd : decode cc pc = .ok (.astore 14, 2)) (k : G κ w sz kc ks (x0 :: x1 :: x2 :: x3 :: x4 :: x5 :: x6 :: x7 :: x8 :: x9 :: x10 :: x11 :: x12 :: x13 :: some (.null) :: t) (pc + 2) st) (hc1 : c1 x13 = true := by rfl) (hn : 14 < κ.nL := by first | assumption | omega) : G κ w sz kc ks (x0 :: x1 :: x2 :: x3 :: x4 :: x5 :: x6 :: x7 :: x8 :: x9 :: x10 :: x11 :: x12 :: x13 :: x14 :: t) pc (.null :: st) := g_astoreN_w0 h dd hn (hpS (i := 13) hc1) k
theorem g_astoreN15 (h : Ok κ own cc d) {x0 x1 x2 x3 x4 x5 x6 x7 x8 x9 x10 x11 x12 x13 x14 x15 : Option Value} {t : List (Option Value)} (dd : decode cc pc = .ok (.astore 15, 2)) (k : G κ w sz kc ks (x0 :: x1 :: x2 :: x3 :: x4 :: x5 :: x6 :: x7 :: x8 :: x9 :: x10 :: x11 :: x12 :: x13 :: x14 :: some (.null) :: t) (pc + 2) st) (hc1 : c1 x14 = true := by rfl) (hn : 15 < κ.nL := by first | assumption | omega) : G κ w sz kc ks (x0 :: x1 :: x2 :: x3 :: x4 :: x5 :: x6 :: x7 :: x8 :: x9 :: x10 :: x11 :: x12 :: x13 :: x14 :: x15 :: t) pc (.null :: st) := g_astoreN_w0 h dd hn (hpS (i := 14) hc1) k
theorem g_iinc_w (h : Ok κ own cc d) {z n : Int} {i : Nat} (dd : decode cc pc = .ok (.iinc i n, 3)) (hi : L[i]? = some (some (vI z))) (hn : i < κ.nL) (hp : ∀ j, j + 1 = i → c1 (L.getD j none) = true) (k : G κ w sz kc ks (L.set i (some (vI (z + n)))) (pc + 3) st) : G κ w sz kc ks L pc st := by
  intro H locs ls cells slots hz hH hA hS hl hc hs
  obtain ⟨q, hq⟩ := List.getElem?_of_mem (lvs_mem (k := 0) hi)
  rw [Nat.zero_add] at hq
  exact lv_iinc h.hx h.hb dd hl hq (by rw [← Int32.ofInt_add]) hn rfl (fun ls' hl' => k H locs ls' cells slots hz hH hA hS (lvs_set hp hl') hc hs)
theorem g_iinc0 (h : Ok κ own cc d) {z n : Int} {t : List (Option Value)} (dd : decode cc pc = .ok (.iinc 0 n, 3)) (k : G κ w sz kc ks (some (vI (z + n)) :: t) (pc + 3) st) (hn : 0 < κ.nL := by first | assumption | omega) : G κ w sz kc ks (some (vI z) :: t) pc st := g_iinc_w h dd rfl hn hpZ k
theorem g_iinc1 (h : Ok κ own cc d) {z n : Int} {x0 : Option Value} {t : List (Option Value)} (dd : decode cc pc = .ok (.iinc 1 n, 3)) (k : G κ w sz kc ks (x0 :: some (vI (z + n)) :: t) (pc + 3) st) (hc1 : c1 x0 = true := by rfl) (hn : 1 < κ.nL := by first | assumption | omega) : G κ w sz kc ks (x0 :: some (vI z) :: t) pc st := g_iinc_w h dd rfl hn (hpS (i := 0) hc1) k
theorem g_iinc2 (h : Ok κ own cc d) {z n : Int} {x0 x1 : Option Value} {t : List (Option Value)} (dd : decode cc pc = .ok (.iinc 2 n, 3)) (k : G κ w sz kc ks (x0 :: x1 :: some (vI (z + n)) :: t) (pc + 3) st) (hc1 : c1 x1 = true := by rfl) (hn : 2 < κ.nL := by first | assumption | omega) : G κ w sz kc ks (x0 :: x1 :: some (vI z) :: t) pc st := g_iinc_w h dd rfl hn (hpS (i := 1) hc1) k
theorem g_iinc3 (h : Ok κ own cc d) {z n : Int} {x0 x1 x2 : Option Value} {t : List (Option Value)} (dd : decode cc pc = .ok (.iinc 3 n, 3)) (k : G κ w sz kc ks (x0 :: x1 :: x2 :: some (vI (z + n)) :: t) (pc + 3) st) (hc1 : c1 x2 = true := by rfl) (hn : 3 < κ.nL := by first | assumption | omega) : G κ w sz kc ks (x0 :: x1 :: x2 :: some (vI z) :: t) pc st := g_iinc_w h dd rfl hn (hpS (i := 2) hc1) k
theorem g_iinc4 (h : Ok κ own cc d) {z n : Int} {x0 x1 x2 x3 : Option Value} {t : List (Option Value)} (dd : decode cc pc = .ok (.iinc 4 n, 3)) (k : G κ w sz kc ks (x0 :: x1 :: x2 :: x3 :: some (vI (z + n)) :: t) (pc + 3) st) (hc1 : c1 x3 = true := by rfl) (hn : 4 < κ.nL := by first | assumption | omega) : G κ w sz kc ks (x0 :: x1 :: x2 :: x3 :: some (vI z) :: t) pc st := g_iinc_w h dd rfl hn (hpS (i := 3) hc1) k
theorem g_iinc5 (h : Ok κ own cc d) {z n : Int} {x0 x1 x2 x3 x4 : Option Value} {t : List (Option Value)} (dd : decode cc pc = .ok (.iinc 5 n, 3)) (k : G κ w sz kc ks (x0 :: x1 :: x2 :: x3 :: x4 :: some (vI (z + n)) :: t) (pc + 3) st) (hc1 : c1 x4 = true := by rfl) (hn : 5 < κ.nL := by first | assumption | omega) : G κ w sz kc ks (x0 :: x1 :: x2 :: x3 :: x4 :: some (vI z) :: t) pc st := g_iinc_w h dd rfl hn (hpS (i := 4) hc1) k
theorem g_iinc6 (h : Ok κ own cc d) {z n : Int} {x0 x1 x2 x3 x4 x5 : Option Value} {t : List (Option Value)} (dd : decode cc pc = .ok (.iinc 6 n, 3)) (k : G κ w sz kc ks (x0 :: x1 :: x2 :: x3 :: x4 :: x5 :: some (vI (z + n)) :: t) (pc + 3) st) (hc1 : c1 x5 = true := by rfl) (hn : 6 < κ.nL := by first | assumption | omega) : G κ w sz kc ks (x0 :: x1 :: x2 :: x3 :: x4 :: x5 :: some (vI z) :: t) pc st := g_iinc_w h dd rfl hn (hpS (i := 5) hc1) k
theorem g_iinc7 (h : Ok κ own cc d) {z n : Int} {x0 x1 x2 x3 x4 x5 x6 : Option Value} {t : List (Option Value)} (dd : decode cc pc = .ok (.iinc 7 n, 3)) (k : G κ w sz kc ks (x0 :: x1 :: x2 :: x3 :: x4 :: x5 :: x6 :: some (vI (z + n)) :: t) (pc + 3) st) (hc1 : c1 x6 = true := by rfl) (hn : 7 < κ.nL := by first | assumption | omega) : G κ w sz kc ks (x0 :: x1 :: x2 :: x3 :: x4 :: x5 :: x6 :: some (vI z) :: t) pc st := g_iinc_w h dd rfl hn (hpS (i := 6) hc1) k
theorem g_iinc8 (h : Ok κ own cc d) {z n : Int} {x0 x1 x2 x3 x4 x5 x6 x7 : Option Value} {t : List (Option Value)} (dd : decode cc pc = .ok (.iinc 8 n, 3)) (k : G κ w sz kc ks (x0 :: x1 :: x2 :: x3 :: x4 :: x5 :: x6 :: x7 :: some (vI (z + n)) :: t) (pc + 3) st) (hc1 : c1 x7 = true := by rfl) (hn : 8 < κ.nL := by first | assumption | omega) : G κ w sz kc ks (x0 :: x1 :: x2 :: x3 :: x4 :: x5 :: x6 :: x7 :: some (vI z) :: t) pc st := g_iinc_w h dd rfl hn (hpS (i := 7) hc1) k
theorem g_iinc9 (h : Ok κ own cc d) {z n : Int} {x0 x1 x2 x3 x4 x5 x6 x7 x8 : Option Value} {t : List (Option Value)} (dd : decode cc pc = .ok (.iinc 9 n, 3)) (k : G κ w sz kc ks (x0 :: x1 :: x2 :: x3 :: x4 :: x5 :: x6 :: x7 :: x8 :: some (vI (z + n)) :: t) (pc + 3) st) (hc1 : c1 x8 = true := by rfl) (hn : 9 < κ.nL := by first | assumption | omega) : G κ w sz kc ks (x0 :: x1 :: x2 :: x3 :: x4 :: x5 :: x6 :: x7 :: x8 :: some (vI z) :: t) pc st := g_iinc_w h dd rfl hn (hpS (i := 8) hc1) k
theorem g_iinc10 (h : Ok κ own cc d) {z n : Int} {x0 x1 x2 x3 x4 x5 x6 x7 x8 x9 : Option Value} {t : List (Option Value)} (dd : decode cc pc = .ok (.iinc 10 n, 3)) (k : G κ w sz kc ks (x0 :: x1 :: x2 :: x3 :: x4 :: x5 :: x6 :: x7 :: x8 :: x9 :: some (vI (z + n)) :: t) (pc + 3) st) (hc1 : c1 x9 = true := by rfl) (hn : 10 < κ.nL := by first | assumption | omega) : G κ w sz kc ks (x0 :: x1 :: x2 :: x3 :: x4 :: x5 :: x6 :: x7 :: x8 :: x9 :: some (vI z) :: t) pc st := g_iinc_w h dd rfl hn (hpS (i := 9) hc1) k
theorem g_iinc11 (h : Ok κ own cc d) {z n : Int} {x0 x1 x2 x3 x4 x5 x6 x7 x8 x9 x10 : Option Value} {t : List (Option Value)} (dd : decode cc pc = .ok (.iinc 11 n, 3)) (k : G κ w sz kc ks (x0 :: x1 :: x2 :: x3 :: x4 :: x5 :: x6 :: x7 :: x8 :: x9 :: x10 :: some (vI (z + n)) :: t) (pc + 3) st) (hc1 : c1 x10 = true := by rfl) (hn : 11 < κ.nL := by first | assumption | omega) : G κ w sz kc ks (x0 :: x1 :: x2 :: x3 :: x4 :: x5 :: x6 :: x7 :: x8 :: x9 :: x10 :: some (vI z) :: t) pc st := g_iinc_w h dd rfl hn (hpS (i := 10) hc1) k
theorem g_iinc12 (h : Ok κ own cc d) {z n : Int} {x0 x1 x2 x3 x4 x5 x6 x7 x8 x9 x10 x11 : Option Value} {t : List (Option Value)} (dd : decode cc pc = .ok (.iinc 12 n, 3)) (k : G κ w sz kc ks (x0 :: x1 :: x2 :: x3 :: x4 :: x5 :: x6 :: x7 :: x8 :: x9 :: x10 :: x11 :: some (vI (z + n)) :: t) (pc + 3) st) (hc1 : c1 x11 = true := by rfl) (hn : 12 < κ.nL := by first | assumption | omega) : G κ w sz kc ks (x0 :: x1 :: x2 :: x3 :: x4 :: x5 :: x6 :: x7 :: x8 :: x9 :: x10 :: x11 :: some (vI z) :: t) pc st := g_iinc_w h dd rfl hn (hpS (i := 11) hc1) k
theorem g_iinc13 (h : Ok κ own cc d) {z n : Int} {x0 x1 x2 x3 x4 x5 x6 x7 x8 x9 x10 x11 x12 : Option Value} {t : List (Option Value)} (dd : decode cc pc = .ok (.iinc 13 n, 3)) (k : G κ w sz kc ks (x0 :: x1 :: x2 :: x3 :: x4 :: x5 :: x6 :: x7 :: x8 :: x9 :: x10 :: x11 :: x12 :: some (vI (z + n)) :: t) (pc + 3) st) (hc1 : c1 x12 = true := by rfl) (hn : 13 < κ.nL := by first | assumption | omega) : G κ w sz kc ks (x0 :: x1 :: x2 :: x3 :: x4 :: x5 :: x6 :: x7 :: x8 :: x9 :: x10 :: x11 :: x12 :: some (vI z) :: t) pc st := g_iinc_w h dd rfl hn (hpS (i := 12) hc1) k
theorem g_iinc14 (h : Ok κ own cc d) {z n : Int} {x0 x1 x2 x3 x4 x5 x6 x7 x8 x9 x10 x11 x12 x13 : Option Value} {t : List (Option Value)} (dd : decode cc pc = .ok (.iinc 14 n, 3)) (k : G κ w sz kc ks (x0 :: x1 :: x2 :: x3 :: x4 :: x5 :: x6 :: x7 :: x8 :: x9 :: x10 :: x11 :: x12 :: x13 :: some (vI (z + n)) :: t) (pc + 3) st) (hc1 : c1 x13 = true := by rfl) (hn : 14 < κ.nL := by first | assumption | omega) : G κ w sz kc ks (x0 :: x1 :: x2 :: x3 :: x4 :: x5 :: x6 :: x7 :: x8 :: x9 :: x10 :: x11 :: x12 :: x13 :: some (vI z) :: t) pc st := g_iinc_w h dd rfl hn (hpS (i := 13) hc1) k
theorem g_iinc15 (h : Ok κ own cc d) {z n : Int} {x0 x1 x2 x3 x4 x5 x6 x7 x8 x9 x10 x11 x12 x13 x14 : Option Value} {t : List (Option Value)} (dd : decode cc pc = .ok (.iinc 15 n, 3)) (k : G κ w sz kc ks (x0 :: x1 :: x2 :: x3 :: x4 :: x5 :: x6 :: x7 :: x8 :: x9 :: x10 :: x11 :: x12 :: x13 :: x14 :: some (vI (z + n)) :: t) (pc + 3) st) (hc1 : c1 x14 = true := by rfl) (hn : 15 < κ.nL := by first | assumption | omega) : G κ w sz kc ks (x0 :: x1 :: x2 :: x3 :: x4 :: x5 :: x6 :: x7 :: x8 :: x9 :: x10 :: x11 :: x12 :: x13 :: x14 :: some (vI z) :: t) pc st := g_iinc_w h dd rfl hn (hpS (i := 14) hc1) k
theorem g_iadd (h : Ok κ own cc d) {a b : Int} (dd : decode cc pc = .ok (.iadd, 1)) (k : G κ w sz kc ks L (pc + 1) (vI (a + b) :: st)) : G κ w sz kc ks L pc (vI b :: vI a :: st) := by
  intro H locs ls cells slots hz hH hA hS hl hc hs
  refine lv_iadd h.hx h.hb dd ?_
  rw [← Int32.ofInt_add]
  exact k H locs ls cells slots hz hH hA hS hl hc hs
theorem g_isub (h : Ok κ own cc d) {a b : Int} (dd : decode cc pc = .ok (.isub, 1)) (k : G κ w sz kc ks L (pc + 1) (vI (a - b) :: st)) : G κ w sz kc ks L pc (vI b :: vI a :: st) := by
  intro H locs ls cells slots hz hH hA hS hl hc hs
  refine lv_isub h.hx h.hb dd ?_
  rw [← Int32.ofInt_sub]
  exact k H locs ls cells slots hz hH hA hS hl hc hs
theorem g_imul (h : Ok κ own cc d) {a b : Int} (dd : decode cc pc = .ok (.imul, 1)) (k : G κ w sz kc ks L (pc + 1) (vI (a * b) :: st)) : G κ w sz kc ks L pc (vI b :: vI a :: st) := by
  intro H locs ls cells slots hz hH hA hS hl hc hs
  refine lv_imul h.hx h.hb dd ?_
  rw [← Int32.ofInt_mul]
  exact k H locs ls cells slots hz hH hA hS hl hc hs
theorem g_ladd (h : Ok κ own cc d) {a b : Int} (dd : decode cc pc = .ok (.ladd, 1)) (k : G κ w sz kc ks L (pc + 1) (vL (a + b) :: st)) : G κ w sz kc ks L pc (vL b :: vL a :: st) := by
  intro H locs ls cells slots hz hH hA hS hl hc hs
  refine lv_ladd h.hx h.hb dd ?_
  rw [← Int64.ofInt_add]
  exact k H locs ls cells slots hz hH hA hS hl hc hs
theorem g_lsub (h : Ok κ own cc d) {a b : Int} (dd : decode cc pc = .ok (.lsub, 1)) (k : G κ w sz kc ks L (pc + 1) (vL (a - b) :: st)) : G κ w sz kc ks L pc (vL b :: vL a :: st) := by
  intro H locs ls cells slots hz hH hA hS hl hc hs
  refine lv_lsub h.hx h.hb dd ?_
  rw [← Int64.ofInt_sub]
  exact k H locs ls cells slots hz hH hA hS hl hc hs
theorem g_ineg (h : Ok κ own cc d) {a : Int} (dd : decode cc pc = .ok (.ineg, 1)) (k : G κ w sz kc ks L (pc + 1) (vI (-a) :: st)) : G κ w sz kc ks L pc (vI a :: st) := by
  intro H locs ls cells slots hz hH hA hS hl hc hs
  refine lv_ineg h.hx h.hb dd ?_
  rw [← Int32.ofInt_neg]
  exact k H locs ls cells slots hz hH hA hS hl hc hs
theorem i32_div {a b : Int} (ha : 0 ≤ a ∧ a ≤ 2147483647) (hb : 0 < b ∧ b ≤ 2147483647) : Int32.ofInt a / Int32.ofInt b = Int32.ofInt (a / b) := by
  rw [← Int32.ofInt_tdiv (by have : Int32.minValue.toInt = -2147483648 := by decide
                             omega) (by have : Int32.maxValue.toInt = 2147483647 := by decide
                                        omega) (by have : Int32.minValue.toInt = -2147483648 := by decide
                                                   omega) (by have : Int32.maxValue.toInt = 2147483647 := by decide
                                                              omega), Int.tdiv_eq_ediv_of_nonneg ha.1]
theorem i32_ne0 {b : Int} (hb : 0 < b ∧ b ≤ 2147483647) : ¬ Int32.ofInt b = 0 := by
  rw [← i32_0, i32_eq (by omega) (by omega)]
  omega
theorem g_idiv (h : Ok κ own cc d) {a b : Int} (dd : decode cc pc = .ok (.idiv, 1)) (k : G κ w sz kc ks L (pc + 1) (vI (a / b) :: st)) (ha : 0 ≤ a ∧ a ≤ 2147483647 := by omega) (hb : 0 < b ∧ b ≤ 2147483647 := by omega) : G κ w sz kc ks L pc (vI b :: vI a :: st) := by
  intro H locs ls cells slots hz hH hA hS hl hc hs
  refine lv_idiv h.hx h.hb dd (i32_ne0 hb) ?_
  rw [i32_div ha hb]
  exact k H locs ls cells slots hz hH hA hS hl hc hs
theorem g_irem (h : Ok κ own cc d) {a b : Int} (dd : decode cc pc = .ok (.irem, 1)) (k : G κ w sz kc ks L (pc + 1) (vI (a % b) :: st)) (ha : 0 ≤ a ∧ a ≤ 2147483647 := by omega) (hb : 0 < b ∧ b ≤ 2147483647 := by omega) : G κ w sz kc ks L pc (vI b :: vI a :: st) := by
  intro H locs ls cells slots hz hH hA hS hl hc hs
  refine lv_irem h.hx h.hb dd (i32_ne0 hb) ?_
  rw [i32_div ha hb, ← Int32.ofInt_mul, ← Int32.ofInt_sub, show a - a / b * b = a % b by rw [Int.mul_comm]; have := Int.mul_ediv_add_emod a b; omega]
  exact k H locs ls cells slots hz hH hA hS hl hc hs
def zAnd (a b : Int) : Int := (Int32.ofInt a &&& Int32.ofInt b).toInt
def zOr (a b : Int) : Int := (Int32.ofInt a ||| Int32.ofInt b).toInt
def zXor (a b : Int) : Int := (Int32.ofInt a ^^^ Int32.ofInt b).toInt
def zShl (a b : Int) : Int := (Int32.ofInt a <<< (Int32.ofInt b &&& 31)).toInt
def zShr (a b : Int) : Int := (Int32.ofInt a >>> (Int32.ofInt b &&& 31)).toInt
def zByte (a : Int) : Int := (Int32.ofInt a).toInt8.toInt
def lOr (a b : Int) : Int := (Int64.ofInt a ||| Int64.ofInt b).toInt
def lShl (a b : Int) : Int := (Int64.ofInt a <<< ((Int32.ofInt b).toInt64 &&& 63)).toInt
theorem vI_ti (x : Int32) : vI x.toInt = .int x := by unfold vI; rw [Int32.ofInt_toInt]
theorem vL_ti (x : Int64) : vL x.toInt = .long x := by unfold vL; rw [Int64.ofInt_toInt]
theorem zByte_of {a : Int} (h : -128 ≤ a ∧ a ≤ 127) : (Int32.ofInt a).toInt8.toInt32 = Int32.ofInt a := by
  have h1 : (Int32.ofInt a).toInt8.toInt = a := by
    rw [Int32.toInt_toInt8, i32_ti (by omega)]
    exact Int.bmod_eq_of_le (by omega) (by omega)
  apply Int32.toInt_inj.mp
  rw [Int8.toInt_toInt32, h1, i32_ti (by omega)]
theorem g_iand (h : Ok κ own cc d) {a b : Int} (dd : decode cc pc = .ok (.iand, 1)) (k : G κ w sz kc ks L (pc + 1) (vI (zAnd a b) :: st)) : G κ w sz kc ks L pc (vI b :: vI a :: st) := by
  intro H locs ls cells slots hz hH hA hS hl hc hs
  have k1 := k H locs ls cells slots hz hH hA hS hl hc hs
  rw [zAnd, vI_ti] at k1
  exact lv_iand h.hx h.hb dd k1
theorem g_ior (h : Ok κ own cc d) {a b : Int} (dd : decode cc pc = .ok (.ior, 1)) (k : G κ w sz kc ks L (pc + 1) (vI (zOr a b) :: st)) : G κ w sz kc ks L pc (vI b :: vI a :: st) := by
  intro H locs ls cells slots hz hH hA hS hl hc hs
  have k1 := k H locs ls cells slots hz hH hA hS hl hc hs
  rw [zOr, vI_ti] at k1
  exact lv_ior h.hx h.hb dd k1
theorem g_ixor (h : Ok κ own cc d) {a b : Int} (dd : decode cc pc = .ok (.ixor, 1)) (k : G κ w sz kc ks L (pc + 1) (vI (zXor a b) :: st)) : G κ w sz kc ks L pc (vI b :: vI a :: st) := by
  intro H locs ls cells slots hz hH hA hS hl hc hs
  have k1 := k H locs ls cells slots hz hH hA hS hl hc hs
  rw [zXor, vI_ti] at k1
  exact lv_ixor h.hx h.hb dd k1
theorem g_ishl (h : Ok κ own cc d) {a b : Int} (dd : decode cc pc = .ok (.ishl, 1)) (k : G κ w sz kc ks L (pc + 1) (vI (zShl a b) :: st)) : G κ w sz kc ks L pc (vI b :: vI a :: st) := by
  intro H locs ls cells slots hz hH hA hS hl hc hs
  have k1 := k H locs ls cells slots hz hH hA hS hl hc hs
  rw [zShl, vI_ti] at k1
  exact lv_ishl h.hx h.hb dd k1
theorem g_ishr (h : Ok κ own cc d) {a b : Int} (dd : decode cc pc = .ok (.ishr, 1)) (k : G κ w sz kc ks L (pc + 1) (vI (zShr a b) :: st)) : G κ w sz kc ks L pc (vI b :: vI a :: st) := by
  intro H locs ls cells slots hz hH hA hS hl hc hs
  have k1 := k H locs ls cells slots hz hH hA hS hl hc hs
  rw [zShr, vI_ti] at k1
  exact lv_ishr h.hx h.hb dd k1
theorem g_lor (h : Ok κ own cc d) {a b : Int} (dd : decode cc pc = .ok (.lor, 1)) (k : G κ w sz kc ks L (pc + 1) (vL (lOr a b) :: st)) : G κ w sz kc ks L pc (vL b :: vL a :: st) := by
  intro H locs ls cells slots hz hH hA hS hl hc hs
  have k1 := k H locs ls cells slots hz hH hA hS hl hc hs
  rw [lOr, vL_ti] at k1
  exact lv_lor h.hx h.hb dd k1
theorem g_lshl (h : Ok κ own cc d) {a b : Int} (dd : decode cc pc = .ok (.lshl, 1)) (k : G κ w sz kc ks L (pc + 1) (vL (lShl a b) :: st)) : G κ w sz kc ks L pc (vI b :: vL a :: st) := by
  intro H locs ls cells slots hz hH hA hS hl hc hs
  have k1 := k H locs ls cells slots hz hH hA hS hl hc hs
  rw [lShl, vL_ti] at k1
  exact lv_lshl h.hx h.hb dd rfl k1
theorem g_i2b (h : Ok κ own cc d) {a : Int} (dd : decode cc pc = .ok (.i2b, 1)) (k : G κ w sz kc ks L (pc + 1) (vI (zByte a) :: st)) : G κ w sz kc ks L pc (vI a :: st) := by
  intro H locs ls cells slots hz hH hA hS hl hc hs
  exact lv_i2b h.hx h.hb dd (Int32.ofInt_int8ToInt _).symm (k H locs ls cells slots hz hH hA hS hl hc hs)
theorem g_i2bR (h : Ok κ own cc d) {a : Int} (dd : decode cc pc = .ok (.i2b, 1)) (k : G κ w sz kc ks L (pc + 1) (vI a :: st)) (ha : -128 ≤ a ∧ a ≤ 127 := by omega) : G κ w sz kc ks L pc (vI a :: st) := by
  intro H locs ls cells slots hz hH hA hS hl hc hs
  exact lv_i2b h.hx h.hb dd (zByte_of ha) (k H locs ls cells slots hz hH hA hS hl hc hs)
theorem i64_of32 {a : Int} (ha : -2147483648 ≤ a ∧ a ≤ 2147483647) : (Int32.ofInt a).toInt64 = Int64.ofInt a := Int32.toInt64_ofInt ha.1 ha.2
theorem g_i2l (h : Ok κ own cc d) {a : Int} (dd : decode cc pc = .ok (.i2l, 1)) (k : G κ w sz kc ks L (pc + 1) (vL a :: st)) (ha : -2147483648 ≤ a ∧ a ≤ 2147483647 := by omega) : G κ w sz kc ks L pc (vI a :: st) := by
  intro H locs ls cells slots hz hH hA hS hl hc hs
  exact lv_i2l h.hx h.hb dd (i64_of32 ha) (k H locs ls cells slots hz hH hA hS hl hc hs)
theorem g_i2cR (h : Ok κ own cc d) {a : Int} (dd : decode cc pc = .ok (.i2c, 1)) (k : G κ w sz kc ks L (pc + 1) (vI a :: st)) (ha : 0 ≤ a ∧ a ≤ 65535 := by omega) : G κ w sz kc ks L pc (vI a :: st) := by
  intro H locs ls cells slots hz hH hA hS hl hc hs
  refine lv_i2c h.hx h.hb dd ?_ (k H locs ls cells slots hz hH hA hS hl hc hs)
  have h1 : Int32.ofInt a = nI a.toNat := by rw [nI, ← Int32.ofInt_eq_ofNat, Int.toNat_of_nonneg ha.1]
  rw [h1, pk_char, pk_tn (by omega), Nat.mod_eq_of_lt (by omega)]
theorem g_dup (h : Ok κ own cc d) {v : Value} (hv : v.category = 1 := by rfl) (dd : decode cc pc = .ok (.dup, 1)) (k : G κ w sz kc ks L (pc + 1) (v :: v :: st)) : G κ w sz kc ks L pc (v :: st) := by
  intro H locs ls cells slots hz hH hA hS hl hc hs
  exact lv_dup h.hx h.hb dd hv (k H locs ls cells slots hz hH hA hS hl hc hs)
theorem g_pop (h : Ok κ own cc d) {v : Value} (hv : v.category = 1 := by rfl) (dd : decode cc pc = .ok (.pop, 1)) (k : G κ w sz kc ks L (pc + 1) (st)) : G κ w sz kc ks L pc (v :: st) := by
  intro H locs ls cells slots hz hH hA hS hl hc hs
  exact lv_pop h.hx h.hb dd hv (k H locs ls cells slots hz hH hA hS hl hc hs)
theorem g_dup_x1 (h : Ok κ own cc d) {u v : Value} (hv : v.category = 1 := by rfl) (hu : u.category = 1 := by rfl) (dd : decode cc pc = .ok (.dup_x1, 1)) (k : G κ w sz kc ks L (pc + 1) (v :: u :: v :: st)) : G κ w sz kc ks L pc (v :: u :: st) := by
  intro H locs ls cells slots hz hH hA hS hl hc hs
  exact lv_dup_x1 h.hx h.hb dd hv hu (k H locs ls cells slots hz hH hA hS hl hc hs)
theorem g_dup_x2 (h : Ok κ own cc d) {t u v : Value} (hv : v.category = 1 := by rfl) (hu : u.category = 1 := by rfl) (ht : t.category = 1 := by rfl) (dd : decode cc pc = .ok (.dup_x2, 1)) (k : G κ w sz kc ks L (pc + 1) (v :: u :: t :: v :: st)) : G κ w sz kc ks L pc (v :: u :: t :: st) := by
  intro H locs ls cells slots hz hH hA hS hl hc hs
  exact lv_dup_x2 h.hx h.hb dd hv hu ht (k H locs ls cells slots hz hH hA hS hl hc hs)
theorem g_dup2 (h : Ok κ own cc d) {u v : Value} (hv : v.category = 1 := by rfl) (hu : u.category = 1 := by rfl) (dd : decode cc pc = .ok (.dup2, 1)) (k : G κ w sz kc ks L (pc + 1) (v :: u :: v :: u :: st)) : G κ w sz kc ks L pc (v :: u :: st) := by
  intro H locs ls cells slots hz hH hA hS hl hc hs
  exact lv_dup2_11 h.hx h.hb dd hv hu (k H locs ls cells slots hz hH hA hS hl hc hs)
theorem g_icmp_eq (h : Ok κ own cc d) {a b off : Int} {tgt : Nat} (dd : decode cc pc = .ok (.if_icmp .eq off, 3)) (ht : (pc : Int) + off = (tgt : Int)) (kt : a = b → G κ w sz kc ks L tgt st) (kf : ¬ a = b → G κ w sz kc ks L (pc + 3) st) (ha : -2147483648 ≤ a ∧ a ≤ 2147483647 := by omega) (hb : -2147483648 ≤ b ∧ b ≤ 2147483647 := by omega) : G κ w sz kc ks L pc (vI b :: vI a :: st) := by
  intro H locs ls cells slots hz hH hA hS hl hc hs
  exact lv_icmp_eq h.hx h.hb dd ht (fun q => kt ((i32_eq ha hb).mp q) H locs ls cells slots hz hH hA hS hl hc hs) (fun q => kf (fun z => q ((i32_eq ha hb).mpr z)) H locs ls cells slots hz hH hA hS hl hc hs)
theorem g_if_eq (h : Ok κ own cc d) {a off : Int} {tgt : Nat} (dd : decode cc pc = .ok (.ifCond .eq off, 3)) (ht : (pc : Int) + off = (tgt : Int)) (kt : a = 0 → G κ w sz kc ks L tgt st) (kf : ¬ a = 0 → G κ w sz kc ks L (pc + 3) st) (ha : -2147483648 ≤ a ∧ a ≤ 2147483647 := by omega) : G κ w sz kc ks L pc (vI a :: st) := by
  intro H locs ls cells slots hz hH hA hS hl hc hs
  have hb : (-2147483648 : Int) ≤ 0 ∧ (0 : Int) ≤ 2147483647 := by omega
  refine lv_if_eq h.hx h.hb dd ht (fun q => ?_) (fun q => ?_)
  · rw [← i32_0] at q
    exact  kt ((i32_eq ha hb).mp q) H locs ls cells slots hz hH hA hS hl hc hs
  · rw [← i32_0] at q
    exact  kf (fun z => q ((i32_eq ha hb).mpr z)) H locs ls cells slots hz hH hA hS hl hc hs
theorem g_icmp_ne (h : Ok κ own cc d) {a b off : Int} {tgt : Nat} (dd : decode cc pc = .ok (.if_icmp .ne off, 3)) (ht : (pc : Int) + off = (tgt : Int)) (kt : ¬ a = b → G κ w sz kc ks L tgt st) (kf : a = b → G κ w sz kc ks L (pc + 3) st) (ha : -2147483648 ≤ a ∧ a ≤ 2147483647 := by omega) (hb : -2147483648 ≤ b ∧ b ≤ 2147483647 := by omega) : G κ w sz kc ks L pc (vI b :: vI a :: st) := by
  intro H locs ls cells slots hz hH hA hS hl hc hs
  exact lv_icmp_ne h.hx h.hb dd ht (fun q => kt (fun z => q ((i32_eq ha hb).mpr z)) H locs ls cells slots hz hH hA hS hl hc hs) (fun q => kf ((i32_eq ha hb).mp q) H locs ls cells slots hz hH hA hS hl hc hs)
theorem g_if_ne (h : Ok κ own cc d) {a off : Int} {tgt : Nat} (dd : decode cc pc = .ok (.ifCond .ne off, 3)) (ht : (pc : Int) + off = (tgt : Int)) (kt : ¬ a = 0 → G κ w sz kc ks L tgt st) (kf : a = 0 → G κ w sz kc ks L (pc + 3) st) (ha : -2147483648 ≤ a ∧ a ≤ 2147483647 := by omega) : G κ w sz kc ks L pc (vI a :: st) := by
  intro H locs ls cells slots hz hH hA hS hl hc hs
  have hb : (-2147483648 : Int) ≤ 0 ∧ (0 : Int) ≤ 2147483647 := by omega
  refine lv_if_ne h.hx h.hb dd ht (fun q => ?_) (fun q => ?_)
  · rw [← i32_0] at q
    exact  kt (fun z => q ((i32_eq ha hb).mpr z)) H locs ls cells slots hz hH hA hS hl hc hs
  · rw [← i32_0] at q
    exact  kf ((i32_eq ha hb).mp q) H locs ls cells slots hz hH hA hS hl hc hs
theorem g_icmp_lt (h : Ok κ own cc d) {a b off : Int} {tgt : Nat} (dd : decode cc pc = .ok (.if_icmp .lt off, 3)) (ht : (pc : Int) + off = (tgt : Int)) (kt : a < b → G κ w sz kc ks L tgt st) (kf : ¬ a < b → G κ w sz kc ks L (pc + 3) st) (ha : -2147483648 ≤ a ∧ a ≤ 2147483647 := by omega) (hb : -2147483648 ≤ b ∧ b ≤ 2147483647 := by omega) : G κ w sz kc ks L pc (vI b :: vI a :: st) := by
  intro H locs ls cells slots hz hH hA hS hl hc hs
  exact lv_icmp_lt h.hx h.hb dd ht (fun q => kt ((i32_lt ha hb).mp q) H locs ls cells slots hz hH hA hS hl hc hs) (fun q => kf (fun z => q ((i32_lt ha hb).mpr z)) H locs ls cells slots hz hH hA hS hl hc hs)
theorem g_if_lt (h : Ok κ own cc d) {a off : Int} {tgt : Nat} (dd : decode cc pc = .ok (.ifCond .lt off, 3)) (ht : (pc : Int) + off = (tgt : Int)) (kt : a < 0 → G κ w sz kc ks L tgt st) (kf : ¬ a < 0 → G κ w sz kc ks L (pc + 3) st) (ha : -2147483648 ≤ a ∧ a ≤ 2147483647 := by omega) : G κ w sz kc ks L pc (vI a :: st) := by
  intro H locs ls cells slots hz hH hA hS hl hc hs
  have hb : (-2147483648 : Int) ≤ 0 ∧ (0 : Int) ≤ 2147483647 := by omega
  refine lv_if_lt h.hx h.hb dd ht (fun q => ?_) (fun q => ?_)
  · rw [← i32_0] at q
    exact  kt ((i32_lt ha hb).mp q) H locs ls cells slots hz hH hA hS hl hc hs
  · rw [← i32_0] at q
    exact  kf (fun z => q ((i32_lt ha hb).mpr z)) H locs ls cells slots hz hH hA hS hl hc hs
theorem g_icmp_ge (h : Ok κ own cc d) {a b off : Int} {tgt : Nat} (dd : decode cc pc = .ok (.if_icmp .ge off, 3)) (ht : (pc : Int) + off = (tgt : Int)) (kt : b ≤ a → G κ w sz kc ks L tgt st) (kf : ¬ b ≤ a → G κ w sz kc ks L (pc + 3) st) (ha : -2147483648 ≤ a ∧ a ≤ 2147483647 := by omega) (hb : -2147483648 ≤ b ∧ b ≤ 2147483647 := by omega) : G κ w sz kc ks L pc (vI b :: vI a :: st) := by
  intro H locs ls cells slots hz hH hA hS hl hc hs
  exact lv_icmp_ge h.hx h.hb dd ht (fun q => kt ((i32_le hb ha).mp q) H locs ls cells slots hz hH hA hS hl hc hs) (fun q => kf (fun z => q ((i32_le hb ha).mpr z)) H locs ls cells slots hz hH hA hS hl hc hs)
theorem g_if_ge (h : Ok κ own cc d) {a off : Int} {tgt : Nat} (dd : decode cc pc = .ok (.ifCond .ge off, 3)) (ht : (pc : Int) + off = (tgt : Int)) (kt : 0 ≤ a → G κ w sz kc ks L tgt st) (kf : ¬ 0 ≤ a → G κ w sz kc ks L (pc + 3) st) (ha : -2147483648 ≤ a ∧ a ≤ 2147483647 := by omega) : G κ w sz kc ks L pc (vI a :: st) := by
  intro H locs ls cells slots hz hH hA hS hl hc hs
  have hb : (-2147483648 : Int) ≤ 0 ∧ (0 : Int) ≤ 2147483647 := by omega
  refine lv_if_ge h.hx h.hb dd ht (fun q => ?_) (fun q => ?_)
  · rw [← i32_0] at q
    exact  kt ((i32_le hb ha).mp q) H locs ls cells slots hz hH hA hS hl hc hs
  · rw [← i32_0] at q
    exact  kf (fun z => q ((i32_le hb ha).mpr z)) H locs ls cells slots hz hH hA hS hl hc hs
theorem g_icmp_gt (h : Ok κ own cc d) {a b off : Int} {tgt : Nat} (dd : decode cc pc = .ok (.if_icmp .gt off, 3)) (ht : (pc : Int) + off = (tgt : Int)) (kt : b < a → G κ w sz kc ks L tgt st) (kf : ¬ b < a → G κ w sz kc ks L (pc + 3) st) (ha : -2147483648 ≤ a ∧ a ≤ 2147483647 := by omega) (hb : -2147483648 ≤ b ∧ b ≤ 2147483647 := by omega) : G κ w sz kc ks L pc (vI b :: vI a :: st) := by
  intro H locs ls cells slots hz hH hA hS hl hc hs
  exact lv_icmp_gt h.hx h.hb dd ht (fun q => kt ((i32_lt hb ha).mp q) H locs ls cells slots hz hH hA hS hl hc hs) (fun q => kf (fun z => q ((i32_lt hb ha).mpr z)) H locs ls cells slots hz hH hA hS hl hc hs)
theorem g_if_gt (h : Ok κ own cc d) {a off : Int} {tgt : Nat} (dd : decode cc pc = .ok (.ifCond .gt off, 3)) (ht : (pc : Int) + off = (tgt : Int)) (kt : 0 < a → G κ w sz kc ks L tgt st) (kf : ¬ 0 < a → G κ w sz kc ks L (pc + 3) st) (ha : -2147483648 ≤ a ∧ a ≤ 2147483647 := by omega) : G κ w sz kc ks L pc (vI a :: st) := by
  intro H locs ls cells slots hz hH hA hS hl hc hs
  have hb : (-2147483648 : Int) ≤ 0 ∧ (0 : Int) ≤ 2147483647 := by omega
  refine lv_if_gt h.hx h.hb dd ht (fun q => ?_) (fun q => ?_)
  · rw [← i32_0] at q
    exact  kt ((i32_lt hb ha).mp q) H locs ls cells slots hz hH hA hS hl hc hs
  · rw [← i32_0] at q
    exact  kf (fun z => q ((i32_lt hb ha).mpr z)) H locs ls cells slots hz hH hA hS hl hc hs
theorem g_icmp_le (h : Ok κ own cc d) {a b off : Int} {tgt : Nat} (dd : decode cc pc = .ok (.if_icmp .le off, 3)) (ht : (pc : Int) + off = (tgt : Int)) (kt : a ≤ b → G κ w sz kc ks L tgt st) (kf : ¬ a ≤ b → G κ w sz kc ks L (pc + 3) st) (ha : -2147483648 ≤ a ∧ a ≤ 2147483647 := by omega) (hb : -2147483648 ≤ b ∧ b ≤ 2147483647 := by omega) : G κ w sz kc ks L pc (vI b :: vI a :: st) := by
  intro H locs ls cells slots hz hH hA hS hl hc hs
  exact lv_icmp_le h.hx h.hb dd ht (fun q => kt ((i32_le ha hb).mp q) H locs ls cells slots hz hH hA hS hl hc hs) (fun q => kf (fun z => q ((i32_le ha hb).mpr z)) H locs ls cells slots hz hH hA hS hl hc hs)
theorem g_if_le (h : Ok κ own cc d) {a off : Int} {tgt : Nat} (dd : decode cc pc = .ok (.ifCond .le off, 3)) (ht : (pc : Int) + off = (tgt : Int)) (kt : a ≤ 0 → G κ w sz kc ks L tgt st) (kf : ¬ a ≤ 0 → G κ w sz kc ks L (pc + 3) st) (ha : -2147483648 ≤ a ∧ a ≤ 2147483647 := by omega) : G κ w sz kc ks L pc (vI a :: st) := by
  intro H locs ls cells slots hz hH hA hS hl hc hs
  have hb : (-2147483648 : Int) ≤ 0 ∧ (0 : Int) ≤ 2147483647 := by omega
  refine lv_if_le h.hx h.hb dd ht (fun q => ?_) (fun q => ?_)
  · rw [← i32_0] at q
    exact  kt ((i32_le ha hb).mp q) H locs ls cells slots hz hH hA hS hl hc hs
  · rw [← i32_0] at q
    exact  kf (fun z => q ((i32_le ha hb).mpr z)) H locs ls cells slots hz hH hA hS hl hc hs
theorem g_goto (h : Ok κ own cc d) {off : Int} {tgt : Nat} (dd : decode cc pc = .ok (.goto off, 3)) (ht : (pc : Int) + off = (tgt : Int)) (k : G κ w sz kc ks L tgt st) : G κ w sz kc ks L pc st := by
  intro H locs ls cells slots hz hH hA hS hl hc hs
  exact lv_goto h.hx h.hb dd ht (k H locs ls cells slots hz hH hA hS hl hc hs)
theorem g_ifnonnull (h : Ok κ own cc d) {x : Nat} {off : Int} {tgt : Nat} (dd : decode cc pc = .ok (.ifnonnull off, 3)) (ht : (pc : Int) + off = (tgt : Int)) (k : G κ w sz kc ks L tgt st) : G κ w sz kc ks L pc (.ref x :: st) := by
  intro H locs ls cells slots hz hH hA hS hl hc hs
  exact lv_ifnonnull h.hx h.hb dd ht (k H locs ls cells slots hz hH hA hS hl hc hs)
theorem g_ifnonnullN (h : Ok κ own cc d) {off : Int} (dd : decode cc pc = .ok (.ifnonnull off, 3)) (k : G κ w sz kc ks L (pc + 3) st) : G κ w sz kc ks L pc (.null :: st) := by
  intro H locs ls cells slots hz hH hA hS hl hc hs
  exact lv_ifnonnullN h.hx h.hb dd (k H locs ls cells slots hz hH hA hS hl hc hs)
theorem g_ifnull (h : Ok κ own cc d) {x : Nat} {off : Int} (dd : decode cc pc = .ok (.ifnull off, 3)) (k : G κ w sz kc ks L (pc + 3) st) : G κ w sz kc ks L pc (.ref x :: st) := by
  intro H locs ls cells slots hz hH hA hS hl hc hs
  exact lv_ifnull h.hx h.hb dd (k H locs ls cells slots hz hH hA hS hl hc hs)
theorem g_ifnullN (h : Ok κ own cc d) {off : Int} {tgt : Nat} (dd : decode cc pc = .ok (.ifnull off, 3)) (ht : (pc : Int) + off = (tgt : Int)) (k : G κ w sz kc ks L tgt st) : G κ w sz kc ks L pc (.null :: st) := by
  intro H locs ls cells slots hz hH hA hS hl hc hs
  exact lv_ifnullN h.hx h.hb dd ht (k H locs ls cells slots hz hH hA hS hl hc hs)
theorem i64_ti {a : Int} (ha : -9223372036854775808 ≤ a ∧ a ≤ 9223372036854775807) : (Int64.ofInt a).toInt = a := Int64.toInt_ofInt_of_le ha.1 (by omega)
def zcmp (a b : Int) : Int := if a < b then -1 else if a = b then 0 else 1
theorem g_ldcw (h : Ok κ own cc d) {idx : Nat} {x : Int32} (n : Int) (q : Cond.constant own idx x ∈ lw_all) (hn : Int32.ofInt n = x) (dd : decode cc pc = .ok (.ldc_w idx, 3)) (k : G κ w sz kc ks L (pc + 3) (vI n :: st)) : G κ w sz kc ks L pc st := by
  intro H locs ls cells slots hz hH hA hS hl hc hs
  subst hn
  exact lv_ldcw h.hx h.hb h.hown (h.hts _ q) dd (k H locs ls cells slots hz hH hA hS hl hc hs)
theorem i64_lt {a b : Int} (ha : -9223372036854775808 ≤ a ∧ a ≤ 9223372036854775807) (hb : -9223372036854775808 ≤ b ∧ b ≤ 9223372036854775807) : Int64.ofInt a < Int64.ofInt b ↔ a < b := by
  rw [Int64.lt_iff_toInt_lt, i64_ti ha, i64_ti hb]
theorem i64_eq {a b : Int} (ha : -9223372036854775808 ≤ a ∧ a ≤ 9223372036854775807) (hb : -9223372036854775808 ≤ b ∧ b ≤ 9223372036854775807) : Int64.ofInt a = Int64.ofInt b ↔ a = b := by
  constructor
  · intro h
    have := congrArg Int64.toInt h
    rwa [i64_ti ha, i64_ti hb] at this
  · intro h
    rw [h]
theorem g_lcmp (h : Ok κ own cc d) {a b : Int} (dd : decode cc pc = .ok (.lcmp, 1)) (k : G κ w sz kc ks L (pc + 1) (vI (zcmp a b) :: st)) (ha : -9223372036854775808 ≤ a ∧ a ≤ 9223372036854775807) (hb : -9223372036854775808 ≤ b ∧ b ≤ 9223372036854775807) : G κ w sz kc ks L pc (vL b :: vL a :: st) := by
  intro H locs ls cells slots hz hH hA hS hl hc hs
  have e : lg_cmp (Int64.ofInt a) (Int64.ofInt b) = Int32.ofInt (zcmp a b) := by
    unfold lg_cmp zcmp
    by_cases h1 : b < a
    · rw [if_pos ((i64_lt hb ha).mpr h1), if_neg (by omega), if_neg (by omega)]; decide
    · rw [if_neg (fun q => h1 ((i64_lt hb ha).mp q))]
      by_cases h2 : a = b
      · rw [if_pos ((i64_eq ha hb).mpr h2), if_neg (by omega), if_pos h2]; decide
      · rw [if_neg (fun q => h2 ((i64_eq ha hb).mp q)), if_pos (by omega)]; decide
  refine W.lcmp h.hx h.hb dd ?_
  rw [e]
  exact k H locs ls cells slots hz hH hA hS hl hc hs
theorem g_tableOut (h : Ok κ own cc d) {a dflt lo hi : Int} {offs : Array Int} {len tgt : Nat} (dd : decode cc pc = .ok (.tableswitch dflt lo hi offs, len)) (hq : a < lo ∨ hi < a) (ht : (pc : Int) + dflt = (tgt : Int)) (k : G κ w sz kc ks L tgt st) (ha : -2147483648 ≤ a ∧ a ≤ 2147483647 := by omega) : G κ w sz kc ks L pc (vI a :: st) := by
  intro H locs ls cells slots hz hH hA hS hl hc hs
  exact lv_tableOut h.hx h.hb dd (by rw [i32_ti ha]; exact hq) ht (k H locs ls cells slots hz hH hA hS hl hc hs)
theorem g_tableIn (h : Ok κ own cc d) {a dflt lo hi off : Int} {offs : Array Int} {len tgt : Nat} (dd : decode cc pc = .ok (.tableswitch dflt lo hi offs, len)) (h1 : ¬ a < lo) (h2 : ¬ hi < a) (ho : offs[(a - lo).toNat]? = some off) (ht : (pc : Int) + off = (tgt : Int)) (k : G κ w sz kc ks L tgt st) (ha : -2147483648 ≤ a ∧ a ≤ 2147483647 := by omega) : G κ w sz kc ks L pc (vI a :: st) := by
  intro H locs ls cells slots hz hH hA hS hl hc hs
  exact lv_tableIn h.hx h.hb dd (by rw [i32_ti ha]; exact h1) (by rw [i32_ti ha]; exact h2) (by rw [i32_ti ha]; exact ho) ht (k H locs ls cells slots hz hH hA hS hl hc hs)
theorem g_lookup (h : Ok κ own cc d) {a dflt off : Int} {ps : Array (Int × Int)} {len tgt : Nat} (dd : decode cc pc = .ok (.lookupswitch dflt ps, len)) (hp : (ps.toList.zip (ps.toList.drop 1)).all (fun (a, next) => a.1 < next.1) = true) (ho : Op.lookupswitch.offset ps.toList dflt a = off) (ht : (pc : Int) + off = (tgt : Int)) (k : G κ w sz kc ks L tgt st) (ha : -2147483648 ≤ a ∧ a ≤ 2147483647 := by omega) : G κ w sz kc ks L pc (vI a :: st) := by
  intro H locs ls cells slots hz hH hA hS hl hc hs
  exact lv_lookup h.hx h.hb dd hp (by rw [i32_ti ha]; exact ho) ht (k H locs ls cells slots hz hH hA hS hl hc hs)
end GR
