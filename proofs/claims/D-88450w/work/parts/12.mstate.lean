/-! ===== the reference's state: one object (number 1 of CL) with its int fields and its arrays at the addresses behind it ===== -/
set_option maxRecDepth 100000
abbrev MS : Type := (Nat → Int) × (Nat → Int → Int)
def NA : Nat := 38
def aM : Nat → Option Nat := fun k => match k with
  | 0 => some 0
  | 1 => some 1
  | 2 => some 2
  | 3 => some 3
  | 4 => some 4
  | 8 => some 5
  | 9 => some 6
  | 13 => some 7
  | 14 => some 8
  | 18 => some 9
  | 19 => some 10
  | 20 => some 11
  | 21 => some 12
  | 22 => some 13
  | 24 => some 14
  | 25 => some 15
  | 26 => some 16
  | 27 => some 17
  | 30 => some 18
  | 31 => some 19
  | 32 => some 20
  | 35 => some 21
  | 39 => some 22
  | 40 => some 23
  | 41 => some 24
  | 43 => some 25
  | 46 => some 26
  | 49 => some 27
  | 50 => some 28
  | 55 => some 29
  | 56 => some 30
  | 57 => some 31
  | 58 => some 32
  | 59 => some 33
  | 60 => some 34
  | 61 => some 35
  | 62 => some 36
  | 63 => some 37
  | _ => none
def kM : Nat → Nat := fun j => match j with
  | 0 => 0
  | 1 => 1
  | 2 => 2
  | 3 => 3
  | 4 => 4
  | 5 => 8
  | 6 => 9
  | 7 => 13
  | 8 => 14
  | 9 => 18
  | 10 => 19
  | 11 => 20
  | 12 => 21
  | 13 => 22
  | 14 => 24
  | 15 => 25
  | 16 => 26
  | 17 => 27
  | 18 => 30
  | 19 => 31
  | 20 => 32
  | 21 => 35
  | 22 => 39
  | 23 => 40
  | 24 => 41
  | 25 => 43
  | 26 => 46
  | 27 => 49
  | 28 => 50
  | 29 => 55
  | 30 => 56
  | 31 => 57
  | 32 => 58
  | 33 => 59
  | 34 => 60
  | 35 => 61
  | 36 => 62
  | _ => 63
def nM : Nat → Nat := fun k => match k with
  | 0 => 8
  | 1 => 48
  | 2 => 48
  | 3 => 6
  | 4 => 6
  | 8 => 5
  | 9 => 5
  | 13 => 5
  | 14 => 5
  | 18 => 20
  | 19 => 12000
  | 20 => 12000
  | 21 => 12000
  | 22 => 12000
  | 24 => 1000
  | 25 => 1000
  | 26 => 1000
  | 27 => 800
  | 30 => 32
  | 31 => 32
  | 32 => 32
  | 35 => 10
  | 39 => 64
  | 40 => 64
  | 41 => 64
  | 43 => 8000
  | 46 => 10
  | 49 => 12
  | 50 => 72
  | 55 => 72
  | 56 => 72
  | 57 => 72
  | 58 => 72
  | 59 => 72
  | 60 => 72
  | 61 => 72
  | 62 => 72
  | 63 => 72
  | _ => 0
def tM : Nat → Nat := fun k => match k with
  | 19 => 1
  | 21 => 1
  | 24 => 1
  | 26 => 1
  | 27 => 1
  | 43 => 1
  | 60 => 3
  | 61 => 3
  | 62 => 3
  | 63 => 3
  | _ => 0
def fM (o : Nat) (σ : MS) : Nat → V := fun k => match aM k with
  | some j => .inr (.inr (some (o + 1 + j)))
  | none => .inl (σ.1 k)
def cM (σ : MS) (k : Nat) : Int → V := fun i => if tM k = 3 then .inr (.inl (σ.2 k i)) else .inl (σ.2 k i)
def mw (w0 : Hp) (o : Nat) (σ : MS) : Hp := fun a => if a = o then some (.inr (1, fM o σ)) else if o < a ∧ a < o + 1 + NA then some (.inl (tM (kM (a - o - 1)), nM (kM (a - o - 1)), cM σ (kM (a - o - 1)))) else w0 a
def sF (σ : MS) (k : Nat) (z : Int) : MS := (fun j => if j = k then z else σ.1 j, σ.2)
def sA (σ : MS) (k : Nat) (i x : Int) : MS := (σ.1, fun j q => if j = k then (if q = i then x else σ.2 k q) else σ.2 j q)
def sAr (σ : MS) (k : Nat) (g : Int → Int) : MS := (σ.1, fun j q => if j = k then g q else σ.2 j q)
theorem MS.ext {σ τ : MS} (h1 : ∀ k, σ.1 k = τ.1 k) (h2 : ∀ k i, σ.2 k i = τ.2 k i) : σ = τ := Prod.ext (funext h1) (funext fun k => funext fun i => h2 k i)
theorem sF_1 {σ : MS} {k j : Nat} {z : Int} : (sF σ k z).1 j = if j = k then z else σ.1 j := nrfl rfl
theorem sF_2 {σ : MS} {k : Nat} {z : Int} : (sF σ k z).2 = σ.2 := nrfl rfl
theorem sA_1 {σ : MS} {k : Nat} {i x : Int} : (sA σ k i x).1 = σ.1 := nrfl rfl
theorem sA_2 {σ : MS} {k j : Nat} {i x q : Int} : (sA σ k i x).2 j q = if j = k then (if q = i then x else σ.2 k q) else σ.2 j q := nrfl rfl
theorem sAr_1 {σ : MS} {k : Nat} {g : Int → Int} : (sAr σ k g).1 = σ.1 := nrfl rfl
theorem sAr_2 {σ : MS} {k j : Nat} {g : Int → Int} {q : Int} : (sAr σ k g).2 j q = if j = k then g q else σ.2 j q := nrfl rfl
theorem mw_o {w0 : Hp} {o : Nat} {σ : MS} : mw w0 o σ o = some (.inr (1, fM o σ)) := if_pos rfl
/-- array j of the object is field k, of length n and kind t -/
def MA (j k n t : Nat) : Prop := j < NA ∧ kM j = k ∧ nM k = n ∧ tM k = t ∧ (∀ i, i < NA → kM i = k → i = j)
theorem mw_a {w0 : Hp} {o : Nat} {σ : MS} {j k n t : Nat} (h : MA j k n t) : mw w0 o σ (o + 1 + j) = some (.inl (t, n, cM σ k)) := by
  obtain ⟨h1, h2, h3, h4, -⟩ := h
  unfold mw
  rw [if_neg (by omega), if_pos (by omega), show o + 1 + j - o - 1 = j by omega, h2, h3, h4]
theorem mw_sF {w0 : Hp} {o : Nat} {σ : MS} {k : Nat} {z : Int} (ha : aM k = none) : wup (mw w0 o σ) o (.inr (1, fup (fM o σ) k (.inl z))) = mw w0 o (sF σ k z) := by
  funext a
  unfold wup mw
  by_cases h : a = o
  · rw [if_pos h, if_pos h]
    congr 3
    funext j
    unfold fup fM sF
    by_cases hj : j = k
    · subst hj
      rw [if_pos rfl, ha]
      simp
    · rw [if_neg hj]
      simp only [if_neg hj]
  · simp only [if_neg h]
    rfl
theorem mw_sA {w0 : Hp} {o : Nat} {σ : MS} {j k n t : Nat} {i x : Int} (h : MA j k n t) : wup (mw w0 o σ) (o + 1 + j) (.inl (t, n, iup (cM σ k) i (if t = 3 then .inr (.inl x) else .inl x))) = mw w0 o (sA σ k i x) := by
  have hm := h
  obtain ⟨h1, h2, h3, h4, h5⟩ := h
  funext a
  by_cases h : a = o + 1 + j
  · subst h
    rw [wup_s, mw_a hm]
    congr 4
    funext q
    unfold iup cM sA
    rw [h4]
    by_cases hq : q = i
    · simp [hq]
    · simp [hq]
  · rw [wup_n h]
    unfold mw
    by_cases ho : a = o
    · simp only [if_pos ho]
      rfl
    · simp only [if_neg ho]
      by_cases hr : o < a ∧ a < o + 1 + NA
      · simp only [if_pos hr]
        have hne : kM (a - o - 1) ≠ k := fun q => h (by have := h5 (a - o - 1) (by omega) q; omega)
        congr 4
        funext q
        unfold cM sA
        simp [hne]
      · simp only [if_neg hr]
theorem ma0 : MA 0 0 8 0 := ⟨by decide, rfl, rfl, rfl, by decide⟩
theorem ma1 : MA 1 1 48 0 := ⟨by decide, rfl, rfl, rfl, by decide⟩
theorem ma2 : MA 2 2 48 0 := ⟨by decide, rfl, rfl, rfl, by decide⟩
theorem ma3 : MA 3 3 6 0 := ⟨by decide, rfl, rfl, rfl, by decide⟩
theorem ma4 : MA 4 4 6 0 := ⟨by decide, rfl, rfl, rfl, by decide⟩
theorem ma8 : MA 5 8 5 0 := ⟨by decide, rfl, rfl, rfl, by decide⟩
theorem ma9 : MA 6 9 5 0 := ⟨by decide, rfl, rfl, rfl, by decide⟩
theorem ma13 : MA 7 13 5 0 := ⟨by decide, rfl, rfl, rfl, by decide⟩
theorem ma14 : MA 8 14 5 0 := ⟨by decide, rfl, rfl, rfl, by decide⟩
theorem ma18 : MA 9 18 20 0 := ⟨by decide, rfl, rfl, rfl, by decide⟩
theorem ma19 : MA 10 19 12000 1 := ⟨by decide, rfl, rfl, rfl, by decide⟩
theorem ma20 : MA 11 20 12000 0 := ⟨by decide, rfl, rfl, rfl, by decide⟩
theorem ma21 : MA 12 21 12000 1 := ⟨by decide, rfl, rfl, rfl, by decide⟩
theorem ma22 : MA 13 22 12000 0 := ⟨by decide, rfl, rfl, rfl, by decide⟩
theorem ma24 : MA 14 24 1000 1 := ⟨by decide, rfl, rfl, rfl, by decide⟩
theorem ma25 : MA 15 25 1000 0 := ⟨by decide, rfl, rfl, rfl, by decide⟩
theorem ma26 : MA 16 26 1000 1 := ⟨by decide, rfl, rfl, rfl, by decide⟩
theorem ma27 : MA 17 27 800 1 := ⟨by decide, rfl, rfl, rfl, by decide⟩
theorem ma30 : MA 18 30 32 0 := ⟨by decide, rfl, rfl, rfl, by decide⟩
theorem ma31 : MA 19 31 32 0 := ⟨by decide, rfl, rfl, rfl, by decide⟩
theorem ma32 : MA 20 32 32 0 := ⟨by decide, rfl, rfl, rfl, by decide⟩
theorem ma35 : MA 21 35 10 0 := ⟨by decide, rfl, rfl, rfl, by decide⟩
theorem ma39 : MA 22 39 64 0 := ⟨by decide, rfl, rfl, rfl, by decide⟩
theorem ma40 : MA 23 40 64 0 := ⟨by decide, rfl, rfl, rfl, by decide⟩
theorem ma41 : MA 24 41 64 0 := ⟨by decide, rfl, rfl, rfl, by decide⟩
theorem ma43 : MA 25 43 8000 1 := ⟨by decide, rfl, rfl, rfl, by decide⟩
theorem ma46 : MA 26 46 10 0 := ⟨by decide, rfl, rfl, rfl, by decide⟩
theorem ma49 : MA 27 49 12 0 := ⟨by decide, rfl, rfl, rfl, by decide⟩
theorem ma50 : MA 28 50 72 0 := ⟨by decide, rfl, rfl, rfl, by decide⟩
theorem ma55 : MA 29 55 72 0 := ⟨by decide, rfl, rfl, rfl, by decide⟩
theorem ma56 : MA 30 56 72 0 := ⟨by decide, rfl, rfl, rfl, by decide⟩
theorem ma57 : MA 31 57 72 0 := ⟨by decide, rfl, rfl, rfl, by decide⟩
theorem ma58 : MA 32 58 72 0 := ⟨by decide, rfl, rfl, rfl, by decide⟩
theorem ma59 : MA 33 59 72 0 := ⟨by decide, rfl, rfl, rfl, by decide⟩
theorem ma60 : MA 34 60 72 3 := ⟨by decide, rfl, rfl, rfl, by decide⟩
theorem ma61 : MA 35 61 72 3 := ⟨by decide, rfl, rfl, rfl, by decide⟩
theorem ma62 : MA 36 62 72 3 := ⟨by decide, rfl, rfl, rfl, by decide⟩
theorem ma63 : MA 37 63 72 3 := ⟨by decide, rfl, rfl, rfl, by decide⟩
section GM
variable {θ : Ix} {p q : Nat} {w0 : Hp} {o : Nat} {σ : MS} {z : Nat × Nat} {L : Lc} {st : Stk}
theorem m_get {idx k : Nat} {F : ∀ c ∈ [(1, k)], FL θ.y.cls idx c.1 c.2} {dd : decode θ.cc p = .ok (.getfield idx, 3)} {bb : Seg θ (p + 3) q} : (seq (p_get [(1, k)] F dd) bb).1 (.inr (.inr (some o)) :: st) L (mw w0 o σ, z) = bb.1 (fM o σ k :: st) L (mw w0 o σ, z) := x_get mw_o rfl
theorem m_puti {idx k : Nat} {F : ∀ c ∈ [(1, k)], FP θ.y.cls idx c.1 c.2 .int} {dd : decode θ.cc p = .ok (.putfield idx, 3)} {bb : Seg θ (p + 3) q} {x : Int} (ha : aM k = none) : (seq (p_put [(1, k)] .int F dd) bb).1 (.inl x :: .inr (.inr (some o)) :: st) L (mw w0 o σ, z) = bb.1 st L (mw w0 o (sF σ k x), z) := by
  rw [x_put (f := fM o σ) (c := 1) (k := k) mw_o rfl rfl]
  show bb.1 st L (wup (mw w0 o σ) o (.inr (1, fup (fM o σ) k (.inl x))), z) = _
  rw [mw_sF ha]
theorem m_putz {idx k : Nat} {F : ∀ c ∈ [(1, k)], FP θ.y.cls idx c.1 c.2 .boolean} {dd : decode θ.cc p = .ok (.putfield idx, 3)} {bb : Seg θ (p + 3) q} {x : Int} (ha : aM k = none) (hx : x = 0 ∨ x = 1) : (seq (p_put [(1, k)] .boolean F dd) bb).1 (.inl x :: .inr (.inr (some o)) :: st) L (mw w0 o σ, z) = bb.1 st L (mw w0 o (sF σ k x), z) := by
  rw [x_put (f := fM o σ) (c := 1) (k := k) mw_o rfl (by simp only [okVb, hx, decide_true])]
  show bb.1 st L (wup (mw w0 o σ) o (.inr (1, fup (fM o σ) k (.inl x))), z) = _
  rw [mw_sF ha]
theorem m_call0 {C : String} {idx : Nat} {y : MethodName} {b : ByteArray} {n d' : Nat} {retC : Option FieldType} {cv : CV θ.y.cls idx C y b n retC 0} {hC : cR 1 = some C} {M : Mth θ.l θ.δ y b n retC d'} {hd : d' < θ.d} {dd : decode θ.cc p = .ok (.invokevirtual idx, 3)} {bb : Seg θ (p + 3) q} (h3 : Nat.ble (wt st) 8 = true) : (seq (p_callV 1 cv hC M hd dd) bb).1 (.inr (.inr (some o)) :: st) L (mw w0 o σ, z) = bd (mres (M.1 [.inr (.inr (some o))] (mw w0 o σ, z)) st L) bb.1 := x_callV mw_o rfl rfl h3 rfl
theorem z_call0 {idx : Nat} {y : MethodName} {b : ByteArray} {n d' : Nat} {retC : Option FieldType} {cv : CS θ.y.cls idx y b n retC 0} {M : Mth θ.l θ.δ y b n retC d'} {hd : d' < θ.d} {dd : decode θ.cc p = .ok (.invokestatic idx, 3)} {bb : Seg θ (p + 3) q} {s : St} (h3 : Nat.ble (wt st) 8 = true) : (seq (p_callS cv M hd dd) bb).1 (st) L s = bd (mres (M.1 [] s) st L) bb.1 := x_callS rfl rfl h3 rfl
theorem m_call1 {C : String} {idx : Nat} {y : MethodName} {b : ByteArray} {n d' : Nat} {retC : Option FieldType} {cv : CV θ.y.cls idx C y b n retC 1} {hC : cR 1 = some C} {M : Mth θ.l θ.δ y b n retC d'} {hd : d' < θ.d} {dd : decode θ.cc p = .ok (.invokevirtual idx, 3)} {bb : Seg θ (p + 3) q} {a1 : V} (h3 : Nat.ble (wt st) 8 = true) : (seq (p_callV 1 cv hC M hd dd) bb).1 (a1 :: .inr (.inr (some o)) :: st) L (mw w0 o σ, z) = bd (mres (M.1 [.inr (.inr (some o)), a1] (mw w0 o σ, z)) st L) bb.1 := x_callV mw_o rfl rfl h3 rfl
theorem z_call1 {idx : Nat} {y : MethodName} {b : ByteArray} {n d' : Nat} {retC : Option FieldType} {cv : CS θ.y.cls idx y b n retC 1} {M : Mth θ.l θ.δ y b n retC d'} {hd : d' < θ.d} {dd : decode θ.cc p = .ok (.invokestatic idx, 3)} {bb : Seg θ (p + 3) q} {s : St} {a1 : V} (h3 : Nat.ble (wt st) 8 = true) : (seq (p_callS cv M hd dd) bb).1 (a1 :: st) L s = bd (mres (M.1 [a1] s) st L) bb.1 := x_callS rfl rfl h3 rfl
theorem m_call2 {C : String} {idx : Nat} {y : MethodName} {b : ByteArray} {n d' : Nat} {retC : Option FieldType} {cv : CV θ.y.cls idx C y b n retC 2} {hC : cR 1 = some C} {M : Mth θ.l θ.δ y b n retC d'} {hd : d' < θ.d} {dd : decode θ.cc p = .ok (.invokevirtual idx, 3)} {bb : Seg θ (p + 3) q} {a1 a2 : V} (h3 : Nat.ble (wt st) 8 = true) : (seq (p_callV 1 cv hC M hd dd) bb).1 (a2 :: a1 :: .inr (.inr (some o)) :: st) L (mw w0 o σ, z) = bd (mres (M.1 [.inr (.inr (some o)), a1, a2] (mw w0 o σ, z)) st L) bb.1 := x_callV mw_o rfl rfl h3 rfl
theorem z_call2 {idx : Nat} {y : MethodName} {b : ByteArray} {n d' : Nat} {retC : Option FieldType} {cv : CS θ.y.cls idx y b n retC 2} {M : Mth θ.l θ.δ y b n retC d'} {hd : d' < θ.d} {dd : decode θ.cc p = .ok (.invokestatic idx, 3)} {bb : Seg θ (p + 3) q} {s : St} {a1 a2 : V} (h3 : Nat.ble (wt st) 8 = true) : (seq (p_callS cv M hd dd) bb).1 (a2 :: a1 :: st) L s = bd (mres (M.1 [a1, a2] s) st L) bb.1 := x_callS rfl rfl h3 rfl
theorem m_call3 {C : String} {idx : Nat} {y : MethodName} {b : ByteArray} {n d' : Nat} {retC : Option FieldType} {cv : CV θ.y.cls idx C y b n retC 3} {hC : cR 1 = some C} {M : Mth θ.l θ.δ y b n retC d'} {hd : d' < θ.d} {dd : decode θ.cc p = .ok (.invokevirtual idx, 3)} {bb : Seg θ (p + 3) q} {a1 a2 a3 : V} (h3 : Nat.ble (wt st) 8 = true) : (seq (p_callV 1 cv hC M hd dd) bb).1 (a3 :: a2 :: a1 :: .inr (.inr (some o)) :: st) L (mw w0 o σ, z) = bd (mres (M.1 [.inr (.inr (some o)), a1, a2, a3] (mw w0 o σ, z)) st L) bb.1 := x_callV mw_o rfl rfl h3 rfl
theorem z_call3 {idx : Nat} {y : MethodName} {b : ByteArray} {n d' : Nat} {retC : Option FieldType} {cv : CS θ.y.cls idx y b n retC 3} {M : Mth θ.l θ.δ y b n retC d'} {hd : d' < θ.d} {dd : decode θ.cc p = .ok (.invokestatic idx, 3)} {bb : Seg θ (p + 3) q} {s : St} {a1 a2 a3 : V} (h3 : Nat.ble (wt st) 8 = true) : (seq (p_callS cv M hd dd) bb).1 (a3 :: a2 :: a1 :: st) L s = bd (mres (M.1 [a1, a2, a3] s) st L) bb.1 := x_callS rfl rfl h3 rfl
theorem m_call4 {C : String} {idx : Nat} {y : MethodName} {b : ByteArray} {n d' : Nat} {retC : Option FieldType} {cv : CV θ.y.cls idx C y b n retC 4} {hC : cR 1 = some C} {M : Mth θ.l θ.δ y b n retC d'} {hd : d' < θ.d} {dd : decode θ.cc p = .ok (.invokevirtual idx, 3)} {bb : Seg θ (p + 3) q} {a1 a2 a3 a4 : V} (h3 : Nat.ble (wt st) 8 = true) : (seq (p_callV 1 cv hC M hd dd) bb).1 (a4 :: a3 :: a2 :: a1 :: .inr (.inr (some o)) :: st) L (mw w0 o σ, z) = bd (mres (M.1 [.inr (.inr (some o)), a1, a2, a3, a4] (mw w0 o σ, z)) st L) bb.1 := x_callV mw_o rfl rfl h3 rfl
theorem z_call4 {idx : Nat} {y : MethodName} {b : ByteArray} {n d' : Nat} {retC : Option FieldType} {cv : CS θ.y.cls idx y b n retC 4} {M : Mth θ.l θ.δ y b n retC d'} {hd : d' < θ.d} {dd : decode θ.cc p = .ok (.invokestatic idx, 3)} {bb : Seg θ (p + 3) q} {s : St} {a1 a2 a3 a4 : V} (h3 : Nat.ble (wt st) 8 = true) : (seq (p_callS cv M hd dd) bb).1 (a4 :: a3 :: a2 :: a1 :: st) L s = bd (mres (M.1 [a1, a2, a3, a4] s) st L) bb.1 := x_callS rfl rfl h3 rfl
theorem m_call5 {C : String} {idx : Nat} {y : MethodName} {b : ByteArray} {n d' : Nat} {retC : Option FieldType} {cv : CV θ.y.cls idx C y b n retC 5} {hC : cR 1 = some C} {M : Mth θ.l θ.δ y b n retC d'} {hd : d' < θ.d} {dd : decode θ.cc p = .ok (.invokevirtual idx, 3)} {bb : Seg θ (p + 3) q} {a1 a2 a3 a4 a5 : V} (h3 : Nat.ble (wt st) 8 = true) : (seq (p_callV 1 cv hC M hd dd) bb).1 (a5 :: a4 :: a3 :: a2 :: a1 :: .inr (.inr (some o)) :: st) L (mw w0 o σ, z) = bd (mres (M.1 [.inr (.inr (some o)), a1, a2, a3, a4, a5] (mw w0 o σ, z)) st L) bb.1 := x_callV mw_o rfl rfl h3 rfl
theorem z_call5 {idx : Nat} {y : MethodName} {b : ByteArray} {n d' : Nat} {retC : Option FieldType} {cv : CS θ.y.cls idx y b n retC 5} {M : Mth θ.l θ.δ y b n retC d'} {hd : d' < θ.d} {dd : decode θ.cc p = .ok (.invokestatic idx, 3)} {bb : Seg θ (p + 3) q} {s : St} {a1 a2 a3 a4 a5 : V} (h3 : Nat.ble (wt st) 8 = true) : (seq (p_callS cv M hd dd) bb).1 (a5 :: a4 :: a3 :: a2 :: a1 :: st) L s = bd (mres (M.1 [a1, a2, a3, a4, a5] s) st L) bb.1 := x_callS rfl rfl h3 rfl
theorem m_ld0 {dd : decode θ.cc p = .ok (.iaload, 1)} {bb : Seg θ (p + 1) q} {i : Int} (hi : 0 ≤ i ∧ i < 8) : (seq (p_iald dd) bb).1 (.inl i :: .inr (.inr (some (o + 1 + 0))) :: st) L (mw w0 o σ, z) = bb.1 (.inl (σ.2 0 i) :: st) L (mw w0 o σ, z) := x_iald (f := cM σ 0) (mw_a ma0) hi (by decide)
theorem m_st0 {dd : decode θ.cc p = .ok (.iastore, 1)} {bb : Seg θ (p + 1) q} {i x : Int} (hi : 0 ≤ i ∧ i < 8) : (seq (p_iast dd) bb).1 (.inl (x) :: .inl i :: .inr (.inr (some (o + 1 + 0))) :: st) L (mw w0 o σ, z) = bb.1 st L (mw w0 o (sA σ 0 i x), z) := by
  rw [x_iast (f := cM σ 0) (mw_a ma0) hi (by decide)]
  exact congrArg (fun y => bb.1 st L (y, z)) (mw_sA ma0)
theorem m_ld1 {dd : decode θ.cc p = .ok (.iaload, 1)} {bb : Seg θ (p + 1) q} {i : Int} (hi : 0 ≤ i ∧ i < 48) : (seq (p_iald dd) bb).1 (.inl i :: .inr (.inr (some (o + 1 + 1))) :: st) L (mw w0 o σ, z) = bb.1 (.inl (σ.2 1 i) :: st) L (mw w0 o σ, z) := x_iald (f := cM σ 1) (mw_a ma1) hi (by decide)
theorem m_st1 {dd : decode θ.cc p = .ok (.iastore, 1)} {bb : Seg θ (p + 1) q} {i x : Int} (hi : 0 ≤ i ∧ i < 48) : (seq (p_iast dd) bb).1 (.inl (x) :: .inl i :: .inr (.inr (some (o + 1 + 1))) :: st) L (mw w0 o σ, z) = bb.1 st L (mw w0 o (sA σ 1 i x), z) := by
  rw [x_iast (f := cM σ 1) (mw_a ma1) hi (by decide)]
  exact congrArg (fun y => bb.1 st L (y, z)) (mw_sA ma1)
theorem m_ld2 {dd : decode θ.cc p = .ok (.iaload, 1)} {bb : Seg θ (p + 1) q} {i : Int} (hi : 0 ≤ i ∧ i < 48) : (seq (p_iald dd) bb).1 (.inl i :: .inr (.inr (some (o + 1 + 2))) :: st) L (mw w0 o σ, z) = bb.1 (.inl (σ.2 2 i) :: st) L (mw w0 o σ, z) := x_iald (f := cM σ 2) (mw_a ma2) hi (by decide)
theorem m_st2 {dd : decode θ.cc p = .ok (.iastore, 1)} {bb : Seg θ (p + 1) q} {i x : Int} (hi : 0 ≤ i ∧ i < 48) : (seq (p_iast dd) bb).1 (.inl (x) :: .inl i :: .inr (.inr (some (o + 1 + 2))) :: st) L (mw w0 o σ, z) = bb.1 st L (mw w0 o (sA σ 2 i x), z) := by
  rw [x_iast (f := cM σ 2) (mw_a ma2) hi (by decide)]
  exact congrArg (fun y => bb.1 st L (y, z)) (mw_sA ma2)
theorem m_ld3 {dd : decode θ.cc p = .ok (.iaload, 1)} {bb : Seg θ (p + 1) q} {i : Int} (hi : 0 ≤ i ∧ i < 6) : (seq (p_iald dd) bb).1 (.inl i :: .inr (.inr (some (o + 1 + 3))) :: st) L (mw w0 o σ, z) = bb.1 (.inl (σ.2 3 i) :: st) L (mw w0 o σ, z) := x_iald (f := cM σ 3) (mw_a ma3) hi (by decide)
theorem m_st3 {dd : decode θ.cc p = .ok (.iastore, 1)} {bb : Seg θ (p + 1) q} {i x : Int} (hi : 0 ≤ i ∧ i < 6) : (seq (p_iast dd) bb).1 (.inl (x) :: .inl i :: .inr (.inr (some (o + 1 + 3))) :: st) L (mw w0 o σ, z) = bb.1 st L (mw w0 o (sA σ 3 i x), z) := by
  rw [x_iast (f := cM σ 3) (mw_a ma3) hi (by decide)]
  exact congrArg (fun y => bb.1 st L (y, z)) (mw_sA ma3)
theorem m_ld4 {dd : decode θ.cc p = .ok (.iaload, 1)} {bb : Seg θ (p + 1) q} {i : Int} (hi : 0 ≤ i ∧ i < 6) : (seq (p_iald dd) bb).1 (.inl i :: .inr (.inr (some (o + 1 + 4))) :: st) L (mw w0 o σ, z) = bb.1 (.inl (σ.2 4 i) :: st) L (mw w0 o σ, z) := x_iald (f := cM σ 4) (mw_a ma4) hi (by decide)
theorem m_st4 {dd : decode θ.cc p = .ok (.iastore, 1)} {bb : Seg θ (p + 1) q} {i x : Int} (hi : 0 ≤ i ∧ i < 6) : (seq (p_iast dd) bb).1 (.inl (x) :: .inl i :: .inr (.inr (some (o + 1 + 4))) :: st) L (mw w0 o σ, z) = bb.1 st L (mw w0 o (sA σ 4 i x), z) := by
  rw [x_iast (f := cM σ 4) (mw_a ma4) hi (by decide)]
  exact congrArg (fun y => bb.1 st L (y, z)) (mw_sA ma4)
theorem m_ld8 {dd : decode θ.cc p = .ok (.iaload, 1)} {bb : Seg θ (p + 1) q} {i : Int} (hi : 0 ≤ i ∧ i < 5) : (seq (p_iald dd) bb).1 (.inl i :: .inr (.inr (some (o + 1 + 5))) :: st) L (mw w0 o σ, z) = bb.1 (.inl (σ.2 8 i) :: st) L (mw w0 o σ, z) := x_iald (f := cM σ 8) (mw_a ma8) hi (by decide)
theorem m_st8 {dd : decode θ.cc p = .ok (.iastore, 1)} {bb : Seg θ (p + 1) q} {i x : Int} (hi : 0 ≤ i ∧ i < 5) : (seq (p_iast dd) bb).1 (.inl (x) :: .inl i :: .inr (.inr (some (o + 1 + 5))) :: st) L (mw w0 o σ, z) = bb.1 st L (mw w0 o (sA σ 8 i x), z) := by
  rw [x_iast (f := cM σ 8) (mw_a ma8) hi (by decide)]
  exact congrArg (fun y => bb.1 st L (y, z)) (mw_sA ma8)
theorem m_ld9 {dd : decode θ.cc p = .ok (.iaload, 1)} {bb : Seg θ (p + 1) q} {i : Int} (hi : 0 ≤ i ∧ i < 5) : (seq (p_iald dd) bb).1 (.inl i :: .inr (.inr (some (o + 1 + 6))) :: st) L (mw w0 o σ, z) = bb.1 (.inl (σ.2 9 i) :: st) L (mw w0 o σ, z) := x_iald (f := cM σ 9) (mw_a ma9) hi (by decide)
theorem m_st9 {dd : decode θ.cc p = .ok (.iastore, 1)} {bb : Seg θ (p + 1) q} {i x : Int} (hi : 0 ≤ i ∧ i < 5) : (seq (p_iast dd) bb).1 (.inl (x) :: .inl i :: .inr (.inr (some (o + 1 + 6))) :: st) L (mw w0 o σ, z) = bb.1 st L (mw w0 o (sA σ 9 i x), z) := by
  rw [x_iast (f := cM σ 9) (mw_a ma9) hi (by decide)]
  exact congrArg (fun y => bb.1 st L (y, z)) (mw_sA ma9)
theorem m_ld13 {dd : decode θ.cc p = .ok (.iaload, 1)} {bb : Seg θ (p + 1) q} {i : Int} (hi : 0 ≤ i ∧ i < 5) : (seq (p_iald dd) bb).1 (.inl i :: .inr (.inr (some (o + 1 + 7))) :: st) L (mw w0 o σ, z) = bb.1 (.inl (σ.2 13 i) :: st) L (mw w0 o σ, z) := x_iald (f := cM σ 13) (mw_a ma13) hi (by decide)
theorem m_st13 {dd : decode θ.cc p = .ok (.iastore, 1)} {bb : Seg θ (p + 1) q} {i x : Int} (hi : 0 ≤ i ∧ i < 5) : (seq (p_iast dd) bb).1 (.inl (x) :: .inl i :: .inr (.inr (some (o + 1 + 7))) :: st) L (mw w0 o σ, z) = bb.1 st L (mw w0 o (sA σ 13 i x), z) := by
  rw [x_iast (f := cM σ 13) (mw_a ma13) hi (by decide)]
  exact congrArg (fun y => bb.1 st L (y, z)) (mw_sA ma13)
theorem m_ld14 {dd : decode θ.cc p = .ok (.iaload, 1)} {bb : Seg θ (p + 1) q} {i : Int} (hi : 0 ≤ i ∧ i < 5) : (seq (p_iald dd) bb).1 (.inl i :: .inr (.inr (some (o + 1 + 8))) :: st) L (mw w0 o σ, z) = bb.1 (.inl (σ.2 14 i) :: st) L (mw w0 o σ, z) := x_iald (f := cM σ 14) (mw_a ma14) hi (by decide)
theorem m_st14 {dd : decode θ.cc p = .ok (.iastore, 1)} {bb : Seg θ (p + 1) q} {i x : Int} (hi : 0 ≤ i ∧ i < 5) : (seq (p_iast dd) bb).1 (.inl (x) :: .inl i :: .inr (.inr (some (o + 1 + 8))) :: st) L (mw w0 o σ, z) = bb.1 st L (mw w0 o (sA σ 14 i x), z) := by
  rw [x_iast (f := cM σ 14) (mw_a ma14) hi (by decide)]
  exact congrArg (fun y => bb.1 st L (y, z)) (mw_sA ma14)
theorem m_ld18 {dd : decode θ.cc p = .ok (.iaload, 1)} {bb : Seg θ (p + 1) q} {i : Int} (hi : 0 ≤ i ∧ i < 20) : (seq (p_iald dd) bb).1 (.inl i :: .inr (.inr (some (o + 1 + 9))) :: st) L (mw w0 o σ, z) = bb.1 (.inl (σ.2 18 i) :: st) L (mw w0 o σ, z) := x_iald (f := cM σ 18) (mw_a ma18) hi (by decide)
theorem m_st18 {dd : decode θ.cc p = .ok (.iastore, 1)} {bb : Seg θ (p + 1) q} {i x : Int} (hi : 0 ≤ i ∧ i < 20) : (seq (p_iast dd) bb).1 (.inl (x) :: .inl i :: .inr (.inr (some (o + 1 + 9))) :: st) L (mw w0 o σ, z) = bb.1 st L (mw w0 o (sA σ 18 i x), z) := by
  rw [x_iast (f := cM σ 18) (mw_a ma18) hi (by decide)]
  exact congrArg (fun y => bb.1 st L (y, z)) (mw_sA ma18)
theorem m_ld19 {dd : decode θ.cc p = .ok (.baload, 1)} {bb : Seg θ (p + 1) q} {i : Int} (hi : 0 ≤ i ∧ i < 12000) : (seq (p_bald dd) bb).1 (.inl i :: .inr (.inr (some (o + 1 + 10))) :: st) L (mw w0 o σ, z) = bb.1 (.inl (σ.2 19 i) :: st) L (mw w0 o σ, z) := x_bald1 (f := cM σ 19) (mw_a ma19) hi (by decide)
theorem m_st19 {dd : decode θ.cc p = .ok (.bastore, 1)} {bb : Seg θ (p + 1) q} {i x : Int} (hi : 0 ≤ i ∧ i < 12000) (hx : -128 ≤ x ∧ x ≤ 127) : (seq (p_bast dd) bb).1 (.inl (x) :: .inl i :: .inr (.inr (some (o + 1 + 10))) :: st) L (mw w0 o σ, z) = bb.1 st L (mw w0 o (sA σ 19 i x), z) := by
  rw [x_bast (f := cM σ 19) (mw_a ma19) hi (by decide) hx]
  exact congrArg (fun y => bb.1 st L (y, z)) (mw_sA ma19)
theorem m_ld20 {dd : decode θ.cc p = .ok (.iaload, 1)} {bb : Seg θ (p + 1) q} {i : Int} (hi : 0 ≤ i ∧ i < 12000) : (seq (p_iald dd) bb).1 (.inl i :: .inr (.inr (some (o + 1 + 11))) :: st) L (mw w0 o σ, z) = bb.1 (.inl (σ.2 20 i) :: st) L (mw w0 o σ, z) := x_iald (f := cM σ 20) (mw_a ma20) hi (by decide)
theorem m_st20 {dd : decode θ.cc p = .ok (.iastore, 1)} {bb : Seg θ (p + 1) q} {i x : Int} (hi : 0 ≤ i ∧ i < 12000) : (seq (p_iast dd) bb).1 (.inl (x) :: .inl i :: .inr (.inr (some (o + 1 + 11))) :: st) L (mw w0 o σ, z) = bb.1 st L (mw w0 o (sA σ 20 i x), z) := by
  rw [x_iast (f := cM σ 20) (mw_a ma20) hi (by decide)]
  exact congrArg (fun y => bb.1 st L (y, z)) (mw_sA ma20)
theorem m_ld21 {dd : decode θ.cc p = .ok (.baload, 1)} {bb : Seg θ (p + 1) q} {i : Int} (hi : 0 ≤ i ∧ i < 12000) : (seq (p_bald dd) bb).1 (.inl i :: .inr (.inr (some (o + 1 + 12))) :: st) L (mw w0 o σ, z) = bb.1 (.inl (σ.2 21 i) :: st) L (mw w0 o σ, z) := x_bald1 (f := cM σ 21) (mw_a ma21) hi (by decide)
theorem m_st21 {dd : decode θ.cc p = .ok (.bastore, 1)} {bb : Seg θ (p + 1) q} {i x : Int} (hi : 0 ≤ i ∧ i < 12000) (hx : -128 ≤ x ∧ x ≤ 127) : (seq (p_bast dd) bb).1 (.inl (x) :: .inl i :: .inr (.inr (some (o + 1 + 12))) :: st) L (mw w0 o σ, z) = bb.1 st L (mw w0 o (sA σ 21 i x), z) := by
  rw [x_bast (f := cM σ 21) (mw_a ma21) hi (by decide) hx]
  exact congrArg (fun y => bb.1 st L (y, z)) (mw_sA ma21)
theorem m_ld22 {dd : decode θ.cc p = .ok (.iaload, 1)} {bb : Seg θ (p + 1) q} {i : Int} (hi : 0 ≤ i ∧ i < 12000) : (seq (p_iald dd) bb).1 (.inl i :: .inr (.inr (some (o + 1 + 13))) :: st) L (mw w0 o σ, z) = bb.1 (.inl (σ.2 22 i) :: st) L (mw w0 o σ, z) := x_iald (f := cM σ 22) (mw_a ma22) hi (by decide)
theorem m_st22 {dd : decode θ.cc p = .ok (.iastore, 1)} {bb : Seg θ (p + 1) q} {i x : Int} (hi : 0 ≤ i ∧ i < 12000) : (seq (p_iast dd) bb).1 (.inl (x) :: .inl i :: .inr (.inr (some (o + 1 + 13))) :: st) L (mw w0 o σ, z) = bb.1 st L (mw w0 o (sA σ 22 i x), z) := by
  rw [x_iast (f := cM σ 22) (mw_a ma22) hi (by decide)]
  exact congrArg (fun y => bb.1 st L (y, z)) (mw_sA ma22)
theorem m_ld24 {dd : decode θ.cc p = .ok (.baload, 1)} {bb : Seg θ (p + 1) q} {i : Int} (hi : 0 ≤ i ∧ i < 1000) : (seq (p_bald dd) bb).1 (.inl i :: .inr (.inr (some (o + 1 + 14))) :: st) L (mw w0 o σ, z) = bb.1 (.inl (σ.2 24 i) :: st) L (mw w0 o σ, z) := x_bald1 (f := cM σ 24) (mw_a ma24) hi (by decide)
theorem m_st24 {dd : decode θ.cc p = .ok (.bastore, 1)} {bb : Seg θ (p + 1) q} {i x : Int} (hi : 0 ≤ i ∧ i < 1000) (hx : -128 ≤ x ∧ x ≤ 127) : (seq (p_bast dd) bb).1 (.inl (x) :: .inl i :: .inr (.inr (some (o + 1 + 14))) :: st) L (mw w0 o σ, z) = bb.1 st L (mw w0 o (sA σ 24 i x), z) := by
  rw [x_bast (f := cM σ 24) (mw_a ma24) hi (by decide) hx]
  exact congrArg (fun y => bb.1 st L (y, z)) (mw_sA ma24)
theorem m_ld25 {dd : decode θ.cc p = .ok (.iaload, 1)} {bb : Seg θ (p + 1) q} {i : Int} (hi : 0 ≤ i ∧ i < 1000) : (seq (p_iald dd) bb).1 (.inl i :: .inr (.inr (some (o + 1 + 15))) :: st) L (mw w0 o σ, z) = bb.1 (.inl (σ.2 25 i) :: st) L (mw w0 o σ, z) := x_iald (f := cM σ 25) (mw_a ma25) hi (by decide)
theorem m_st25 {dd : decode θ.cc p = .ok (.iastore, 1)} {bb : Seg θ (p + 1) q} {i x : Int} (hi : 0 ≤ i ∧ i < 1000) : (seq (p_iast dd) bb).1 (.inl (x) :: .inl i :: .inr (.inr (some (o + 1 + 15))) :: st) L (mw w0 o σ, z) = bb.1 st L (mw w0 o (sA σ 25 i x), z) := by
  rw [x_iast (f := cM σ 25) (mw_a ma25) hi (by decide)]
  exact congrArg (fun y => bb.1 st L (y, z)) (mw_sA ma25)
theorem m_ld26 {dd : decode θ.cc p = .ok (.baload, 1)} {bb : Seg θ (p + 1) q} {i : Int} (hi : 0 ≤ i ∧ i < 1000) : (seq (p_bald dd) bb).1 (.inl i :: .inr (.inr (some (o + 1 + 16))) :: st) L (mw w0 o σ, z) = bb.1 (.inl (σ.2 26 i) :: st) L (mw w0 o σ, z) := x_bald1 (f := cM σ 26) (mw_a ma26) hi (by decide)
theorem m_st26 {dd : decode θ.cc p = .ok (.bastore, 1)} {bb : Seg θ (p + 1) q} {i x : Int} (hi : 0 ≤ i ∧ i < 1000) (hx : -128 ≤ x ∧ x ≤ 127) : (seq (p_bast dd) bb).1 (.inl (x) :: .inl i :: .inr (.inr (some (o + 1 + 16))) :: st) L (mw w0 o σ, z) = bb.1 st L (mw w0 o (sA σ 26 i x), z) := by
  rw [x_bast (f := cM σ 26) (mw_a ma26) hi (by decide) hx]
  exact congrArg (fun y => bb.1 st L (y, z)) (mw_sA ma26)
theorem m_ld27 {dd : decode θ.cc p = .ok (.baload, 1)} {bb : Seg θ (p + 1) q} {i : Int} (hi : 0 ≤ i ∧ i < 800) : (seq (p_bald dd) bb).1 (.inl i :: .inr (.inr (some (o + 1 + 17))) :: st) L (mw w0 o σ, z) = bb.1 (.inl (σ.2 27 i) :: st) L (mw w0 o σ, z) := x_bald1 (f := cM σ 27) (mw_a ma27) hi (by decide)
theorem m_st27 {dd : decode θ.cc p = .ok (.bastore, 1)} {bb : Seg θ (p + 1) q} {i x : Int} (hi : 0 ≤ i ∧ i < 800) (hx : -128 ≤ x ∧ x ≤ 127) : (seq (p_bast dd) bb).1 (.inl (x) :: .inl i :: .inr (.inr (some (o + 1 + 17))) :: st) L (mw w0 o σ, z) = bb.1 st L (mw w0 o (sA σ 27 i x), z) := by
  rw [x_bast (f := cM σ 27) (mw_a ma27) hi (by decide) hx]
  exact congrArg (fun y => bb.1 st L (y, z)) (mw_sA ma27)
theorem m_ld30 {dd : decode θ.cc p = .ok (.iaload, 1)} {bb : Seg θ (p + 1) q} {i : Int} (hi : 0 ≤ i ∧ i < 32) : (seq (p_iald dd) bb).1 (.inl i :: .inr (.inr (some (o + 1 + 18))) :: st) L (mw w0 o σ, z) = bb.1 (.inl (σ.2 30 i) :: st) L (mw w0 o σ, z) := x_iald (f := cM σ 30) (mw_a ma30) hi (by decide)
theorem m_st30 {dd : decode θ.cc p = .ok (.iastore, 1)} {bb : Seg θ (p + 1) q} {i x : Int} (hi : 0 ≤ i ∧ i < 32) : (seq (p_iast dd) bb).1 (.inl (x) :: .inl i :: .inr (.inr (some (o + 1 + 18))) :: st) L (mw w0 o σ, z) = bb.1 st L (mw w0 o (sA σ 30 i x), z) := by
  rw [x_iast (f := cM σ 30) (mw_a ma30) hi (by decide)]
  exact congrArg (fun y => bb.1 st L (y, z)) (mw_sA ma30)
theorem m_ld31 {dd : decode θ.cc p = .ok (.iaload, 1)} {bb : Seg θ (p + 1) q} {i : Int} (hi : 0 ≤ i ∧ i < 32) : (seq (p_iald dd) bb).1 (.inl i :: .inr (.inr (some (o + 1 + 19))) :: st) L (mw w0 o σ, z) = bb.1 (.inl (σ.2 31 i) :: st) L (mw w0 o σ, z) := x_iald (f := cM σ 31) (mw_a ma31) hi (by decide)
theorem m_st31 {dd : decode θ.cc p = .ok (.iastore, 1)} {bb : Seg θ (p + 1) q} {i x : Int} (hi : 0 ≤ i ∧ i < 32) : (seq (p_iast dd) bb).1 (.inl (x) :: .inl i :: .inr (.inr (some (o + 1 + 19))) :: st) L (mw w0 o σ, z) = bb.1 st L (mw w0 o (sA σ 31 i x), z) := by
  rw [x_iast (f := cM σ 31) (mw_a ma31) hi (by decide)]
  exact congrArg (fun y => bb.1 st L (y, z)) (mw_sA ma31)
theorem m_ld32 {dd : decode θ.cc p = .ok (.iaload, 1)} {bb : Seg θ (p + 1) q} {i : Int} (hi : 0 ≤ i ∧ i < 32) : (seq (p_iald dd) bb).1 (.inl i :: .inr (.inr (some (o + 1 + 20))) :: st) L (mw w0 o σ, z) = bb.1 (.inl (σ.2 32 i) :: st) L (mw w0 o σ, z) := x_iald (f := cM σ 32) (mw_a ma32) hi (by decide)
theorem m_st32 {dd : decode θ.cc p = .ok (.iastore, 1)} {bb : Seg θ (p + 1) q} {i x : Int} (hi : 0 ≤ i ∧ i < 32) : (seq (p_iast dd) bb).1 (.inl (x) :: .inl i :: .inr (.inr (some (o + 1 + 20))) :: st) L (mw w0 o σ, z) = bb.1 st L (mw w0 o (sA σ 32 i x), z) := by
  rw [x_iast (f := cM σ 32) (mw_a ma32) hi (by decide)]
  exact congrArg (fun y => bb.1 st L (y, z)) (mw_sA ma32)
theorem m_ld35 {dd : decode θ.cc p = .ok (.iaload, 1)} {bb : Seg θ (p + 1) q} {i : Int} (hi : 0 ≤ i ∧ i < 10) : (seq (p_iald dd) bb).1 (.inl i :: .inr (.inr (some (o + 1 + 21))) :: st) L (mw w0 o σ, z) = bb.1 (.inl (σ.2 35 i) :: st) L (mw w0 o σ, z) := x_iald (f := cM σ 35) (mw_a ma35) hi (by decide)
theorem m_st35 {dd : decode θ.cc p = .ok (.iastore, 1)} {bb : Seg θ (p + 1) q} {i x : Int} (hi : 0 ≤ i ∧ i < 10) : (seq (p_iast dd) bb).1 (.inl (x) :: .inl i :: .inr (.inr (some (o + 1 + 21))) :: st) L (mw w0 o σ, z) = bb.1 st L (mw w0 o (sA σ 35 i x), z) := by
  rw [x_iast (f := cM σ 35) (mw_a ma35) hi (by decide)]
  exact congrArg (fun y => bb.1 st L (y, z)) (mw_sA ma35)
theorem m_ld39 {dd : decode θ.cc p = .ok (.iaload, 1)} {bb : Seg θ (p + 1) q} {i : Int} (hi : 0 ≤ i ∧ i < 64) : (seq (p_iald dd) bb).1 (.inl i :: .inr (.inr (some (o + 1 + 22))) :: st) L (mw w0 o σ, z) = bb.1 (.inl (σ.2 39 i) :: st) L (mw w0 o σ, z) := x_iald (f := cM σ 39) (mw_a ma39) hi (by decide)
theorem m_st39 {dd : decode θ.cc p = .ok (.iastore, 1)} {bb : Seg θ (p + 1) q} {i x : Int} (hi : 0 ≤ i ∧ i < 64) : (seq (p_iast dd) bb).1 (.inl (x) :: .inl i :: .inr (.inr (some (o + 1 + 22))) :: st) L (mw w0 o σ, z) = bb.1 st L (mw w0 o (sA σ 39 i x), z) := by
  rw [x_iast (f := cM σ 39) (mw_a ma39) hi (by decide)]
  exact congrArg (fun y => bb.1 st L (y, z)) (mw_sA ma39)
theorem m_ld40 {dd : decode θ.cc p = .ok (.iaload, 1)} {bb : Seg θ (p + 1) q} {i : Int} (hi : 0 ≤ i ∧ i < 64) : (seq (p_iald dd) bb).1 (.inl i :: .inr (.inr (some (o + 1 + 23))) :: st) L (mw w0 o σ, z) = bb.1 (.inl (σ.2 40 i) :: st) L (mw w0 o σ, z) := x_iald (f := cM σ 40) (mw_a ma40) hi (by decide)
theorem m_st40 {dd : decode θ.cc p = .ok (.iastore, 1)} {bb : Seg θ (p + 1) q} {i x : Int} (hi : 0 ≤ i ∧ i < 64) : (seq (p_iast dd) bb).1 (.inl (x) :: .inl i :: .inr (.inr (some (o + 1 + 23))) :: st) L (mw w0 o σ, z) = bb.1 st L (mw w0 o (sA σ 40 i x), z) := by
  rw [x_iast (f := cM σ 40) (mw_a ma40) hi (by decide)]
  exact congrArg (fun y => bb.1 st L (y, z)) (mw_sA ma40)
theorem m_ld41 {dd : decode θ.cc p = .ok (.iaload, 1)} {bb : Seg θ (p + 1) q} {i : Int} (hi : 0 ≤ i ∧ i < 64) : (seq (p_iald dd) bb).1 (.inl i :: .inr (.inr (some (o + 1 + 24))) :: st) L (mw w0 o σ, z) = bb.1 (.inl (σ.2 41 i) :: st) L (mw w0 o σ, z) := x_iald (f := cM σ 41) (mw_a ma41) hi (by decide)
theorem m_st41 {dd : decode θ.cc p = .ok (.iastore, 1)} {bb : Seg θ (p + 1) q} {i x : Int} (hi : 0 ≤ i ∧ i < 64) : (seq (p_iast dd) bb).1 (.inl (x) :: .inl i :: .inr (.inr (some (o + 1 + 24))) :: st) L (mw w0 o σ, z) = bb.1 st L (mw w0 o (sA σ 41 i x), z) := by
  rw [x_iast (f := cM σ 41) (mw_a ma41) hi (by decide)]
  exact congrArg (fun y => bb.1 st L (y, z)) (mw_sA ma41)
theorem m_ld43 {dd : decode θ.cc p = .ok (.baload, 1)} {bb : Seg θ (p + 1) q} {i : Int} (hi : 0 ≤ i ∧ i < 8000) : (seq (p_bald dd) bb).1 (.inl i :: .inr (.inr (some (o + 1 + 25))) :: st) L (mw w0 o σ, z) = bb.1 (.inl (σ.2 43 i) :: st) L (mw w0 o σ, z) := x_bald1 (f := cM σ 43) (mw_a ma43) hi (by decide)
theorem m_st43 {dd : decode θ.cc p = .ok (.bastore, 1)} {bb : Seg θ (p + 1) q} {i x : Int} (hi : 0 ≤ i ∧ i < 8000) (hx : -128 ≤ x ∧ x ≤ 127) : (seq (p_bast dd) bb).1 (.inl (x) :: .inl i :: .inr (.inr (some (o + 1 + 25))) :: st) L (mw w0 o σ, z) = bb.1 st L (mw w0 o (sA σ 43 i x), z) := by
  rw [x_bast (f := cM σ 43) (mw_a ma43) hi (by decide) hx]
  exact congrArg (fun y => bb.1 st L (y, z)) (mw_sA ma43)
theorem m_ld46 {dd : decode θ.cc p = .ok (.iaload, 1)} {bb : Seg θ (p + 1) q} {i : Int} (hi : 0 ≤ i ∧ i < 10) : (seq (p_iald dd) bb).1 (.inl i :: .inr (.inr (some (o + 1 + 26))) :: st) L (mw w0 o σ, z) = bb.1 (.inl (σ.2 46 i) :: st) L (mw w0 o σ, z) := x_iald (f := cM σ 46) (mw_a ma46) hi (by decide)
theorem m_st46 {dd : decode θ.cc p = .ok (.iastore, 1)} {bb : Seg θ (p + 1) q} {i x : Int} (hi : 0 ≤ i ∧ i < 10) : (seq (p_iast dd) bb).1 (.inl (x) :: .inl i :: .inr (.inr (some (o + 1 + 26))) :: st) L (mw w0 o σ, z) = bb.1 st L (mw w0 o (sA σ 46 i x), z) := by
  rw [x_iast (f := cM σ 46) (mw_a ma46) hi (by decide)]
  exact congrArg (fun y => bb.1 st L (y, z)) (mw_sA ma46)
theorem m_ld49 {dd : decode θ.cc p = .ok (.iaload, 1)} {bb : Seg θ (p + 1) q} {i : Int} (hi : 0 ≤ i ∧ i < 12) : (seq (p_iald dd) bb).1 (.inl i :: .inr (.inr (some (o + 1 + 27))) :: st) L (mw w0 o σ, z) = bb.1 (.inl (σ.2 49 i) :: st) L (mw w0 o σ, z) := x_iald (f := cM σ 49) (mw_a ma49) hi (by decide)
theorem m_st49 {dd : decode θ.cc p = .ok (.iastore, 1)} {bb : Seg θ (p + 1) q} {i x : Int} (hi : 0 ≤ i ∧ i < 12) : (seq (p_iast dd) bb).1 (.inl (x) :: .inl i :: .inr (.inr (some (o + 1 + 27))) :: st) L (mw w0 o σ, z) = bb.1 st L (mw w0 o (sA σ 49 i x), z) := by
  rw [x_iast (f := cM σ 49) (mw_a ma49) hi (by decide)]
  exact congrArg (fun y => bb.1 st L (y, z)) (mw_sA ma49)
theorem m_ld50 {dd : decode θ.cc p = .ok (.iaload, 1)} {bb : Seg θ (p + 1) q} {i : Int} (hi : 0 ≤ i ∧ i < 72) : (seq (p_iald dd) bb).1 (.inl i :: .inr (.inr (some (o + 1 + 28))) :: st) L (mw w0 o σ, z) = bb.1 (.inl (σ.2 50 i) :: st) L (mw w0 o σ, z) := x_iald (f := cM σ 50) (mw_a ma50) hi (by decide)
theorem m_st50 {dd : decode θ.cc p = .ok (.iastore, 1)} {bb : Seg θ (p + 1) q} {i x : Int} (hi : 0 ≤ i ∧ i < 72) : (seq (p_iast dd) bb).1 (.inl (x) :: .inl i :: .inr (.inr (some (o + 1 + 28))) :: st) L (mw w0 o σ, z) = bb.1 st L (mw w0 o (sA σ 50 i x), z) := by
  rw [x_iast (f := cM σ 50) (mw_a ma50) hi (by decide)]
  exact congrArg (fun y => bb.1 st L (y, z)) (mw_sA ma50)
theorem m_ld55 {dd : decode θ.cc p = .ok (.iaload, 1)} {bb : Seg θ (p + 1) q} {i : Int} (hi : 0 ≤ i ∧ i < 72) : (seq (p_iald dd) bb).1 (.inl i :: .inr (.inr (some (o + 1 + 29))) :: st) L (mw w0 o σ, z) = bb.1 (.inl (σ.2 55 i) :: st) L (mw w0 o σ, z) := x_iald (f := cM σ 55) (mw_a ma55) hi (by decide)
theorem m_st55 {dd : decode θ.cc p = .ok (.iastore, 1)} {bb : Seg θ (p + 1) q} {i x : Int} (hi : 0 ≤ i ∧ i < 72) : (seq (p_iast dd) bb).1 (.inl (x) :: .inl i :: .inr (.inr (some (o + 1 + 29))) :: st) L (mw w0 o σ, z) = bb.1 st L (mw w0 o (sA σ 55 i x), z) := by
  rw [x_iast (f := cM σ 55) (mw_a ma55) hi (by decide)]
  exact congrArg (fun y => bb.1 st L (y, z)) (mw_sA ma55)
theorem m_ld56 {dd : decode θ.cc p = .ok (.iaload, 1)} {bb : Seg θ (p + 1) q} {i : Int} (hi : 0 ≤ i ∧ i < 72) : (seq (p_iald dd) bb).1 (.inl i :: .inr (.inr (some (o + 1 + 30))) :: st) L (mw w0 o σ, z) = bb.1 (.inl (σ.2 56 i) :: st) L (mw w0 o σ, z) := x_iald (f := cM σ 56) (mw_a ma56) hi (by decide)
theorem m_st56 {dd : decode θ.cc p = .ok (.iastore, 1)} {bb : Seg θ (p + 1) q} {i x : Int} (hi : 0 ≤ i ∧ i < 72) : (seq (p_iast dd) bb).1 (.inl (x) :: .inl i :: .inr (.inr (some (o + 1 + 30))) :: st) L (mw w0 o σ, z) = bb.1 st L (mw w0 o (sA σ 56 i x), z) := by
  rw [x_iast (f := cM σ 56) (mw_a ma56) hi (by decide)]
  exact congrArg (fun y => bb.1 st L (y, z)) (mw_sA ma56)
theorem m_ld57 {dd : decode θ.cc p = .ok (.iaload, 1)} {bb : Seg θ (p + 1) q} {i : Int} (hi : 0 ≤ i ∧ i < 72) : (seq (p_iald dd) bb).1 (.inl i :: .inr (.inr (some (o + 1 + 31))) :: st) L (mw w0 o σ, z) = bb.1 (.inl (σ.2 57 i) :: st) L (mw w0 o σ, z) := x_iald (f := cM σ 57) (mw_a ma57) hi (by decide)
theorem m_st57 {dd : decode θ.cc p = .ok (.iastore, 1)} {bb : Seg θ (p + 1) q} {i x : Int} (hi : 0 ≤ i ∧ i < 72) : (seq (p_iast dd) bb).1 (.inl (x) :: .inl i :: .inr (.inr (some (o + 1 + 31))) :: st) L (mw w0 o σ, z) = bb.1 st L (mw w0 o (sA σ 57 i x), z) := by
  rw [x_iast (f := cM σ 57) (mw_a ma57) hi (by decide)]
  exact congrArg (fun y => bb.1 st L (y, z)) (mw_sA ma57)
theorem m_ld58 {dd : decode θ.cc p = .ok (.iaload, 1)} {bb : Seg θ (p + 1) q} {i : Int} (hi : 0 ≤ i ∧ i < 72) : (seq (p_iald dd) bb).1 (.inl i :: .inr (.inr (some (o + 1 + 32))) :: st) L (mw w0 o σ, z) = bb.1 (.inl (σ.2 58 i) :: st) L (mw w0 o σ, z) := x_iald (f := cM σ 58) (mw_a ma58) hi (by decide)
theorem m_st58 {dd : decode θ.cc p = .ok (.iastore, 1)} {bb : Seg θ (p + 1) q} {i x : Int} (hi : 0 ≤ i ∧ i < 72) : (seq (p_iast dd) bb).1 (.inl (x) :: .inl i :: .inr (.inr (some (o + 1 + 32))) :: st) L (mw w0 o σ, z) = bb.1 st L (mw w0 o (sA σ 58 i x), z) := by
  rw [x_iast (f := cM σ 58) (mw_a ma58) hi (by decide)]
  exact congrArg (fun y => bb.1 st L (y, z)) (mw_sA ma58)
theorem m_ld59 {dd : decode θ.cc p = .ok (.iaload, 1)} {bb : Seg θ (p + 1) q} {i : Int} (hi : 0 ≤ i ∧ i < 72) : (seq (p_iald dd) bb).1 (.inl i :: .inr (.inr (some (o + 1 + 33))) :: st) L (mw w0 o σ, z) = bb.1 (.inl (σ.2 59 i) :: st) L (mw w0 o σ, z) := x_iald (f := cM σ 59) (mw_a ma59) hi (by decide)
theorem m_st59 {dd : decode θ.cc p = .ok (.iastore, 1)} {bb : Seg θ (p + 1) q} {i x : Int} (hi : 0 ≤ i ∧ i < 72) : (seq (p_iast dd) bb).1 (.inl (x) :: .inl i :: .inr (.inr (some (o + 1 + 33))) :: st) L (mw w0 o σ, z) = bb.1 st L (mw w0 o (sA σ 59 i x), z) := by
  rw [x_iast (f := cM σ 59) (mw_a ma59) hi (by decide)]
  exact congrArg (fun y => bb.1 st L (y, z)) (mw_sA ma59)
theorem m_ld60 {dd : decode θ.cc p = .ok (.laload, 1)} {bb : Seg θ (p + 1) q} {i : Int} (hi : 0 ≤ i ∧ i < 72) : (seq (p_lald dd) bb).1 (.inl i :: .inr (.inr (some (o + 1 + 34))) :: st) L (mw w0 o σ, z) = bb.1 (.inr (.inl (σ.2 60 i)) :: st) L (mw w0 o σ, z) := x_lald (f := cM σ 60) (mw_a ma60) hi (by decide)
theorem m_st60 {dd : decode θ.cc p = .ok (.lastore, 1)} {bb : Seg θ (p + 1) q} {i x : Int} (hi : 0 ≤ i ∧ i < 72) : (seq (p_last dd) bb).1 (.inr (.inl (x)) :: .inl i :: .inr (.inr (some (o + 1 + 34))) :: st) L (mw w0 o σ, z) = bb.1 st L (mw w0 o (sA σ 60 i x), z) := by
  rw [x_last (f := cM σ 60) (mw_a ma60) hi (by decide)]
  exact congrArg (fun y => bb.1 st L (y, z)) (mw_sA ma60)
theorem m_ld61 {dd : decode θ.cc p = .ok (.laload, 1)} {bb : Seg θ (p + 1) q} {i : Int} (hi : 0 ≤ i ∧ i < 72) : (seq (p_lald dd) bb).1 (.inl i :: .inr (.inr (some (o + 1 + 35))) :: st) L (mw w0 o σ, z) = bb.1 (.inr (.inl (σ.2 61 i)) :: st) L (mw w0 o σ, z) := x_lald (f := cM σ 61) (mw_a ma61) hi (by decide)
theorem m_st61 {dd : decode θ.cc p = .ok (.lastore, 1)} {bb : Seg θ (p + 1) q} {i x : Int} (hi : 0 ≤ i ∧ i < 72) : (seq (p_last dd) bb).1 (.inr (.inl (x)) :: .inl i :: .inr (.inr (some (o + 1 + 35))) :: st) L (mw w0 o σ, z) = bb.1 st L (mw w0 o (sA σ 61 i x), z) := by
  rw [x_last (f := cM σ 61) (mw_a ma61) hi (by decide)]
  exact congrArg (fun y => bb.1 st L (y, z)) (mw_sA ma61)
theorem m_ld62 {dd : decode θ.cc p = .ok (.laload, 1)} {bb : Seg θ (p + 1) q} {i : Int} (hi : 0 ≤ i ∧ i < 72) : (seq (p_lald dd) bb).1 (.inl i :: .inr (.inr (some (o + 1 + 36))) :: st) L (mw w0 o σ, z) = bb.1 (.inr (.inl (σ.2 62 i)) :: st) L (mw w0 o σ, z) := x_lald (f := cM σ 62) (mw_a ma62) hi (by decide)
theorem m_st62 {dd : decode θ.cc p = .ok (.lastore, 1)} {bb : Seg θ (p + 1) q} {i x : Int} (hi : 0 ≤ i ∧ i < 72) : (seq (p_last dd) bb).1 (.inr (.inl (x)) :: .inl i :: .inr (.inr (some (o + 1 + 36))) :: st) L (mw w0 o σ, z) = bb.1 st L (mw w0 o (sA σ 62 i x), z) := by
  rw [x_last (f := cM σ 62) (mw_a ma62) hi (by decide)]
  exact congrArg (fun y => bb.1 st L (y, z)) (mw_sA ma62)
theorem m_ld63 {dd : decode θ.cc p = .ok (.laload, 1)} {bb : Seg θ (p + 1) q} {i : Int} (hi : 0 ≤ i ∧ i < 72) : (seq (p_lald dd) bb).1 (.inl i :: .inr (.inr (some (o + 1 + 37))) :: st) L (mw w0 o σ, z) = bb.1 (.inr (.inl (σ.2 63 i)) :: st) L (mw w0 o σ, z) := x_lald (f := cM σ 63) (mw_a ma63) hi (by decide)
theorem m_st63 {dd : decode θ.cc p = .ok (.lastore, 1)} {bb : Seg θ (p + 1) q} {i x : Int} (hi : 0 ≤ i ∧ i < 72) : (seq (p_last dd) bb).1 (.inr (.inl (x)) :: .inl i :: .inr (.inr (some (o + 1 + 37))) :: st) L (mw w0 o σ, z) = bb.1 st L (mw w0 o (sA σ 63 i x), z) := by
  rw [x_last (f := cM σ 63) (mw_a ma63) hi (by decide)]
  exact congrArg (fun y => bb.1 st L (y, z)) (mw_sA ma63)
theorem fM_0 : fM o σ 0 = .inr (.inr (some (o + 1 + 0))) := nrfl rfl
theorem fM_1 : fM o σ 1 = .inr (.inr (some (o + 1 + 1))) := nrfl rfl
theorem fM_2 : fM o σ 2 = .inr (.inr (some (o + 1 + 2))) := nrfl rfl
theorem fM_3 : fM o σ 3 = .inr (.inr (some (o + 1 + 3))) := nrfl rfl
theorem fM_4 : fM o σ 4 = .inr (.inr (some (o + 1 + 4))) := nrfl rfl
theorem fM_5 : fM o σ 5 = .inl (σ.1 5) := nrfl rfl
theorem fM_6 : fM o σ 6 = .inl (σ.1 6) := nrfl rfl
theorem fM_7 : fM o σ 7 = .inl (σ.1 7) := nrfl rfl
theorem fM_8 : fM o σ 8 = .inr (.inr (some (o + 1 + 5))) := nrfl rfl
theorem fM_9 : fM o σ 9 = .inr (.inr (some (o + 1 + 6))) := nrfl rfl
theorem fM_10 : fM o σ 10 = .inl (σ.1 10) := nrfl rfl
theorem fM_11 : fM o σ 11 = .inl (σ.1 11) := nrfl rfl
theorem fM_12 : fM o σ 12 = .inl (σ.1 12) := nrfl rfl
theorem fM_13 : fM o σ 13 = .inr (.inr (some (o + 1 + 7))) := nrfl rfl
theorem fM_14 : fM o σ 14 = .inr (.inr (some (o + 1 + 8))) := nrfl rfl
theorem fM_15 : fM o σ 15 = .inl (σ.1 15) := nrfl rfl
theorem fM_16 : fM o σ 16 = .inl (σ.1 16) := nrfl rfl
theorem fM_17 : fM o σ 17 = .inl (σ.1 17) := nrfl rfl
theorem fM_18 : fM o σ 18 = .inr (.inr (some (o + 1 + 9))) := nrfl rfl
theorem fM_19 : fM o σ 19 = .inr (.inr (some (o + 1 + 10))) := nrfl rfl
theorem fM_20 : fM o σ 20 = .inr (.inr (some (o + 1 + 11))) := nrfl rfl
theorem fM_21 : fM o σ 21 = .inr (.inr (some (o + 1 + 12))) := nrfl rfl
theorem fM_22 : fM o σ 22 = .inr (.inr (some (o + 1 + 13))) := nrfl rfl
theorem fM_23 : fM o σ 23 = .inl (σ.1 23) := nrfl rfl
theorem fM_24 : fM o σ 24 = .inr (.inr (some (o + 1 + 14))) := nrfl rfl
theorem fM_25 : fM o σ 25 = .inr (.inr (some (o + 1 + 15))) := nrfl rfl
theorem fM_26 : fM o σ 26 = .inr (.inr (some (o + 1 + 16))) := nrfl rfl
theorem fM_27 : fM o σ 27 = .inr (.inr (some (o + 1 + 17))) := nrfl rfl
theorem fM_28 : fM o σ 28 = .inl (σ.1 28) := nrfl rfl
theorem fM_29 : fM o σ 29 = .inl (σ.1 29) := nrfl rfl
theorem fM_30 : fM o σ 30 = .inr (.inr (some (o + 1 + 18))) := nrfl rfl
theorem fM_31 : fM o σ 31 = .inr (.inr (some (o + 1 + 19))) := nrfl rfl
theorem fM_32 : fM o σ 32 = .inr (.inr (some (o + 1 + 20))) := nrfl rfl
theorem fM_33 : fM o σ 33 = .inl (σ.1 33) := nrfl rfl
theorem fM_34 : fM o σ 34 = .inl (σ.1 34) := nrfl rfl
theorem fM_35 : fM o σ 35 = .inr (.inr (some (o + 1 + 21))) := nrfl rfl
theorem fM_36 : fM o σ 36 = .inl (σ.1 36) := nrfl rfl
theorem fM_37 : fM o σ 37 = .inl (σ.1 37) := nrfl rfl
theorem fM_38 : fM o σ 38 = .inl (σ.1 38) := nrfl rfl
theorem fM_39 : fM o σ 39 = .inr (.inr (some (o + 1 + 22))) := nrfl rfl
theorem fM_40 : fM o σ 40 = .inr (.inr (some (o + 1 + 23))) := nrfl rfl
theorem fM_41 : fM o σ 41 = .inr (.inr (some (o + 1 + 24))) := nrfl rfl
theorem fM_42 : fM o σ 42 = .inl (σ.1 42) := nrfl rfl
theorem fM_43 : fM o σ 43 = .inr (.inr (some (o + 1 + 25))) := nrfl rfl
theorem fM_44 : fM o σ 44 = .inl (σ.1 44) := nrfl rfl
theorem fM_45 : fM o σ 45 = .inl (σ.1 45) := nrfl rfl
theorem fM_46 : fM o σ 46 = .inr (.inr (some (o + 1 + 26))) := nrfl rfl
theorem fM_47 : fM o σ 47 = .inl (σ.1 47) := nrfl rfl
theorem fM_48 : fM o σ 48 = .inl (σ.1 48) := nrfl rfl
theorem fM_49 : fM o σ 49 = .inr (.inr (some (o + 1 + 27))) := nrfl rfl
theorem fM_50 : fM o σ 50 = .inr (.inr (some (o + 1 + 28))) := nrfl rfl
theorem fM_51 : fM o σ 51 = .inl (σ.1 51) := nrfl rfl
theorem fM_52 : fM o σ 52 = .inl (σ.1 52) := nrfl rfl
theorem fM_53 : fM o σ 53 = .inl (σ.1 53) := nrfl rfl
theorem fM_54 : fM o σ 54 = .inl (σ.1 54) := nrfl rfl
theorem fM_55 : fM o σ 55 = .inr (.inr (some (o + 1 + 29))) := nrfl rfl
theorem fM_56 : fM o σ 56 = .inr (.inr (some (o + 1 + 30))) := nrfl rfl
theorem fM_57 : fM o σ 57 = .inr (.inr (some (o + 1 + 31))) := nrfl rfl
theorem fM_58 : fM o σ 58 = .inr (.inr (some (o + 1 + 32))) := nrfl rfl
theorem fM_59 : fM o σ 59 = .inr (.inr (some (o + 1 + 33))) := nrfl rfl
theorem fM_60 : fM o σ 60 = .inr (.inr (some (o + 1 + 34))) := nrfl rfl
theorem fM_61 : fM o σ 61 = .inr (.inr (some (o + 1 + 35))) := nrfl rfl
theorem fM_62 : fM o σ 62 = .inr (.inr (some (o + 1 + 36))) := nrfl rfl
theorem fM_63 : fM o σ 63 = .inr (.inr (some (o + 1 + 37))) := nrfl rfl
end GM
def b2i (b : Bool) : Int := if b = true then 1 else 0
theorem b2i_t : b2i true = 1 := rfl
theorem b2i_f : b2i false = 0 := rfl
theorem b2i_01 (b : Bool) : b2i b = 0 ∨ b2i b = 1 := by cases b <;> simp [b2i]
theorem b2i_r (b : Bool) : -2147483648 ≤ b2i b ∧ b2i b ≤ 2147483647 := by cases b <;> decide
theorem b2i_0 {b : Bool} : (b2i b = 0) = (b = false) := by cases b <;> simp [b2i]
theorem b2i_1 {b : Bool} : (b2i b = 1) = (b = true) := by cases b <;> simp [b2i]
theorem b2i_e {a b : Bool} : (b2i a = b2i b) = (a = b) := by cases a <;> cases b <;> simp [b2i]
theorem b2i_i {c : Prop} [Decidable c] : (if c then (1 : Int) else 0) = b2i (decide c) := by by_cases h : c <;> simp [h, b2i]
theorem b2i_n {c : Prop} [Decidable c] : (if c then (0 : Int) else 1) = b2i (!decide c) := by by_cases h : c <;> simp [h, b2i]
theorem ite_rng {c : Prop} [Decidable c] {x y lo hi : Int} (h : lo ≤ x ∧ x ≤ hi) (k : lo ≤ y ∧ y ≤ hi) : lo ≤ (if c then x else y) ∧ (if c then x else y) ≤ hi := by split <;> assumption
theorem ite_nx {c : Prop} [Decidable c] {x y : Int} {st : Stk} {L : Lc} {s : St} : (if c then (some (.inl (.inl x :: st, L, s)) : Option Ou) else some (.inl (.inl y :: st, L, s))) = some (.inl (.inl (if c then x else y) :: st, L, s)) := by split <;> rfl
theorem ite_rt {c : Prop} [Decidable c] {x y : Int} {s : St} : (if c then (some (.inr (.inr (.inl (some (.inl x), s)))) : Option Ou) else some (.inr (.inr (.inl (some (.inl y), s))))) = some (.inr (.inr (.inl (some (.inl (if c then x else y)), s)))) := by split <;> rfl
/-- a call of a method comes to this -/
theorem lcs_0 : lcs [] = [] := nrfl rfl
theorem lcs_i {a : Int} {t : List V} : lcs (.inl a :: t) = some (.inl a) :: lcs t := nrfl rfl
theorem lcs_r {a : Option Nat} {t : List V} : lcs (.inr (.inr a) :: t) = some (.inr (.inr a)) :: lcs t := nrfl rfl
