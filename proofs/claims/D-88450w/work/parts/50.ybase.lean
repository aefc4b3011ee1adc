/-! ===== the component's primitives in a form for rewriting: a cell is looked up first, then taken apart ===== -/
set_option maxRecDepth 100000
def yLk (o : Option Nat) (f : Nat → V) (K : Den) (st : Stk) (L : Lc) (s : St) : Option Ou := match o with
  | some k => K (f k :: st) L s
  | none => none
def yGet (al : List (Nat × Nat)) (e : Option En2) (K : Den) (st : Stk) (L : Lc) (s : St) : Option Ou := match e with
  | some (.inr x) => yLk (al.lookup x.1) x.2 K st L s
  | _ => none
def yPk (o : Option Nat) (ty : FieldType) (c : Nat) (f : Nat → V) (v : V) (a : Nat) (K : Den) (st : Stk) (L : Lc) (s : St) : Option Ou := match o with
  | some k => if okVb ty v = true then K st L (wup s.1 a (.inr (c, fup f k v)), s.2) else none
  | none => none
def yPut (al : List (Nat × Nat)) (ty : FieldType) (e : Option En2) (v : V) (a : Nat) (K : Den) (st : Stk) (L : Lc) (s : St) : Option Ou := match e with
  | some (.inr x) => yPk (al.lookup x.1) ty x.1 x.2 v a K st L s
  | _ => none
def yLd (t : Nat) (e : Option En2) (i : Int) (K : Den) (st : Stk) (L : Lc) (s : St) : Option Ou := match e with
  | some (.inl x) => if x.1 = t ∧ (0 ≤ i ∧ i < x.2.1) ∧ x.2.1 ≤ 2147483647 then K (x.2.2 i :: st) L s else none
  | _ => none
def yLd2 (t u : Nat) (e : Option En2) (i : Int) (K : Den) (st : Stk) (L : Lc) (s : St) : Option Ou := match e with
  | some (.inl x) => if (x.1 = t ∨ x.1 = u) ∧ (0 ≤ i ∧ i < x.2.1) ∧ x.2.1 ≤ 2147483647 then K (x.2.2 i :: st) L s else none
  | _ => none
def ySt (t : Nat) (g : Prop) [Decidable g] (e : Option En2) (i : Int) (v : V) (a : Nat) (K : Den) (st : Stk) (L : Lc) (s : St) : Option Ou := match e with
  | some (.inl x) => if x.1 = t ∧ (0 ≤ i ∧ i < x.2.1) ∧ x.2.1 ≤ 2147483647 ∧ g then K st L (wup s.1 a (.inl (x.1, x.2.1, iup x.2.2 i v)), s.2) else none
  | _ => none
def yLen (e : Option En2) (K : Den) (st : Stk) (L : Lc) (s : St) : Option Ou := match e with
  | some (.inl x) => if x.1 < 6 then K (.inl x.2.1 :: st) L s else none
  | _ => none
def yO (ci : Nat) (e : Option En2) (x : Option (Rs × St)) : Option (Rs × St) := match e with
  | some (.inr y) => if y.1 = ci then x else none
  | _ => none
def yAs (e1 e2 : Option En2) (i : Int) (v a : Nat) (K : Den) (st : Stk) (L : Lc) (s : St) : Option Ou := match e1, e2 with
  | some (.inl x), some (.inr y) => if okA x.1 y.1 = true ∧ (0 ≤ i ∧ i < x.2.1) ∧ x.2.1 ≤ 2147483647 then K st L (wup s.1 a (.inl (x.1, x.2.1, iup x.2.2 i (.inr (.inr (some v))))), s.2) else none
  | _, _ => none
def rOx (x : Option (Rs × St)) : Option (Rs × St) := match x with
  | some (.inl v, s') => some (.inl v, s')
  | _ => none
def dAx (x y : Option (Rs × St)) : Option (Rs × St) := match x with
  | some r => some r
  | none => y
section YB
variable {θ : Ix} {p q : Nat} {st : Stk} {L : Lc} {s : St} {a : Nat} {i z : Int} {K : Den}
theorem y_get {idx : Nat} {al : List (Nat × Nat)} {F : ∀ c ∈ al, FL θ.y.cls idx c.1 c.2} {dd : decode θ.cc p = .ok (.getfield idx, 3)} {bb : Seg θ (p + 3) q} : (seq (p_get al F dd) bb).1 (.inr (.inr (some a)) :: st) L s = yGet al (s.1 a) bb.1 st L s := by
  show bd (match s.1 a with
    | some (.inr x) => match al.lookup x.1 with
      | some k => some (.inl (x.2 k :: st, L, s))
      | none => none
    | _ => none) bb.1 = _
  unfold yGet
  cases s.1 a with
  | none => rfl
  | some e =>
    cases e with
    | inl x => rfl
    | inr x =>
      dsimp only
      unfold yLk
      cases al.lookup x.1 <;> rfl
theorem y_put {idx : Nat} {al : List (Nat × Nat)} {ty : FieldType} {F : ∀ c ∈ al, FP θ.y.cls idx c.1 c.2 ty} {dd : decode θ.cc p = .ok (.putfield idx, 3)} {bb : Seg θ (p + 3) q} {v : V} : (seq (p_put al ty F dd) bb).1 (v :: .inr (.inr (some a)) :: st) L s = yPut al ty (s.1 a) v a bb.1 st L s := by
  show bd (match s.1 a with
    | some (.inr x) => match al.lookup x.1 with
      | some k => if okVb ty v = true then some (.inl (st, L, (wup s.1 a (.inr (x.1, fup x.2 k v)), s.2))) else none
      | none => none
    | _ => none) bb.1 = _
  unfold yPut
  cases s.1 a with
  | none => rfl
  | some e =>
    cases e with
    | inl x => rfl
    | inr x =>
      dsimp only
      unfold yPk
      cases al.lookup x.1 with
      | none => rfl
      | some k =>
        dsimp only
        rw [bd_ite]
        split <;> rfl
theorem y_putF {idx : Nat} {al : List (Nat × Nat)} {ty : FieldType} {F : ∀ c ∈ al, FF θ.y.cls idx c.1 c.2 ty} {hi : θ.y.name = "<init>"} {dd : decode θ.cc p = .ok (.putfield idx, 3)} {bb : Seg θ (p + 3) q} {v : V} : (seq (p_putF al ty F hi dd) bb).1 (v :: .inr (.inr (some a)) :: st) L s = yPut al ty (s.1 a) v a bb.1 st L s := by
  show bd (match s.1 a with
    | some (.inr x) => match al.lookup x.1 with
      | some k => if okVb ty v = true then some (.inl (st, L, (wup s.1 a (.inr (x.1, fup x.2 k v)), s.2))) else none
      | none => none
    | _ => none) bb.1 = _
  unfold yPut
  cases s.1 a with
  | none => rfl
  | some e =>
    cases e with
    | inl x => rfl
    | inr x =>
      dsimp only
      unfold yPk
      cases al.lookup x.1 with
      | none => rfl
      | some k =>
        dsimp only
        rw [bd_ite]
        split <;> rfl
theorem y_iald {dd : decode θ.cc p = .ok (.iaload, 1)} {bb : Seg θ (p + 1) q} : (seq (p_iald dd) bb).1 (.inl i :: .inr (.inr (some a)) :: st) L s = yLd 0 (s.1 a) i bb.1 st L s := by
  show bd (match s.1 a with
    | some (.inl x) => if x.1 = 0 ∧ (0 ≤ i ∧ i < x.2.1) ∧ x.2.1 ≤ 2147483647 then some (.inl (x.2.2 i :: st, L, s)) else none
    | _ => none) bb.1 = _
  unfold yLd
  cases s.1 a with
  | none => rfl
  | some e =>
    cases e with
    | inr x => rfl
    | inl x =>
      dsimp only
      rw [bd_ite]
      split <;> rfl
theorem y_lald {dd : decode θ.cc p = .ok (.laload, 1)} {bb : Seg θ (p + 1) q} : (seq (p_lald dd) bb).1 (.inl i :: .inr (.inr (some a)) :: st) L s = yLd 3 (s.1 a) i bb.1 st L s := by
  show bd (match s.1 a with
    | some (.inl x) => if x.1 = 3 ∧ (0 ≤ i ∧ i < x.2.1) ∧ x.2.1 ≤ 2147483647 then some (.inl (x.2.2 i :: st, L, s)) else none
    | _ => none) bb.1 = _
  unfold yLd
  cases s.1 a with
  | none => rfl
  | some e =>
    cases e with
    | inr x => rfl
    | inl x =>
      dsimp only
      rw [bd_ite]
      split <;> rfl
theorem y_bald {dd : decode θ.cc p = .ok (.baload, 1)} {bb : Seg θ (p + 1) q} : (seq (p_bald dd) bb).1 (.inl i :: .inr (.inr (some a)) :: st) L s = yLd2 1 2 (s.1 a) i bb.1 st L s := by
  show bd (match s.1 a with
    | some (.inl x) => if (x.1 = 1 ∨ x.1 = 2) ∧ (0 ≤ i ∧ i < x.2.1) ∧ x.2.1 ≤ 2147483647 then some (.inl (x.2.2 i :: st, L, s)) else none
    | _ => none) bb.1 = _
  unfold yLd2
  cases s.1 a with
  | none => rfl
  | some e =>
    cases e with
    | inr x => rfl
    | inl x =>
      dsimp only
      rw [bd_ite]
      split <;> rfl
theorem y_aald {dd : decode θ.cc p = .ok (.aaload, 1)} {bb : Seg θ (p + 1) q} : (seq (p_aald dd) bb).1 (.inl i :: .inr (.inr (some a)) :: st) L s = yLd2 4 5 (s.1 a) i bb.1 st L s := by
  show bd (match s.1 a with
    | some (.inl x) => if (x.1 = 4 ∨ x.1 = 5) ∧ (0 ≤ i ∧ i < x.2.1) ∧ x.2.1 ≤ 2147483647 then some (.inl (x.2.2 i :: st, L, s)) else none
    | _ => none) bb.1 = _
  unfold yLd2
  cases s.1 a with
  | none => rfl
  | some e =>
    cases e with
    | inr x => rfl
    | inl x =>
      dsimp only
      rw [bd_ite]
      split <;> rfl
theorem y_iast {dd : decode θ.cc p = .ok (.iastore, 1)} {bb : Seg θ (p + 1) q} : (seq (p_iast dd) bb).1 (.inl z :: .inl i :: .inr (.inr (some a)) :: st) L s = ySt 0 True (s.1 a) i (.inl z) a bb.1 st L s := by
  show bd (match s.1 a with
    | some (.inl x) => if x.1 = 0 ∧ (0 ≤ i ∧ i < x.2.1) ∧ x.2.1 ≤ 2147483647 then some (.inl (st, L, (wup s.1 a (.inl (x.1, x.2.1, iup x.2.2 i (.inl z))), s.2))) else none
    | _ => none) bb.1 = _
  unfold ySt
  cases s.1 a with
  | none => rfl
  | some e =>
    cases e with
    | inr x => rfl
    | inl x =>
      dsimp only
      rw [bd_ite]
      simp only [and_true]
      split <;> rfl
theorem y_bast {dd : decode θ.cc p = .ok (.bastore, 1)} {bb : Seg θ (p + 1) q} : (seq (p_bast dd) bb).1 (.inl z :: .inl i :: .inr (.inr (some a)) :: st) L s = ySt 1 (-128 ≤ z ∧ z ≤ 127) (s.1 a) i (.inl z) a bb.1 st L s := by
  show bd (match s.1 a with
    | some (.inl x) => if x.1 = 1 ∧ (0 ≤ i ∧ i < x.2.1) ∧ x.2.1 ≤ 2147483647 ∧ (-128 ≤ z ∧ z ≤ 127) then some (.inl (st, L, (wup s.1 a (.inl (x.1, x.2.1, iup x.2.2 i (.inl z))), s.2))) else none
    | _ => none) bb.1 = _
  unfold ySt
  cases s.1 a with
  | none => rfl
  | some e =>
    cases e with
    | inr x => rfl
    | inl x =>
      dsimp only
      rw [bd_ite]
      split <;> rfl
theorem y_zast {dd : decode θ.cc p = .ok (.bastore, 1)} {bb : Seg θ (p + 1) q} : (seq (p_zast dd) bb).1 (.inl z :: .inl i :: .inr (.inr (some a)) :: st) L s = ySt 2 (z = 0 ∨ z = 1) (s.1 a) i (.inl z) a bb.1 st L s := by
  show bd (match s.1 a with
    | some (.inl x) => if x.1 = 2 ∧ (0 ≤ i ∧ i < x.2.1) ∧ x.2.1 ≤ 2147483647 ∧ (z = 0 ∨ z = 1) then some (.inl (st, L, (wup s.1 a (.inl (x.1, x.2.1, iup x.2.2 i (.inl z))), s.2))) else none
    | _ => none) bb.1 = _
  unfold ySt
  cases s.1 a with
  | none => rfl
  | some e =>
    cases e with
    | inr x => rfl
    | inl x =>
      dsimp only
      rw [bd_ite]
      split <;> rfl
theorem y_alen {dd : decode θ.cc p = .ok (.arraylength, 1)} {bb : Seg θ (p + 1) q} : (seq (p_alen dd) bb).1 (.inr (.inr (some a)) :: st) L s = yLen (s.1 a) bb.1 st L s := by
  show bd (match s.1 a with
    | some (.inl x) => if x.1 < 6 then some (.inl (.inl x.2.1 :: st, L, s)) else none
    | _ => none) bb.1 = _
  unfold yLen
  cases s.1 a with
  | none => rfl
  | some e =>
    cases e with
    | inr x => rfl
    | inl x =>
      dsimp only
      rw [bd_ite]
      split <;> rfl
theorem y_aast {dd : decode θ.cc p = .ok (.aastore, 1)} {bb : Seg θ (p + 1) q} {v : Nat} : (seq (p_aast dd) bb).1 (.inr (.inr (some v)) :: .inl i :: .inr (.inr (some a)) :: st) L s = yAs (s.1 a) (s.1 v) i v a bb.1 st L s := by
  show bd (match s.1 a, s.1 v with
    | some (.inl x), some (.inr y) => if okA x.1 y.1 = true ∧ (0 ≤ i ∧ i < x.2.1) ∧ x.2.1 ≤ 2147483647 then some (.inl (st, L, (wup s.1 a (.inl (x.1, x.2.1, iup x.2.2 i (.inr (.inr (some v))))), s.2))) else none
    | _, _ => none) bb.1 = _
  unfold yAs
  rcases s.1 a with _ | (x | x)
  · rfl
  · rcases s.1 v with _ | (y | y)
    · rfl
    · rfl
    · dsimp only
      rw [bd_ite]
      split <;> rfl
  · rfl
theorem y_dO {ci : Nat} {M : MDen} {as : List V} : dO ci M (.inr (.inr (some a)) :: as) s = yO ci (s.1 a) (M (.inr (.inr (some a)) :: as) s) := by
  show (match s.1 a with
    | some (.inr x) => if x.1 = ci then M (.inr (.inr (some a)) :: as) s else none
    | _ => none) = _
  unfold yO
  rcases s.1 a with _ | (x | x) <;> rfl
theorem y_rO {M : MDen} {as : List V} : rO M as s = rOx (M as s) := by
  unfold rO rOx
  rcases M as s with _ | ⟨v | v, t⟩ <;> rfl
theorem y_dA {f g : MDen} {as : List V} : dA f g as s = dAx (f as s) (g as s) := by
  unfold dA dAx
  rcases f as s with _ | x <;> rfl
theorem yGet_o {al : List (Nat × Nat)} {c : Nat} {f : Nat → V} : yGet al (some (.inr (c, f))) K st L s = yLk (al.lookup c) f K st L s := nrfl rfl
theorem yLk_s {k : Nat} {f : Nat → V} : yLk (some k) f K st L s = K (f k :: st) L s := nrfl rfl
theorem yPut_o {al : List (Nat × Nat)} {ty : FieldType} {c : Nat} {f : Nat → V} {v : V} : yPut al ty (some (.inr (c, f))) v a K st L s = yPk (al.lookup c) ty c f v a K st L s := nrfl rfl
theorem yPk_s {k : Nat} {ty : FieldType} {c : Nat} {f : Nat → V} {v : V} {w : Hp} {n : Nat × Nat} (h : okVb ty v = true) : yPk (some k) ty c f v a K st L (w, n) = K st L (wup w a (.inr (c, fup f k v)), n) := if_pos h
theorem yLd_a {t n : Nat} {f : Int → V} (hi : 0 ≤ i ∧ i < n) (hn : n ≤ 2147483647) : yLd t (some (.inl (t, n, f))) i K st L s = K (f i :: st) L s := if_pos ⟨rfl, hi, hn⟩
theorem yLd2_a {t u n : Nat} {f : Int → V} (hi : 0 ≤ i ∧ i < n) (hn : n ≤ 2147483647) : yLd2 t u (some (.inl (t, n, f))) i K st L s = K (f i :: st) L s := if_pos ⟨Or.inl rfl, hi, hn⟩
theorem yLd2_b {t u n : Nat} {f : Int → V} (hi : 0 ≤ i ∧ i < n) (hn : n ≤ 2147483647) : yLd2 t u (some (.inl (u, n, f))) i K st L s = K (f i :: st) L s := if_pos ⟨Or.inr rfl, hi, hn⟩
theorem ySt_a {t n : Nat} {f : Int → V} {v : V} {g : Prop} [Decidable g] {w : Hp} {m : Nat × Nat} (hi : 0 ≤ i ∧ i < n) (hn : n ≤ 2147483647) (hg : g) : ySt t g (some (.inl (t, n, f))) i v a K st L (w, m) = K st L (wup w a (.inl (t, n, iup f i v)), m) := if_pos ⟨rfl, hi, hn, hg⟩
theorem yLen_a {t n : Nat} {f : Int → V} (h : t < 6) : yLen (some (.inl (t, n, f))) K st L s = K (.inl n :: st) L s := if_pos h
theorem yO_o {c : Nat} {f : Nat → V} {x : Option (Rs × St)} : yO c (some (.inr (c, f))) x = x := if_pos rfl
theorem yO_n {c d : Nat} {f : Nat → V} {x : Option (Rs × St)} (h : d ≠ c) : yO c (some (.inr (d, f))) x = none := if_neg h
theorem yAs_a {t n c v : Nat} {f : Int → V} {g : Nat → V} {w : Hp} {m : Nat × Nat} (hk : okA t c = true) (hi : 0 ≤ i ∧ i < n) (hn : n ≤ 2147483647) : yAs (some (.inl (t, n, f))) (some (.inr (c, g))) i v a K st L (w, m) = K st L (wup w a (.inl (t, n, iup f i (.inr (.inr (some v))))), m) := if_pos ⟨hk, hi, hn⟩
theorem rOx_s {v : Option V} : rOx (some (.inl v, s)) = some (.inl v, s) := nrfl rfl
theorem dAx_s {x : Rs × St} {y : Option (Rs × St)} : dAx (some x) y = some x := nrfl rfl
theorem dAx_n {y : Option (Rs × St)} : dAx none y = y := nrfl rfl
theorem rOx_n : rOx none = none := nrfl rfl
end YB
theorem fup_s {f : Nat → V} {k : Nat} {v : V} : fup f k v k = v := if_pos rfl
theorem fup_n {f : Nat → V} {k j : Nat} {v : V} (h : j ≠ k) : fup f k v j = f j := if_neg h
theorem y_newa0 {θ : Ix} {p q : Nat} {ht : 0 < 4} {dd : decode θ.cc p = .ok (.newarray .int, 2)} {bb : Seg θ (p + 2) q} {n : Int} {st : Stk} {L : Lc} {w : Hp} {z m : Nat} (hn : 0 ≤ n ∧ n.toNat * 8 ≤ 536870912) : (seq (p_newa 0 ht dd) bb).1 (.inl n :: st) L (w, z, m) = bb.1 (.inr (.inr (some z)) :: st) L (wup w z (.inl (0, n.toNat, fun _ => .inl 0)), z + 1, m + n.toNat) := x_newa (t := 0) (dd := dd) hn
theorem y_newa1 {θ : Ix} {p q : Nat} {ht : 1 < 4} {dd : decode θ.cc p = .ok (.newarray .byte, 2)} {bb : Seg θ (p + 2) q} {n : Int} {st : Stk} {L : Lc} {w : Hp} {z m : Nat} (hn : 0 ≤ n ∧ n.toNat * 8 ≤ 536870912) : (seq (p_newa 1 ht dd) bb).1 (.inl n :: st) L (w, z, m) = bb.1 (.inr (.inr (some z)) :: st) L (wup w z (.inl (1, n.toNat, fun _ => .inl 0)), z + 1, m + n.toNat) := x_newa (t := 1) (dd := dd) hn
theorem y_newa2 {θ : Ix} {p q : Nat} {ht : 2 < 4} {dd : decode θ.cc p = .ok (.newarray .boolean, 2)} {bb : Seg θ (p + 2) q} {n : Int} {st : Stk} {L : Lc} {w : Hp} {z m : Nat} (hn : 0 ≤ n ∧ n.toNat * 8 ≤ 536870912) : (seq (p_newa 2 ht dd) bb).1 (.inl n :: st) L (w, z, m) = bb.1 (.inr (.inr (some z)) :: st) L (wup w z (.inl (2, n.toNat, fun _ => .inl 0)), z + 1, m + n.toNat) := x_newa (t := 2) (dd := dd) hn
theorem y_newa3 {θ : Ix} {p q : Nat} {ht : 3 < 4} {dd : decode θ.cc p = .ok (.newarray .long, 2)} {bb : Seg θ (p + 2) q} {n : Int} {st : Stk} {L : Lc} {w : Hp} {z m : Nat} (hn : 0 ≤ n ∧ n.toNat * 8 ≤ 536870912) : (seq (p_newa 3 ht dd) bb).1 (.inl n :: st) L (w, z, m) = bb.1 (.inr (.inr (some z)) :: st) L (wup w z (.inl (3, n.toNat, fun _ => .inr (.inl 0))), z + 1, m + n.toNat) := x_newa (t := 3) (dd := dd) hn
theorem okv_i {z : Int} : okVb .int (.inl z) = true := nrfl rfl
theorem okv_o {C : String} {a : Option Nat} : okVb (.object C) (.inr (.inr a)) = true := nrfl rfl
theorem okv_a {ty : FieldType} {a : Option Nat} : okVb (.array ty) (.inr (.inr a)) = true := nrfl rfl
theorem b_ft (b : Bool) : b = false ∨ b = true := by cases b <;> simp
