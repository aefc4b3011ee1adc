/-! ===== segments of the component: objects, casts, calls of all kinds, throws ===== -/
set_option maxRecDepth 100000
/-- calls in general: D does what the callee does with these arguments (the receiver first) -/
def CallOk (θ : Ix) (p q na : Nat) (D : MDen) : Prop := ∀ as s rs s', as.length = na → D as s = some (rs, s') → Le s s' ∧ ∀ κ PR PT, Ev θ κ PR PT → ∀ (r : Stk) (L : List (Option Value)) (kc ks : Nat), wt r ≤ 8 → s'.2.1 - s.2.1 ≤ kc → s'.2.2 - s.2.2 ≤ ks →
  (∀ v, rs = .inl v → G κ (hv s'.1) s'.2.1 (kc - (s'.2.1 - s.2.1)) (ks - (s'.2.2 - s.2.2)) L q (stv (v.toList ++ r)) → G κ (hv s.1) s.2.1 kc ks L p (stv (as.reverse ++ r))) ∧
  (∀ x, rs = .inr x → GT κ (hv s'.1) s'.2.1 (kc - (s'.2.1 - s.2.1)) (ks - (s'.2.2 - s.2.2)) L p x → G κ (hv s.1) s.2.1 kc ks L p (stv (as.reverse ++ r)))
def mresX (x : Option (Rs × St)) (r : Stk) (L : Lc) : Option Ou := match x with
  | some (.inl v, s') => some (.inl (v.toList ++ r, L, s'))
  | some (.inr a, s') => some (.inr (.inr (.inr (a, L, s'))))
  | none => none
theorem mresX_v {v : V} {s' : St} {r : Stk} {L : Lc} : mresX (some (.inl (some v), s')) r L = some (.inl (v :: r, L, s')) := nrfl rfl
theorem mresX_n {s' : St} {r : Stk} {L : Lc} : mresX (some (.inl none, s')) r L = some (.inl (r, L, s')) := nrfl rfl
theorem mresX_t {a : Nat} {s' : St} {r : Stk} {L : Lc} : mresX (some (.inr a, s')) r L = some (.inr (.inr (.inr (a, L, s')))) := nrfl rfl
theorem mresX_ite {c : Prop} [Decidable c] {x y : Option (Rs × St)} {r : Stk} {L : Lc} : mresX (if c then x else y) r L = if c then mresX x r L else mresX y r L := by split <;> rfl
theorem bd_t {a : Nat} {L : Lc} {s : St} {g : Den} : bd (some (.inr (.inr (.inr (a, L, s))))) g = some (.inr (.inr (.inr (a, L, s)))) := nrfl rfl
theorem bres_t {a : Nat} {L : Lc} {s : St} : bres (some (.inr (.inr (.inr (a, L, s))))) = some (.inr a, s) := nrfl rfl
def p_callG {θ : Ix} {p q : Nat} (na : Nat) (D : MDen) (h : CallOk θ p q na D) (hpq : p < q) : Seg θ p q := ⟨fun st L s => if Nat.ble (wt (st.drop na)) 8 = true ∧ (st.take na).length = na then mresX (D (st.take na).reverse s) (st.drop na) L else none, Nat.le_of_lt hpq, fun st L s o ho => by
    dsimp only at ho
    split at ho
    · rename_i hg
      obtain ⟨hg1, hg2⟩ := hg
      cases hD : D (st.take na).reverse s with
      | none => rw [hD] at ho; cases ho
      | some x =>
        obtain ⟨rs, s'⟩ := x
        rw [hD] at ho
        obtain ⟨hle, hk⟩ := h _ _ _ _ (by rw [List.length_reverse]; exact hg2) hD
        have est : stv st = stv ((st.take na).reverse.reverse ++ st.drop na) := congrArg stv (by rw [List.reverse_reverse, List.take_append_drop])
        have h1 := hle.1
        have h2 := hle.2
        rcases rs with v | x
        · cases ho
          refine ⟨hle, fun κ PR PT C S hE hC hS hj => ?_⟩
          have hC : s'.2.1 ≤ C := hC
          have hS : s'.2.2 ≤ S := hS
          have hj : G κ (hv s'.1) s'.2.1 (C - s'.2.1) (S - s'.2.2) (lcv L) q (stv (v.toList ++ st.drop na)) := hj
          have hgo := (hk κ PR PT hE (st.drop na) (lcv L) (C - s.2.1) (S - s.2.2) (Nat.le_of_ble_eq_true hg1) (by omega) (by omega)).1 v rfl (by
            rw [show C - s.2.1 - (s'.2.1 - s.2.1) = C - s'.2.1 by omega, show S - s.2.2 - (s'.2.2 - s.2.2) = S - s'.2.2 by omega]
            exact hj)
          unfold J
          rw [est]
          exact hgo
        · cases ho
          refine ⟨hle, fun κ PR PT C S hE hC hS hj => ?_⟩
          have hC : s'.2.1 ≤ C := hC
          have hS : s'.2.2 ≤ S := hS
          have hj : GT κ (hv s'.1) s'.2.1 (C - s'.2.1) (S - s'.2.2) (lcv L) p x := hj p (Nat.le_refl _) hpq
          have hgo := (hk κ PR PT hE (st.drop na) (lcv L) (C - s.2.1) (S - s.2.2) (Nat.le_of_ble_eq_true hg1) (by omega) (by omega)).2 x rfl (by
            rw [show C - s.2.1 - (s'.2.1 - s.2.1) = C - s'.2.1 by omega, show S - s.2.2 - (s'.2.2 - s.2.2) = S - s'.2.2 by omega]
            exact hj)
          unfold J
          rw [est]
          exact hgo
    · cases ho⟩
section XCG
variable {θ : Ix} {p q r : Nat} {D : MDen} {hpq : p < q} {bb : Seg θ q r} {st : Stk} {L : Lc} {s : St} {a1 a2 a3 a4 a5 a6 : V}
theorem xg_of {na : Nat} {h : CallOk θ p q na D} {st0 as rr : Stk} (h1 : st0.drop na = rr) (h2 : (st0.take na).reverse = as) (h3 : Nat.ble (wt rr) 8 = true) (h4 : (st0.take na).length = na) : (seq (p_callG na D h hpq) bb).1 st0 L s = bd (mresX (D as s) rr L) bb.1 := by
  show bd (if Nat.ble (wt (st0.drop na)) 8 = true ∧ (st0.take na).length = na then mresX (D (st0.take na).reverse s) (st0.drop na) L else none) bb.1 = _
  rw [h1, if_pos ⟨h3, h4⟩, h2]
theorem x_callG0 {h : CallOk θ p q 0 D} (h3 : Nat.ble (wt st) 8 = true) : (seq (p_callG 0 D h hpq) bb).1 st L s = bd (mresX (D [] s) st L) bb.1 := xg_of rfl rfl h3 rfl
theorem x_callG1 {h : CallOk θ p q 1 D} (h3 : Nat.ble (wt st) 8 = true) : (seq (p_callG 1 D h hpq) bb).1 (a1 :: st) L s = bd (mresX (D [a1] s) st L) bb.1 := xg_of rfl rfl h3 rfl
theorem x_callG2 {h : CallOk θ p q 2 D} (h3 : Nat.ble (wt st) 8 = true) : (seq (p_callG 2 D h hpq) bb).1 (a2 :: a1 :: st) L s = bd (mresX (D [a1, a2] s) st L) bb.1 := xg_of rfl rfl h3 rfl
theorem x_callG3 {h : CallOk θ p q 3 D} (h3 : Nat.ble (wt st) 8 = true) : (seq (p_callG 3 D h hpq) bb).1 (a3 :: a2 :: a1 :: st) L s = bd (mresX (D [a1, a2, a3] s) st L) bb.1 := xg_of rfl rfl h3 rfl
theorem x_callG4 {h : CallOk θ p q 4 D} (h3 : Nat.ble (wt st) 8 = true) : (seq (p_callG 4 D h hpq) bb).1 (a4 :: a3 :: a2 :: a1 :: st) L s = bd (mresX (D [a1, a2, a3, a4] s) st L) bb.1 := xg_of rfl rfl h3 rfl
theorem x_callG5 {h : CallOk θ p q 5 D} (h3 : Nat.ble (wt st) 8 = true) : (seq (p_callG 5 D h hpq) bb).1 (a5 :: a4 :: a3 :: a2 :: a1 :: st) L s = bd (mresX (D [a1, a2, a3, a4, a5] s) st L) bb.1 := xg_of rfl rfl h3 rfl
theorem x_callG6 {h : CallOk θ p q 6 D} (h3 : Nat.ble (wt st) 8 = true) : (seq (p_callG 6 D h hpq) bb).1 (a6 :: a5 :: a4 :: a3 :: a2 :: a1 :: st) L s = bd (mresX (D [a1, a2, a3, a4, a5, a6] s) st L) bb.1 := xg_of rfl rfl h3 rfl
end XCG
theorem wt8 {r : Stk} (h : Nat.ble (wt r) 8 = true) : ((stv r).map fun v => v.category).sum ≤ 8 := by rw [wt_ve]; exact Nat.le_of_ble_eq_true h
/-- on an object of class ci -/
def dO (ci : Nat) (M : MDen) : MDen := fun as s => match as with
  | .inr (.inr (some o)) :: _ => match s.1 o with
    | some (.inr x) => if x.1 = ci then M as s else none
    | _ => none
  | _ => none
theorem dO_e {ci o : Nat} {M : MDen} {as : List V} {s : St} {f : Nat → V} (h : s.1 o = some (.inr (ci, f))) : dO ci M (.inr (.inr (some o)) :: as) s = M (.inr (.inr (some o)) :: as) s := by
  show (match s.1 o with
    | some (.inr x) => if x.1 = ci then M (.inr (.inr (some o)) :: as) s else none
    | _ => none) = _
  rw [h]
  exact if_pos rfl
theorem dO_ne {ci cj o : Nat} {M : MDen} {as : List V} {s : St} {f : Nat → V} (h : s.1 o = some (.inr (cj, f))) (hn : cj ≠ ci) : dO ci M (.inr (.inr (some o)) :: as) s = none := by
  show (match s.1 o with
    | some (.inr x) => if x.1 = ci then M (.inr (.inr (some o)) :: as) s else none
    | _ => none) = _
  rw [h]
  exact if_neg hn
/-- on an object, whatever its class -/
def dR (M : MDen) : MDen := fun as s => match as with
  | .inr (.inr (some _)) :: _ => M as s
  | _ => none
theorem dR_e {o : Nat} {M : MDen} {as : List V} {s : St} : dR M (.inr (.inr (some o)) :: as) s = M (.inr (.inr (some o)) :: as) s := nrfl rfl
/-- what returns alone -/
def rO (M : MDen) : MDen := fun as s => match M as s with
  | some (.inl v, s') => some (.inl v, s')
  | _ => none
theorem rO_e {M : MDen} {as : List V} {s s' : St} {v : Option V} (h : M as s = some (.inl v, s')) : rO M as s = some (.inl v, s') := by unfold rO; rw [h]
def dA (f g : MDen) : MDen := fun as s => match f as s with
  | some x => some x
  | none => g as s
theorem dA_1 {f g : MDen} {as : List V} {s : St} {x : Rs × St} (h : f as s = some x) : dA f g as s = some x := by unfold dA; rw [h]
theorem dA_2 {f g : MDen} {as : List V} {s : St} (h : f as s = none) : dA f g as s = g as s := by unfold dA; rw [h]
theorem ok_alt {θ : Ix} {p q na : Nat} {f g : MDen} (hf : CallOk θ p q na f) (hg : CallOk θ p q na g) : CallOk θ p q na (dA f g) := by
  intro as s rs s' hl h
  cases hx : f as s with
  | some x =>
    rw [dA_1 hx] at h
    exact hf as s rs s' hl (hx.trans h)
  | none =>
    rw [dA_2 hx] at h
    exact hg as s rs s' hl h
theorem rO_some {M : MDen} {as : List V} {s s' : St} {rs : Rs} (h : rO M as s = some (rs, s')) : ∃ v, rs = .inl v ∧ M as s = some (.inl v, s') := by
  unfold rO at h
  split at h
  · rename_i v s2 hm
    cases h
    exact ⟨v, rfl, hm⟩
  · cases h
theorem dO_some {ci : Nat} {M : MDen} {as : List V} {s s' : St} {rs : Rs} (h0 : dO ci M as s = some (rs, s')) : ∃ o t f, as = .inr (.inr (some o)) :: t ∧ s.1 o = some (.inr (ci, f)) ∧ M as s = some (rs, s') := by
  match as, h0 with
  | .inr (.inr (some o)) :: t, h =>
    cases hx : s.1 o with
    | none => simp only [dO, hx] at h; cases h
    | some e =>
      cases e with
      | inl x => simp only [dO, hx] at h; cases h
      | inr x =>
        simp only [dO, hx] at h
        split at h
        · rename_i hc
          obtain ⟨c, f⟩ := x
          have hc : c = ci := hc
          subst hc
          exact ⟨o, t, f, rfl, hx, h⟩
        · cases h
  | [], h => cases h
  | .inl _ :: _, h => cases h
  | .inr (.inl _) :: _, h => cases h
  | .inr (.inr none) :: _, h => cases h
theorem dR_some {M : MDen} {as : List V} {s s' : St} {rs : Rs} (h : dR M as s = some (rs, s')) : ∃ o t, as = .inr (.inr (some o)) :: t ∧ M as s = some (rs, s') := by
  unfold dR at h
  split at h
  · rename_i o t
    exact ⟨o, t, rfl, h⟩
  · cases h
theorem stv_args {o : Nat} {t r : Stk} : stv ((.inr (.inr (some o)) :: t).reverse ++ r) = (t.map ve).reverse ++ .ref o :: stv r := by
  unfold stv
  simp [List.map_reverse, ve]
theorem stv_args0 {t r : Stk} : stv (t.reverse ++ r) = (t.map ve).reverse ++ stv r := by
  unfold stv
  simp [List.map_reverse]
section OKC
variable {θ : Ix} {p : Nat}
theorem ok_V {C : String} {idx : Nat} {y : MethodName} {b : ByteArray} {n na d' : Nat} {retC : Option FieldType} (ci : Nat) (cv : CV θ.y.cls idx C y b n retC na) (hC : cR ci = some C) (M : Mth θ.l θ.δ y b n retC d') (hd : d' < θ.d) (dd : decode θ.cc p = .ok (.invokevirtual idx, 3)) : CallOk θ p (p + 3) (na + 1) (dO ci M.1) := by
  intro as s rs s' hl h
  obtain ⟨o, t, f, rfl, hx, hm⟩ := dO_some h
  obtain ⟨hle, hM, hM2⟩ := M.2 _ _ _ _ hm
  obtain ⟨q, hq1, hq2⟩ := cR_of hC
  have hlt : (t.map ve).length = na := by simpa using hl
  refine ⟨hle, fun κ PR PT hE r L kc ks hw hc hs => ⟨fun v hv' kk => ?_, fun x hv' kk => ?_⟩⟩
  · have hM := hM v hv'
    rw [← hE.2.2.2.1, ← hE.2.2.2.2.1] at hM
    rw [stv_args]
    exact g_callV hE.1 (o := o) (ci := ci) cv hM (hv_some hx) hq1 hq2 rfl hlt dd hd hc hs (by rw [wt_ve]; exact hw) (by rw [toList_map]; exact kk)
  · have hM := hM2 x hv'
    rw [← hE.2.2.2.1, ← hE.2.2.2.2.1] at hM
    rw [stv_args]
    exact g_callVT hE.1 (o := o) (ci := ci) cv hM (hv_some hx) hq1 hq2 rfl hlt dd hd hc hs (by rw [wt_ve]; exact hw) kk
theorem ok_U {C owner : String} {idx : Nat} {x y : MethodName} {b : ByteArray} {n na d' : Nat} {retC : Option FieldType} (ci : Nat) (cv : CU θ.y.cls idx C owner x y b n retC na) (hC : cR ci = some C) (M : Mth θ.l θ.δ y b n retC d') (hd : d' < θ.d) (dd : decode θ.cc p = .ok (.invokevirtual idx, 3)) : CallOk θ p (p + 3) (na + 1) (dO ci M.1) := by
  intro as s rs s' hl h
  obtain ⟨o, t, f, rfl, hx, hm⟩ := dO_some h
  obtain ⟨hle, hM, hM2⟩ := M.2 _ _ _ _ hm
  obtain ⟨q, hq1, hq2⟩ := cR_of hC
  have hlt : (t.map ve).length = na := by simpa using hl
  refine ⟨hle, fun κ PR PT hE r L kc ks hw hc hs => ⟨fun v hv' kk => ?_, fun x hv' kk => ?_⟩⟩
  · have hM := hM v hv'
    rw [← hE.2.2.2.1, ← hE.2.2.2.2.1] at hM
    rw [stv_args]
    exact g_callU hE.1 (o := o) (ci := ci) cv hM (hv_some hx) hq1 hq2 rfl hlt dd hd hc hs (by rw [wt_ve]; exact hw) (by rw [toList_map]; exact kk)
  · have hM := hM2 x hv'
    rw [← hE.2.2.2.1, ← hE.2.2.2.2.1] at hM
    rw [stv_args]
    exact g_callUT hE.1 (o := o) (ci := ci) cv hM (hv_some hx) hq1 hq2 rfl hlt dd hd hc hs (by rw [wt_ve]; exact hw) kk
theorem ok_VN {C : String} {idx : Nat} {y : MethodName} {b : ByteArray} {n na d' : Nat} {retC : Option FieldType} (ci : Nat) (cv : CVN θ.y.cls idx C y b n retC na) (hC : cR ci = some C) (M : Mth θ.l θ.δ y b n retC d') (hd : d' < θ.d) (dd : decode θ.cc p = .ok (.invokevirtual idx, 3)) : CallOk θ p (p + 3) (na + 1) (rO (dO ci M.1)) := by
  intro as s rs s' hl h
  obtain ⟨v, rfl, h2⟩ := rO_some h
  obtain ⟨o, t, f, rfl, hx, hm⟩ := dO_some h2
  obtain ⟨hle, hM, -⟩ := M.2 _ _ _ _ hm
  obtain ⟨q, hq1, hq2⟩ := cR_of hC
  have hlt : (t.map ve).length = na := by simpa using hl
  refine ⟨hle, fun κ PR PT hE r L kc ks hw hc hs => ⟨fun v2 hv' kk => ?_, fun x hv' kk => by cases hv'⟩⟩
  cases hv'
  have hM := hM v rfl
  rw [← hE.2.2.2.1, ← hE.2.2.2.2.1] at hM
  rw [stv_args]
  exact g_callVN hE.1 (o := o) (ci := ci) cv hM (hv_some hx) hq1 hq2 rfl hlt dd hd hc hs (by rw [wt_ve]; exact hw) (by rw [toList_map]; exact kk)
theorem ok_P {C : String} {idx : Nat} {y : MethodName} {b : ByteArray} {n na d' : Nat} {retC : Option FieldType} (ci : Nat) (cv : CUP θ.y.cls idx C y b n retC na) (hC : cR ci = some C) (M : Mth θ.l θ.δ y b n retC d') (hd : d' < θ.d) (dd : decode θ.cc p = .ok (.invokevirtual idx, 3)) : CallOk θ p (p + 3) (na + 1) (rO (dO ci M.1)) := by
  intro as s rs s' hl h
  obtain ⟨v, rfl, h2⟩ := rO_some h
  obtain ⟨o, t, f, rfl, hx, hm⟩ := dO_some h2
  obtain ⟨hle, hM, -⟩ := M.2 _ _ _ _ hm
  obtain ⟨q, hq1, hq2⟩ := cR_of hC
  have hlt : (t.map ve).length = na := by simpa using hl
  refine ⟨hle, fun κ PR PT hE r L kc ks hw hc hs => ⟨fun v2 hv' kk => ?_, fun x hv' kk => by cases hv'⟩⟩
  cases hv'
  have hM := hM v rfl
  rw [← hE.2.2.2.1, ← hE.2.2.2.2.1] at hM
  rw [stv_args]
  exact g_callP hE.1 (o := o) (ci := ci) cv hM (hv_some hx) hq1 hq2 rfl hlt dd hd hc hs (by rw [wt_ve]; exact hw) (by rw [toList_map]; exact kk)
theorem ok_SU {C : String} {idx : Nat} {y : MethodName} {b : ByteArray} {n na d' : Nat} {retC : Option FieldType} (ci : Nat) (cv : CSU θ.y.cls idx y b n retC na) (hC : cR ci = some C) (M : Mth θ.l θ.δ y b n retC d') (hd : d' < θ.d) (dd : decode θ.cc p = .ok (.invokespecial idx, 3)) : CallOk θ p (p + 3) (na + 1) (rO (dO ci M.1)) := by
  intro as s rs s' hl h
  obtain ⟨v, rfl, h2⟩ := rO_some h
  obtain ⟨o, t, f, rfl, hx, hm⟩ := dO_some h2
  obtain ⟨hle, hM, -⟩ := M.2 _ _ _ _ hm
  obtain ⟨q, hq1, hq2⟩ := cR_of hC
  have hlt : (t.map ve).length = na := by simpa using hl
  refine ⟨hle, fun κ PR PT hE r L kc ks hw hc hs => ⟨fun v2 hv' kk => ?_, fun x hv' kk => by cases hv'⟩⟩
  cases hv'
  have hM := hM v rfl
  rw [← hE.2.2.2.1, ← hE.2.2.2.2.1] at hM
  rw [stv_args]
  exact g_callSU hE.1 (o := o) (ci := ci) cv hM (hv_some hx) hq1 rfl hlt dd hd hc hs (by rw [wt_ve]; exact hw) (by rw [toList_map]; exact kk)
theorem ok_F {C : String} {idx cnt : Nat} {x y : MethodName} {b : ByteArray} {n na d' : Nat} {retC : Option FieldType} (ci : Nat) (cv : CF θ.y.cls idx C x y b n retC na) (hC : cR ci = some C) (M : Mth θ.l θ.δ y b n retC d') (hd : d' < θ.d) (dd : decode θ.cc p = .ok (.invokeinterface idx cnt, 5)) : CallOk θ p (p + 5) (na + 1) (rO (dO ci M.1)) := by
  intro as s rs s' hl h
  obtain ⟨v, rfl, h2⟩ := rO_some h
  obtain ⟨o, t, f, rfl, hx, hm⟩ := dO_some h2
  obtain ⟨hle, hM, -⟩ := M.2 _ _ _ _ hm
  obtain ⟨q, hq1, hq2⟩ := cR_of hC
  have hlt : (t.map ve).length = na := by simpa using hl
  refine ⟨hle, fun κ PR PT hE r L kc ks hw hc hs => ⟨fun v2 hv' kk => ?_, fun x hv' kk => by cases hv'⟩⟩
  cases hv'
  have hM := hM v rfl
  rw [← hE.2.2.2.1, ← hE.2.2.2.2.1] at hM
  rw [stv_args]
  exact g_callF hE.1 (o := o) (ci := ci) cv hM (hv_some hx) hq1 hq2 rfl hlt dd hd hc hs (by rw [wt_ve]; exact hw) (by rw [toList_map]; exact kk)
theorem ok_I {idx : Nat} {y : MethodName} {b : ByteArray} {n na d' : Nat} (cv : CI θ.y.cls idx y b n na) (M : Mth θ.l θ.δ y b n none d') (hd : d' < θ.d) (dd : decode θ.cc p = .ok (.invokespecial idx, 3)) : CallOk θ p (p + 3) (na + 1) (rO (dR M.1)) := by
  intro as s rs s' hl h
  obtain ⟨v, rfl, h2⟩ := rO_some h
  obtain ⟨o, t, rfl, hm⟩ := dR_some h2
  obtain ⟨hle, hM, -⟩ := M.2 _ _ _ _ hm
  have hlt : (t.map ve).length = na := by simpa using hl
  refine ⟨hle, fun κ PR PT hE r L kc ks hw hc hs => ⟨fun v2 hv' kk => ?_, fun x hv' kk => by cases hv'⟩⟩
  cases hv'
  have hM := hM v rfl
  rw [← hE.2.2.2.1, ← hE.2.2.2.2.1] at hM
  rw [stv_args]
  exact g_callI hE.1 (o := o) cv hM rfl hlt dd hd hc hs (by rw [wt_ve]; exact hw) (by rw [toList_map]; exact kk)
theorem ok_S {idx : Nat} {y : MethodName} {b : ByteArray} {n na d' : Nat} {retC : Option FieldType} (cv : CS θ.y.cls idx y b n retC na) (M : Mth θ.l θ.δ y b n retC d') (hd : d' < θ.d) (dd : decode θ.cc p = .ok (.invokestatic idx, 3)) : CallOk θ p (p + 3) na (rO M.1) := by
  intro as s rs s' hl h
  obtain ⟨v, rfl, hm⟩ := rO_some h
  obtain ⟨hle, hM, -⟩ := M.2 _ _ _ _ hm
  refine ⟨hle, fun κ PR PT hE r L kc ks hw hc hs => ⟨fun v2 hv' kk => ?_, fun x hv' kk => by cases hv'⟩⟩
  cases hv'
  have hM := hM v rfl
  rw [← hE.2.2.2.1, ← hE.2.2.2.2.1] at hM
  rw [stv_args0]
  exact g_callS hE.1 cv hM rfl (by simpa using hl) dd hd hc hs (by rw [wt_ve]; exact hw) (by rw [toList_map]; exact kk)
theorem ok_SN {idx : Nat} {y : MethodName} {b : ByteArray} {n na d' : Nat} {retC : Option FieldType} (cv : CSN θ.y.cls idx y b n retC na) (M : Mth θ.l θ.δ y b n retC d') (hd : d' < θ.d) (dd : decode θ.cc p = .ok (.invokestatic idx, 3)) : CallOk θ p (p + 3) na (rO M.1) := by
  intro as s rs s' hl h
  obtain ⟨v, rfl, hm⟩ := rO_some h
  obtain ⟨hle, hM, -⟩ := M.2 _ _ _ _ hm
  refine ⟨hle, fun κ PR PT hE r L kc ks hw hc hs => ⟨fun v2 hv' kk => ?_, fun x hv' kk => by cases hv'⟩⟩
  cases hv'
  have hM := hM v rfl
  rw [← hE.2.2.2.1, ← hE.2.2.2.2.1] at hM
  rw [stv_args0]
  exact g_callSN hE.1 cv hM rfl (by simpa using hl) dd hd hc hs (by rw [wt_ve]; exact hw) (by rw [toList_map]; exact kk)
theorem ok_SI {idx : Nat} {x y : MethodName} {b : ByteArray} {n na d' : Nat} {retC : Option FieldType} (cv : CSI θ.y.cls idx x y b n retC na) (M : Mth θ.l θ.δ y b n retC d') (hd : d' < θ.d) (dd : decode θ.cc p = .ok (.invokestatic idx, 3)) : CallOk θ p (p + 3) na (rO M.1) := by
  intro as s rs s' hl h
  obtain ⟨v, rfl, hm⟩ := rO_some h
  obtain ⟨hle, hM, -⟩ := M.2 _ _ _ _ hm
  refine ⟨hle, fun κ PR PT hE r L kc ks hw hc hs => ⟨fun v2 hv' kk => ?_, fun x hv' kk => by cases hv'⟩⟩
  cases hv'
  have hM := hM v rfl
  rw [← hE.2.2.2.1, ← hE.2.2.2.2.1] at hM
  rw [stv_args0]
  exact g_callSI hE.1 cv hM rfl (by simpa using hl) dd hd hc hs (by rw [wt_ve]; exact hw) (by rw [toList_map]; exact kk)
end OKC
section CSG
variable {θ : Ix} {p q : Nat}
/-- code that is never come to -/
def p_dead (q : Nat) (hpq : p ≤ q) : Seg θ p q := ⟨fun _ _ _ => none, hpq, fun st L s o h => by cases h⟩
def p_athrow (dd : decode θ.cc p = .ok (.athrow, 1)) : Seg θ p (p + 1) := ⟨fun st L s => match st with
  | .inr (.inr (some a)) :: _ => some (.inr (.inr (.inr (a, L, s))))
  | _ => none, Nat.le_add_right _ _, fun st L s o h => by
    dsimp only at h
    split at h
    · cases h
      exact ⟨Le.rfl', fun κ PR PT C S hE hC hS hj => g_athrow hE.1 dd (hj p (Nat.le_refl _) (Nat.lt_succ_self _))⟩
    · cases h⟩
theorem x_athrow {dd : decode θ.cc p = .ok (.athrow, 1)} {bb : Seg θ (p + 1) q} {st : Stk} {L : Lc} {s : St} {a : Nat} : (seq (p_athrow dd) bb).1 (.inr (.inr (some a)) :: st) L s = some (.inr (.inr (.inr (a, L, s)))) := nrfl rfl
def p_new {idx N : Nat} {C : String} {T : u_T} (ci : Nat) (hck : CK ci C T N) (ty : Nat → FieldType) (hty : ∀ k, k < N → parseFieldDescriptor (T k).2.2.1 = some (ty k)) (f : Nat → V) (hf : ∀ k, k < N → defaultValue (ty k) = ve (f k)) (q1 : Cond.classLink θ.y.cls idx C ∈ lw_all) (q2 : Cond.instantiable C N ∈ lw_all) (q3 : Cond.initialized C ∈ lw_all) (dd : decode θ.cc p = .ok (.new idx, 3)) : Seg θ p (p + 3) := ⟨fun st L s => some (.inl (.inr (.inr (some s.2.1)) :: st, L, (wup s.1 s.2.1 (.inr (ci, f)), s.2.1 + 1, s.2.2 + N))), Nat.le_add_right _ _, fun st L s o h => by
    cases h
    refine ⟨⟨Nat.le_add_right _ _, Nat.le_add_right _ _⟩, fun κ PR PT C' S hE hC hS hj => ?_⟩
    have hC : s.2.1 + 1 ≤ C' := hC
    have hS : s.2.2 + N ≤ S := hS
    have hj : G κ (hv (wup s.1 s.2.1 (.inr (ci, f)))) (s.2.1 + 1) (C' - (s.2.1 + 1)) (S - (s.2.2 + N)) (lcv L) (p + 3) (.ref s.2.1 :: stv st) := hj
    rw [hv_up, show C' - (s.2.1 + 1) = C' - s.2.1 - 1 by omega, show S - (s.2.2 + N) = S - s.2.2 - N by omega] at hj
    exact g_new hE.1 hck ty hty q1 q2 q3 hf dd (by omega) (by omega) hj⟩
theorem x_new {idx N ci : Nat} {C : String} {T : u_T} {hck : CK ci C T N} {ty : Nat → FieldType} {hty : ∀ k, k < N → parseFieldDescriptor (T k).2.2.1 = some (ty k)} {f : Nat → V} {hf : ∀ k, k < N → defaultValue (ty k) = ve (f k)} {q1 : Cond.classLink θ.y.cls idx C ∈ lw_all} {q2 : Cond.instantiable C N ∈ lw_all} {q3 : Cond.initialized C ∈ lw_all} {dd : decode θ.cc p = .ok (.new idx, 3)} {bb : Seg θ (p + 3) q} {st : Stk} {L : Lc} {w : Hp} {z m : Nat} : (seq (p_new ci hck ty hty f hf q1 q2 q3 dd) bb).1 st L (w, z, m) = bb.1 (.inr (.inr (some z)) :: st) L (wup w z (.inr (ci, f)), z + 1, m + N) := nrfl rfl
/-- kinds of arrays: 0 int, 1 byte, 2 boolean, 3 long -/
def kT : Nat → ArrayType
  | 0 => .int
  | 1 => .byte
  | 2 => .boolean
  | _ => .long
def kV : Nat → V
  | 3 => .inr (.inl 0)
  | _ => .inl 0
theorem g_newK {κ : Cx} {own : String} {cc : ByteArray} {d : Nat} {w : Hw} {sz kc ks : Nat} {L : List (Option Value)} {pc : Nat} {st : List Value} (h : Ok κ own cc d) (t : Nat) (ht : t < 4) {n : Int} (dd : decode cc pc = .ok (.newarray (kT t), 2)) (h0 : 0 ≤ n) (h1 : n.toNat * 8 ≤ 536870912) (hc1 : 1 ≤ kc) (hs1 : n.toNat ≤ ks)
    (kk : G κ (wup w sz (.inl (t, n.toNat, fun _ => ve (kV t)))) (sz + 1) (kc - 1) (ks - n.toNat) L (pc + 2) (.ref sz :: st)) : G κ w sz kc ks L pc (vI n :: st) := by
  match t, ht with
  | 0, _ => exact g_newa h (t := 0) (atype := .int) q193 rfl (fun cA a b => Option.some.inj (b.symm.trans a)) rfl dd h0 h1 (by decide) hc1 hs1 kk
  | 1, _ => exact g_newa h (t := 1) (atype := .byte) q152 rfl (fun cA a b => Option.some.inj (b.symm.trans a)) rfl dd h0 h1 (by decide) hc1 hs1 kk
  | 2, _ => exact g_newa h (t := 2) (atype := .boolean) q231 rfl (fun cA a b => Option.some.inj (b.symm.trans a)) rfl dd h0 h1 (by decide) hc1 hs1 kk
  | 3, _ => exact g_newa h (t := 3) (atype := .long) q1059 rfl (fun cA a b => Option.some.inj (b.symm.trans a)) rfl dd h0 h1 (by decide) hc1 hs1 kk
def p_newa (t : Nat) (ht : t < 4) (dd : decode θ.cc p = .ok (.newarray (kT t), 2)) : Seg θ p (p + 2) := ⟨fun st L s => match st with
  | .inl n :: r => if 0 ≤ n ∧ n.toNat * 8 ≤ 536870912 then some (.inl (.inr (.inr (some s.2.1)) :: r, L, (wup s.1 s.2.1 (.inl (t, n.toNat, fun _ => kV t)), s.2.1 + 1, s.2.2 + n.toNat))) else none
  | _ => none, Nat.le_add_right _ _, fun st L s o h => by
    dsimp only at h
    split at h
    · rename_i n r
      split at h
      · rename_i hg
        cases h
        refine ⟨⟨Nat.le_add_right _ _, Nat.le_add_right _ _⟩, fun κ PR PT C' S hE hC hS hj => ?_⟩
        have hC : s.2.1 + 1 ≤ C' := hC
        have hS : s.2.2 + n.toNat ≤ S := hS
        have hj : G κ (hv (wup s.1 s.2.1 (.inl (t, n.toNat, fun _ => kV t)))) (s.2.1 + 1) (C' - (s.2.1 + 1)) (S - (s.2.2 + n.toNat)) (lcv L) (p + 2) (.ref s.2.1 :: stv r) := hj
        rw [hv_up, show C' - (s.2.1 + 1) = C' - s.2.1 - 1 by omega, show S - (s.2.2 + n.toNat) = S - s.2.2 - n.toNat by omega] at hj
        exact g_newK hE.1 t ht dd hg.1 hg.2 (by omega) (by omega) hj
      · cases h
    · cases h⟩
theorem x_newa {t : Nat} {ht : t < 4} {dd : decode θ.cc p = .ok (.newarray (kT t), 2)} {bb : Seg θ (p + 2) q} {n : Int} {st : Stk} {L : Lc} {w : Hp} {z m : Nat} (hn : 0 ≤ n ∧ n.toNat * 8 ≤ 536870912) : (seq (p_newa t ht dd) bb).1 (.inl n :: st) L (w, z, m) = bb.1 (.inr (.inr (some z)) :: st) L (wup w z (.inl (t, n.toNat, fun _ => kV t)), z + 1, m + n.toNat) := by
  show bd (if 0 ≤ n ∧ n.toNat * 8 ≤ 536870912 then some (.inl (.inr (.inr (some z)) :: st, L, (wup w z (.inl (t, n.toNat, fun _ => kV t)), z + 1, m + n.toNat))) else none) bb.1 = _
  rw [if_pos hn]
  rfl
def oC : Nat → String
  | 4 => RX2
  | _ => "java/lang/Object"
theorem g_anewK {κ : Cx} {own : String} {cc : ByteArray} {d : Nat} {w : Hw} {sz kc ks idx : Nat} {L : List (Option Value)} {pc : Nat} {st : List Value} (h : Ok κ own cc d) (t : Nat) (ht : t = 4 ∨ t = 5) (q1 : Cond.classLink own idx (oC t) ∈ lw_all) {n : Int} (dd : decode cc pc = .ok (.anewarray idx, 3)) (h0 : 0 ≤ n) (h1 : n.toNat * 4 ≤ 536870912) (hc1 : 1 ≤ kc) (hs1 : n.toNat ≤ ks)
    (kk : G κ (wup w sz (.inl (t, n.toNat, fun _ => .null))) (sz + 1) (kc - 1) (ks - n.toNat) L (pc + 3) (.ref sz :: st)) : G κ w sz kc ks L pc (vI n :: st) := by
  obtain ⟨-, -, -, -, -, ⟨ha, hb⟩, -⟩ := h.K.2
  rcases ht with rfl | rfl
  · exact g_anewa h q1 rfl ha dd h0 h1 hc1 hs1 kk
  · exact g_anewa h q1 rfl hb dd h0 h1 hc1 hs1 kk
def p_anewa {idx : Nat} (t : Nat) (ht : t = 4 ∨ t = 5) (q1 : Cond.classLink θ.y.cls idx (oC t) ∈ lw_all) (dd : decode θ.cc p = .ok (.anewarray idx, 3)) : Seg θ p (p + 3) := ⟨fun st L s => match st with
  | .inl n :: r => if 0 ≤ n ∧ n.toNat * 4 ≤ 536870912 then some (.inl (.inr (.inr (some s.2.1)) :: r, L, (wup s.1 s.2.1 (.inl (t, n.toNat, fun _ => .inr (.inr none))), s.2.1 + 1, s.2.2 + n.toNat))) else none
  | _ => none, Nat.le_add_right _ _, fun st L s o h => by
    dsimp only at h
    split at h
    · rename_i n r
      split at h
      · rename_i hg
        cases h
        refine ⟨⟨Nat.le_add_right _ _, Nat.le_add_right _ _⟩, fun κ PR PT C' S hE hC hS hj => ?_⟩
        have hC : s.2.1 + 1 ≤ C' := hC
        have hS : s.2.2 + n.toNat ≤ S := hS
        have hj : G κ (hv (wup s.1 s.2.1 (.inl (t, n.toNat, fun _ => .inr (.inr none))))) (s.2.1 + 1) (C' - (s.2.1 + 1)) (S - (s.2.2 + n.toNat)) (lcv L) (p + 3) (.ref s.2.1 :: stv r) := hj
        rw [hv_up, show C' - (s.2.1 + 1) = C' - s.2.1 - 1 by omega, show S - (s.2.2 + n.toNat) = S - s.2.2 - n.toNat by omega] at hj
        exact g_anewK hE.1 t ht q1 dd hg.1 hg.2 (by omega) (by omega) hj
      · cases h
    · cases h⟩
theorem x_anewa {idx t : Nat} {ht : t = 4 ∨ t = 5} {q1 : Cond.classLink θ.y.cls idx (oC t) ∈ lw_all} {dd : decode θ.cc p = .ok (.anewarray idx, 3)} {bb : Seg θ (p + 3) q} {n : Int} {st : Stk} {L : Lc} {w : Hp} {z m : Nat} (hn : 0 ≤ n ∧ n.toNat * 4 ≤ 536870912) : (seq (p_anewa t ht q1 dd) bb).1 (.inl n :: st) L (w, z, m) = bb.1 (.inr (.inr (some z)) :: st) L (wup w z (.inl (t, n.toNat, fun _ => .inr (.inr none))), z + 1, m + n.toNat) := by
  show bd (if 0 ≤ n ∧ n.toNat * 4 ≤ 536870912 then some (.inl (.inr (.inr (some z)) :: st, L, (wup w z (.inl (t, n.toNat, fun _ => .inr (.inr none))), z + 1, m + n.toNat))) else none) bb.1 = _
  rw [if_pos hn]
  rfl
/-- which classes may lie in an array of kind t -/
def okA (t ci : Nat) : Bool := match t with
  | 4 => ci == 2
  | 5 => ci < 17
  | _ => false
theorem okA_sound {t ci : Nat} (h : okA t ci = true) : ∃ q, CL[ci]? = some q ∧ (q.1 = oC t ∨ (q.1, oC t) ∈ NWc) ∧ ∀ f : Nat → ClassId, (ATs f)[t]? = some (f t, .object (oC t)) := by
  unfold okA at h
  split at h
  · have : ci = 2 := by simpa using h
    subst this
    exact ⟨_, rfl, Or.inl rfl, fun f => rfl⟩
  · have h : ci < 17 := by simpa using h
    have key : ∀ ci, ci < 17 → ∃ q, CL[ci]? = some q ∧ (q.1, oC 5) ∈ NWc := by
      intro ci h
      match ci, h with
      | 0, _ => exact ⟨_, rfl, List.mem_of_getElem? (i := 0) rfl⟩
      | 1, _ => exact ⟨_, rfl, List.mem_of_getElem? (i := 1) rfl⟩
      | 2, _ => exact ⟨_, rfl, List.mem_of_getElem? (i := 2) rfl⟩
      | 3, _ => exact ⟨_, rfl, List.mem_of_getElem? (i := 3) rfl⟩
      | 4, _ => exact ⟨_, rfl, List.mem_of_getElem? (i := 4) rfl⟩
      | 5, _ => exact ⟨_, rfl, List.mem_of_getElem? (i := 6) rfl⟩
      | 6, _ => exact ⟨_, rfl, List.mem_of_getElem? (i := 8) rfl⟩
      | 7, _ => exact ⟨_, rfl, List.mem_of_getElem? (i := 10) rfl⟩
      | 8, _ => exact ⟨_, rfl, List.mem_of_getElem? (i := 13) rfl⟩
      | 9, _ => exact ⟨_, rfl, List.mem_of_getElem? (i := 15) rfl⟩
      | 10, _ => exact ⟨_, rfl, List.mem_of_getElem? (i := 16) rfl⟩
      | 11, _ => exact ⟨_, rfl, List.mem_of_getElem? (i := 17) rfl⟩
      | 12, _ => exact ⟨_, rfl, List.mem_of_getElem? (i := 18) rfl⟩
      | 13, _ => exact ⟨_, rfl, List.mem_of_getElem? (i := 20) rfl⟩
      | 14, _ => exact ⟨_, rfl, List.mem_of_getElem? (i := 21) rfl⟩
      | 15, _ => exact ⟨_, rfl, List.mem_of_getElem? (i := 22) rfl⟩
      | n + 17, h => exact absurd h (by omega)
      | 16, _ => exact ⟨_, rfl, List.mem_of_getElem? (i := 24) rfl⟩
    obtain ⟨q, h1, h2⟩ := key ci h
    exact ⟨q, h1, Or.inr h2, fun f => rfl⟩
  · cases h
def p_aast (dd : decode θ.cc p = .ok (.aastore, 1)) : Seg θ p (p + 1) := ⟨fun st L s => match st with
  | .inr (.inr (some v)) :: .inl i :: .inr (.inr (some a)) :: r => match s.1 a, s.1 v with
    | some (.inl x), some (.inr y) => if okA x.1 y.1 = true ∧ (0 ≤ i ∧ i < x.2.1) ∧ x.2.1 ≤ 2147483647 then some (.inl (r, L, (wup s.1 a (.inl (x.1, x.2.1, iup x.2.2 i (.inr (.inr (some v))))), s.2))) else none
    | _, _ => none
  | _ => none, Nat.le_add_right _ _, fun st L s o h => by
    dsimp only at h
    split at h
    · rename_i v i a r
      split at h
      · rename_i x y hx hy
        split at h
        · rename_i hg
          cases h
          refine ⟨Le.rfl', fun κ PR PT C S hE hC hS hj => ?_⟩
          obtain ⟨t, n, f⟩ := x
          obtain ⟨hg1, hg2, hg3⟩ := hg
          have hx := hv_some hx
          have hy := hv_some hy
          obtain ⟨q, hq1, hq2, hq3⟩ := okA_sound hg1
          have hj : G κ (hv (wup s.1 a (.inl (t, n, iup f i (.inr (.inr (some v))))))) s.2.1 (C - s.2.1) (S - s.2.2) (lcv L) (p + 1) (stv r) := hj
          rw [hv_up] at hj
          rw [show ev (.inl (t, n, iup f i (.inr (.inr (some v))))) = .inl (t, n, iup (fun j => ve (f j)) i (ve (.inr (.inr (some v))))) from congrArg (fun z => Sum.inl (t, n, z)) iup_ve] at hj
          exact g_aast hE.1 (hq3 _) hx hy hq1 hq2 hg2 hg3 dd hj
        · cases h
      · cases h
    · cases h⟩
theorem x_aast {dd : decode θ.cc p = .ok (.aastore, 1)} {bb : Seg θ (p + 1) q} {st : Stk} {L : Lc} {s : St} {i : Int} {v a t n ci : Nat} {f : Int → V} {g : Nat → V} (h : s.1 a = some (.inl (t, n, f))) (h2 : s.1 v = some (.inr (ci, g))) (ho : okA t ci = true) (hi : 0 ≤ i ∧ i < n) (hn : n ≤ 2147483647) : (seq (p_aast dd) bb).1 (.inr (.inr (some v)) :: .inl i :: .inr (.inr (some a)) :: st) L s = bb.1 st L (wup s.1 a (.inl (t, n, iup f i (.inr (.inr (some v))))), s.2) := by
  show bd (match s.1 a, s.1 v with
    | some (.inl x), some (.inr y) => if okA x.1 y.1 = true ∧ (0 ≤ i ∧ i < x.2.1) ∧ x.2.1 ≤ 2147483647 then some (.inl (st, L, (wup s.1 a (.inl (x.1, x.2.1, iup x.2.2 i (.inr (.inr (some v))))), s.2))) else none
    | _, _ => none) bb.1 = _
  rw [h, h2]
  show bd (if okA t ci = true ∧ (0 ≤ i ∧ i < (n : Int)) ∧ n ≤ 2147483647 then some (.inl (st, L, (wup s.1 a (.inl (t, n, iup f i (.inr (.inr (some v))))), s.2))) else none) bb.1 = _
  rw [if_pos ⟨ho, hi, hn⟩]
  rfl
/-- static fields: 0 ArrayList's empty array, 4 and 5 Throwable's -/
def nvV : Nat → V
  | 0 => .inr (.inr none)
  | t + 1 => .inr (.inr (some t))
theorem nvV_e (k : Nat) : ve (nvV k) = nv k := by cases k <;> rfl
def p_gets0 {idx : Nat} (q1 : Cond.fieldLink θ.y.cls idx RJ2 "DEFAULTCAPACITY_EMPTY_ELEMENTDATA" "[Ljava/lang/Object;" ∈ lw_all) (dd : decode θ.cc p = .ok (.getstatic idx, 3)) : Seg θ p (p + 3) := ⟨fun st L s => some (.inl (.inr (.inr (some (θ.δ.2.2 0))) :: st, L, s)), Nat.le_add_right _ _, fun st L s o h => by
    cases h
    refine ⟨Le.rfl', fun κ PR PT C S hE hC hS hj => ?_⟩
    have hj : G κ (hv s.1) s.2.1 (C - s.2.1) (S - s.2.2) (lcv L) (p + 3) (.ref (θ.δ.2.2 0) :: stv st) := hj
    rw [← hE.2.2.2.1] at hj
    exact g_gets hE.1 hE.1.sx.1 q1 rfl dd hj⟩
theorem x_gets0 {idx : Nat} {q1 : Cond.fieldLink θ.y.cls idx RJ2 "DEFAULTCAPACITY_EMPTY_ELEMENTDATA" "[Ljava/lang/Object;" ∈ lw_all} {dd : decode θ.cc p = .ok (.getstatic idx, 3)} {bb : Seg θ (p + 3) q} {st : Stk} {L : Lc} {s : St} : (seq (p_gets0 q1 dd) bb).1 st L s = bb.1 (.inr (.inr (some (θ.δ.2.2 0))) :: st) L s := nrfl rfl
def p_gets4 {idx : Nat} (q1 : Cond.fieldLink θ.y.cls idx RJ3 "UNASSIGNED_STACK" "[Ljava/lang/StackTraceElement;" ∈ lw_all) (dd : decode θ.cc p = .ok (.getstatic idx, 3)) : Seg θ p (p + 3) := ⟨fun st L s => some (.inl (nvV (θ.δ.2.2 4) :: st, L, s)), Nat.le_add_right _ _, fun st L s o h => by
    cases h
    refine ⟨Le.rfl', fun κ PR PT C S hE hC hS hj => ?_⟩
    have hj : G κ (hv s.1) s.2.1 (C - s.2.1) (S - s.2.2) (lcv L) (p + 3) (ve (nvV (θ.δ.2.2 4)) :: stv st) := hj
    rw [← hE.2.2.2.1, nvV_e] at hj
    exact g_gets hE.1 hE.1.sx.2.2.1 q1 rfl dd hj⟩
theorem x_gets4 {idx : Nat} {q1 : Cond.fieldLink θ.y.cls idx RJ3 "UNASSIGNED_STACK" "[Ljava/lang/StackTraceElement;" ∈ lw_all} {dd : decode θ.cc p = .ok (.getstatic idx, 3)} {bb : Seg θ (p + 3) q} {st : Stk} {L : Lc} {s : St} : (seq (p_gets4 q1 dd) bb).1 st L s = bb.1 (nvV (θ.δ.2.2 4) :: st) L s := nrfl rfl
def p_gets5 {idx : Nat} (q1 : Cond.fieldLink θ.y.cls idx RJ3 "SUPPRESSED_SENTINEL" "Ljava/util/List;" ∈ lw_all) (dd : decode θ.cc p = .ok (.getstatic idx, 3)) : Seg θ p (p + 3) := ⟨fun st L s => some (.inl (nvV (θ.δ.2.2 5) :: st, L, s)), Nat.le_add_right _ _, fun st L s o h => by
    cases h
    refine ⟨Le.rfl', fun κ PR PT C S hE hC hS hj => ?_⟩
    have hj : G κ (hv s.1) s.2.1 (C - s.2.1) (S - s.2.2) (lcv L) (p + 3) (ve (nvV (θ.δ.2.2 5)) :: stv st) := hj
    rw [← hE.2.2.2.1, nvV_e] at hj
    exact g_gets hE.1 hE.1.sx.2.2.2.1 q1 rfl dd hj⟩
theorem x_gets5 {idx : Nat} {q1 : Cond.fieldLink θ.y.cls idx RJ3 "SUPPRESSED_SENTINEL" "Ljava/util/List;" ∈ lw_all} {dd : decode θ.cc p = .ok (.getstatic idx, 3)} {bb : Seg θ (p + 3) q} {st : Stk} {L : Lc} {s : St} : (seq (p_gets5 q1 dd) bb).1 st L s = bb.1 (nvV (θ.δ.2.2 5) :: st) L s := nrfl rfl
/-- texts: 1 "wrong", 2 "too much" -/
def p_ldcS (k : Nat) (hk : (k = 1 ∧ θ.y.cls = RX7) ∨ (k = 2 ∧ θ.y.cls = RX14)) (dd : decode θ.cc p = .ok (.ldc 1, 2)) : Seg θ p (p + 2) := ⟨fun st L s => some (.inl (.inr (.inr (some (θ.δ.2.2 k))) :: st, L, s)), Nat.le_add_right _ _, fun st L s o h => by
    cases h
    refine ⟨Le.rfl', fun κ PR PT C S hE hC hS hj => ?_⟩
    have hj : G κ (hv s.1) s.2.1 (C - s.2.1) (S - s.2.2) (lcv L) (p + 2) (.ref (θ.δ.2.2 k) :: stv st) := hj
    rw [← hE.2.2.2.1] at hj
    obtain ⟨-, -, -, -, -, -, -, ⟨h1, h2⟩, -⟩ := hE.1.K.2
    rcases hk with ⟨rfl, hk⟩ | ⟨rfl, hk⟩
    · rw [← hk] at h1
      exact g_ldcS hE.1 h1 dd hj
    · rw [← hk] at h2
      exact g_ldcS hE.1 h2 dd hj⟩
theorem x_ldcS {k : Nat} {hk : (k = 1 ∧ θ.y.cls = RX7) ∨ (k = 2 ∧ θ.y.cls = RX14)} {dd : decode θ.cc p = .ok (.ldc 1, 2)} {bb : Seg θ (p + 2) q} {st : Stk} {L : Lc} {s : St} : (seq (p_ldcS k hk dd) bb).1 st L s = bb.1 (.inr (.inr (some (θ.δ.2.2 k))) :: st) L s := nrfl rfl
def p_ldcM {idx : Nat} (q1 : Cond.classLink θ.y.cls idx "[Ljava/lang/Object;" ∈ lw_all) (dd : decode θ.cc p = .ok (.ldc idx, 2)) : Seg θ p (p + 2) := ⟨fun st L s => some (.inl (.inr (.inr (some (θ.δ.2.2 3))) :: st, L, s)), Nat.le_add_right _ _, fun st L s o h => by
    cases h
    refine ⟨Le.rfl', fun κ PR PT C S hE hC hS hj => ?_⟩
    have hj : G κ (hv s.1) s.2.1 (C - s.2.1) (S - s.2.2) (lcv L) (p + 2) (.ref (θ.δ.2.2 3) :: stv st) := hj
    rw [← hE.2.2.2.1] at hj
    obtain ⟨-, -, -, -, -, -, -, -, hM, -⟩ := hE.1.K.2
    exact g_ldcM hE.1 q1 hM dd hj⟩
theorem x_ldcM {idx : Nat} {q1 : Cond.classLink θ.y.cls idx "[Ljava/lang/Object;" ∈ lw_all} {dd : decode θ.cc p = .ok (.ldc idx, 2)} {bb : Seg θ (p + 2) q} {st : Stk} {L : Lc} {s : St} : (seq (p_ldcM q1 dd) bb).1 st L s = bb.1 (.inr (.inr (some (θ.δ.2.2 3))) :: st) L s := nrfl rfl
def p_getC {idx : Nat} (hd : 1 ≤ θ.d) (q1 : Cond.methodLink θ.y.cls idx mGC ∈ lw_all) (q2 : Cond.selects "[Ljava/lang/Object;" mGC mGC ∈ lw_all) (q3 : Cond.instanceMethod mGC ∈ lw_all) (q4 : Cond.native mGC ∈ lw_all) (dd : decode θ.cc p = .ok (.invokevirtual idx, 3)) : Seg θ p (p + 3) := ⟨fun st L s => match st with
  | .inr (.inr (some a)) :: r => match s.1 a with
    | some (.inl x) => if x.1 = 5 ∧ Nat.ble (wt r) 8 = true then some (.inl (.inr (.inr (some (θ.δ.2.2 3))) :: r, L, s)) else none
    | _ => none
  | _ => none, Nat.le_add_right _ _, fun st L s o h => by
    dsimp only at h
    split at h
    · rename_i a r
      split at h
      · rename_i x hx
        split at h
        · rename_i hg
          cases h
          refine ⟨Le.rfl', fun κ PR PT C S hE hC hS hj => ?_⟩
          obtain ⟨t, n, f⟩ := x
          obtain ⟨hg1, hg2⟩ := hg
          have hg1 : t = 5 := hg1
          subst hg1
          have hj : G κ (hv s.1) s.2.1 (C - s.2.1) (S - s.2.2) (lcv L) (p + 3) (.ref (θ.δ.2.2 3) :: stv r) := hj
          rw [← hE.2.2.2.1] at hj
          exact g_getC hE.1 hd q1 q2 q3 q4 (hv_some hx) (wt8 hg2) dd hj
        · cases h
      · cases h
    · cases h⟩
theorem x_getC {idx : Nat} {hd : 1 ≤ θ.d} {q1 : Cond.methodLink θ.y.cls idx mGC ∈ lw_all} {q2 : Cond.selects "[Ljava/lang/Object;" mGC mGC ∈ lw_all} {q3 : Cond.instanceMethod mGC ∈ lw_all} {q4 : Cond.native mGC ∈ lw_all} {dd : decode θ.cc p = .ok (.invokevirtual idx, 3)} {bb : Seg θ (p + 3) q} {st : Stk} {L : Lc} {s : St} {a n : Nat} {f : Int → V} (h : s.1 a = some (.inl (5, n, f))) (h3 : Nat.ble (wt st) 8 = true) : (seq (p_getC hd q1 q2 q3 q4 dd) bb).1 (.inr (.inr (some a)) :: st) L s = bb.1 (.inr (.inr (some (θ.δ.2.2 3))) :: st) L s := by
  show bd (match s.1 a with
    | some (.inl x) => if x.1 = 5 ∧ Nat.ble (wt st) 8 = true then some (.inl (.inr (.inr (some (θ.δ.2.2 3))) :: st, L, s)) else none
    | _ => none) bb.1 = _
  rw [h]
  show bd (if 5 = 5 ∧ Nat.ble (wt st) 8 = true then some (.inl (.inr (.inr (some (θ.δ.2.2 3))) :: st, L, s)) else none) bb.1 = _
  rw [if_pos ⟨rfl, h3⟩]
  rfl
/-- casts: to which of our classes the cast succeeds -/
def p_cast {idx : Nat} (yes : List Nat) (hy : ∀ ci ∈ yes, ∃ q, CL[ci]? = some q ∧ KY θ.y.cls idx q.1) (dd : decode θ.cc p = .ok (.checkcast idx, 3)) : Seg θ p (p + 3) := ⟨fun st L s => match st with
  | .inr (.inr (some a)) :: r => match s.1 a with
    | some (.inr x) => if yes.contains x.1 = true then some (.inl (.inr (.inr (some a)) :: r, L, s)) else none
    | _ => none
  | _ => none, Nat.le_add_right _ _, fun st L s o h => by
    dsimp only at h
    split at h
    · rename_i a r
      split at h
      · rename_i x hx
        split at h
        · rename_i hg
          cases h
          refine ⟨Le.rfl', fun κ PR PT C S hE hC hS hj => ?_⟩
          obtain ⟨q, hq1, hq2⟩ := hy x.1 (List.contains_iff_mem.mp hg)
          exact g_cast hE.1 (hv_some hx) hq1 hq2 dd hj
        · cases h
      · cases h
    · cases h⟩
theorem x_cast {idx : Nat} {yes : List Nat} {hy : ∀ ci ∈ yes, ∃ q, CL[ci]? = some q ∧ KY θ.y.cls idx q.1} {dd : decode θ.cc p = .ok (.checkcast idx, 3)} {bb : Seg θ (p + 3) q} {st : Stk} {L : Lc} {s : St} {a ci : Nat} {f : Nat → V} (h : s.1 a = some (.inr (ci, f))) (hc : yes.contains ci = true) : (seq (p_cast yes hy dd) bb).1 (.inr (.inr (some a)) :: st) L s = bb.1 (.inr (.inr (some a)) :: st) L s := by
  show bd (match s.1 a with
    | some (.inr x) => if yes.contains x.1 = true then some (.inl (.inr (.inr (some a)) :: st, L, s)) else none
    | _ => none) bb.1 = _
  rw [h]
  show bd (if yes.contains ci = true then some (.inl (.inr (.inr (some a)) :: st, L, s)) else none) bb.1 = _
  rw [if_pos hc]
  rfl
def p_inst {idx : Nat} (yes no : List Nat) (hy : ∀ ci ∈ yes, ∃ q, CL[ci]? = some q ∧ KY θ.y.cls idx q.1) (hn : ∀ ci ∈ no, ∃ q, CL[ci]? = some q ∧ KN θ.y.cls idx q.1) (dd : decode θ.cc p = .ok (.instanceof idx, 3)) : Seg θ p (p + 3) := ⟨fun st L s => match st with
  | .inr (.inr (some a)) :: r => match s.1 a with
    | some (.inr x) => if yes.contains x.1 = true then some (.inl (.inl 1 :: r, L, s)) else if no.contains x.1 = true then some (.inl (.inl 0 :: r, L, s)) else none
    | _ => none
  | _ => none, Nat.le_add_right _ _, fun st L s o h => by
    dsimp only at h
    split at h
    · rename_i a r
      split at h
      · rename_i x hx
        split at h
        · rename_i hg
          cases h
          refine ⟨Le.rfl', fun κ PR PT C S hE hC hS hj => ?_⟩
          obtain ⟨q, hq1, hq2⟩ := hy x.1 (List.contains_iff_mem.mp hg)
          exact g_instY hE.1 (hv_some hx) hq1 hq2 dd hj
        · split at h
          · rename_i hg
            cases h
            refine ⟨Le.rfl', fun κ PR PT C S hE hC hS hj => ?_⟩
            obtain ⟨q, hq1, hq2⟩ := hn x.1 (List.contains_iff_mem.mp hg)
            exact g_instN hE.1 (hv_some hx) hq1 hq2 dd hj
          · cases h
      · cases h
    · cases h⟩
theorem x_inst1 {idx : Nat} {yes no : List Nat} {hy : ∀ ci ∈ yes, ∃ q, CL[ci]? = some q ∧ KY θ.y.cls idx q.1} {hn : ∀ ci ∈ no, ∃ q, CL[ci]? = some q ∧ KN θ.y.cls idx q.1} {dd : decode θ.cc p = .ok (.instanceof idx, 3)} {bb : Seg θ (p + 3) q} {st : Stk} {L : Lc} {s : St} {a ci : Nat} {f : Nat → V} (h : s.1 a = some (.inr (ci, f))) (hc : yes.contains ci = true) : (seq (p_inst yes no hy hn dd) bb).1 (.inr (.inr (some a)) :: st) L s = bb.1 (.inl 1 :: st) L s := by
  show bd (match s.1 a with
    | some (.inr x) => if yes.contains x.1 = true then some (.inl (.inl 1 :: st, L, s)) else if no.contains x.1 = true then some (.inl (.inl 0 :: st, L, s)) else none
    | _ => none) bb.1 = _
  rw [h]
  show bd (if yes.contains ci = true then some (.inl (.inl 1 :: st, L, s)) else if no.contains ci = true then some (.inl (.inl 0 :: st, L, s)) else none) bb.1 = _
  rw [if_pos hc]
  rfl
theorem x_inst0 {idx : Nat} {yes no : List Nat} {hy : ∀ ci ∈ yes, ∃ q, CL[ci]? = some q ∧ KY θ.y.cls idx q.1} {hn : ∀ ci ∈ no, ∃ q, CL[ci]? = some q ∧ KN θ.y.cls idx q.1} {dd : decode θ.cc p = .ok (.instanceof idx, 3)} {bb : Seg θ (p + 3) q} {st : Stk} {L : Lc} {s : St} {a ci : Nat} {f : Nat → V} (h : s.1 a = some (.inr (ci, f))) (hc : yes.contains ci = false) (hc2 : no.contains ci = true) : (seq (p_inst yes no hy hn dd) bb).1 (.inr (.inr (some a)) :: st) L s = bb.1 (.inl 0 :: st) L s := by
  show bd (match s.1 a with
    | some (.inr x) => if yes.contains x.1 = true then some (.inl (.inl 1 :: st, L, s)) else if no.contains x.1 = true then some (.inl (.inl 0 :: st, L, s)) else none
    | _ => none) bb.1 = _
  rw [h]
  show bd (if yes.contains ci = true then some (.inl (.inl 1 :: st, L, s)) else if no.contains ci = true then some (.inl (.inl 0 :: st, L, s)) else none) bb.1 = _
  rw [if_neg (by rw [hc]; exact Bool.false_ne_true), if_pos hc2]
  rfl
theorem ve_rv (r : Option Nat) : ve (.inr (.inr r)) = rv r := by cases r <;> rfl
def p_acmp_eq {off : Int} (t : Nat) (dd : decode θ.cc p = .ok (.if_acmp .eq off, 3)) (ht : (p : Int) + off = (t : Int)) : Seg θ p (p + 3) := ⟨fun st L s => match st with
  | .inr (.inr b) :: .inr (.inr a) :: r => some (if a = b then .inr (.inl (t, r, L, s)) else .inl (r, L, s))
  | _ => none, Nat.le_add_right _ _, fun st L s o h => by
    dsimp only at h
    split at h
    · rename_i b a r
      cases h
      refine ⟨by split <;> exact Le.rfl', fun κ PR PT C S hE hC hS hk => ?_⟩
      show G κ _ _ _ _ _ _ (ve (.inr (.inr b)) :: ve (.inr (.inr a)) :: stv r)
      rw [ve_rv, ve_rv]
      exact g_acmp_eq hE.1 dd ht (fun c_ => by rw [if_pos c_] at hk; exact hk) (fun c_ => by rw [if_neg c_] at hk; exact hk)
    · cases h⟩
theorem x_acmp_eq {off : Int} {t : Nat} {dd : decode θ.cc p = .ok (.if_acmp .eq off, 3)} {ht : (p : Int) + off = (t : Int)} {bb : Seg θ (p + 3) q} {st : Stk} {L : Lc} {s : St} {a b : Option Nat} : (seq (p_acmp_eq t dd ht) bb).1 (.inr (.inr b) :: .inr (.inr a) :: st) L s = if a = b then some (.inr (.inl (t, st, L, s))) else bb.1 st L s := by
  show bd (some (if a = b then .inr (.inl (t, st, L, s)) else .inl (st, L, s))) bb.1 = _
  split <;> rfl
def p_acmp_ne {off : Int} (t : Nat) (dd : decode θ.cc p = .ok (.if_acmp .ne off, 3)) (ht : (p : Int) + off = (t : Int)) : Seg θ p (p + 3) := ⟨fun st L s => match st with
  | .inr (.inr b) :: .inr (.inr a) :: r => some (if ¬ a = b then .inr (.inl (t, r, L, s)) else .inl (r, L, s))
  | _ => none, Nat.le_add_right _ _, fun st L s o h => by
    dsimp only at h
    split at h
    · rename_i b a r
      cases h
      refine ⟨by split <;> exact Le.rfl', fun κ PR PT C S hE hC hS hk => ?_⟩
      show G κ _ _ _ _ _ _ (ve (.inr (.inr b)) :: ve (.inr (.inr a)) :: stv r)
      rw [ve_rv, ve_rv]
      exact g_acmp_ne hE.1 dd ht (fun c_ => by rw [if_pos c_] at hk; exact hk) (fun c_ => by rw [if_neg (fun z => z c_)] at hk; exact hk)
    · cases h⟩
theorem x_acmp_ne {off : Int} {t : Nat} {dd : decode θ.cc p = .ok (.if_acmp .ne off, 3)} {ht : (p : Int) + off = (t : Int)} {bb : Seg θ (p + 3) q} {st : Stk} {L : Lc} {s : St} {a b : Option Nat} : (seq (p_acmp_ne t dd ht) bb).1 (.inr (.inr b) :: .inr (.inr a) :: st) L s = if ¬ a = b then some (.inr (.inl (t, st, L, s))) else bb.1 st L s := by
  show bd (some (if ¬ a = b then .inr (.inl (t, st, L, s)) else .inl (st, L, s))) bb.1 = _
  split <;> rfl
/-- the length of an array, or of the JDK's empty one -/
def p_alenE (dd : decode θ.cc p = .ok (.arraylength, 1)) : Seg θ p (p + 1) := ⟨fun st L s => match st with
  | .inr (.inr (some a)) :: r => if a = θ.δ.2.2 0 then some (.inl (.inl 0 :: r, L, s)) else (p_alen (θ := θ) dd).1 (.inr (.inr (some a)) :: r) L s
  | _ => none, Nat.le_add_right _ _, fun st L s o h => by
    dsimp only at h
    split at h
    · rename_i a r
      split at h
      · rename_i ha
        cases h
        refine ⟨Le.rfl', fun κ PR PT C S hE hC hS hj => ?_⟩
        show G κ _ _ _ _ _ _ (.ref a :: stv r)
        rw [ha, ← hE.2.2.2.1]
        exact g_alen0 hE.1 dd hj
      · exact (p_alen (θ := θ) dd).2.2 _ _ _ _ h
    · cases h⟩
theorem x_alenE0 {dd : decode θ.cc p = .ok (.arraylength, 1)} {bb : Seg θ (p + 1) q} {st : Stk} {L : Lc} {s : St} : (seq (p_alenE dd) bb).1 (.inr (.inr (some (θ.δ.2.2 0))) :: st) L s = bb.1 (.inl 0 :: st) L s := by
  show bd (if θ.δ.2.2 0 = θ.δ.2.2 0 then some (.inl (.inl 0 :: st, L, s)) else _) bb.1 = _
  rw [if_pos rfl]
  rfl
theorem x_alenE {dd : decode θ.cc p = .ok (.arraylength, 1)} {bb : Seg θ (p + 1) q} {st : Stk} {L : Lc} {s : St} {a t n : Nat} {f : Int → V} (h : s.1 a = some (.inl (t, n, f))) (ht : t < 6) (ha : a ≠ θ.δ.2.2 0) : (seq (p_alenE dd) bb).1 (.inr (.inr (some a)) :: st) L s = bb.1 (.inl n :: st) L s := by
  show bd (if a = θ.δ.2.2 0 then some (.inl (.inl 0 :: st, L, s)) else (p_alen (θ := θ) dd).1 (.inr (.inr (some a)) :: st) L s) bb.1 = _
  rw [if_neg ha]
  exact x_alen h ht
/-- System.arraycopy of the first n places, bytes or references to our objects -/
def cpyV (f g : Int → V) (n : Int) : Int → V := fun i => if 0 ≤ i ∧ i < n then f i else g i
theorem cpy_ve {f g : Int → V} {n : Int} : (fun j => ve (cpyV f g n j)) = cpy (fun j => ve (f j)) (fun j => ve (g j)) n := by
  funext j
  unfold cpyV cpy
  split <;> rfl
noncomputable def p_copyB {idx : Nat} (hd : 1 ≤ θ.d) (q1 : Cond.methodLink θ.y.cls idx arraycopyName ∈ lw_all) (q2 : Cond.native arraycopyName ∈ lw_all) (q3 : Cond.static arraycopyName ∈ lw_all) (q4 : Cond.initialized "java/lang/System" ∈ lw_all) (dd : decode θ.cc p = .ok (.invokestatic idx, 3)) : Seg θ p (p + 3) := ⟨fun st L s => @ite _ (∃ (n : Int) (a0 a n0 n1 : Nat) (f g : Int → V) (r : Stk), st = .inl n :: .inl 0 :: .inr (.inr (some a)) :: .inl 0 :: .inr (.inr (some a0)) :: r ∧ s.1 a0 = some (.inl (1, n0, f)) ∧ s.1 a = some (.inl (1, n1, g)) ∧ 0 ≤ n ∧ n.toNat ≤ n0 ∧ n.toNat ≤ n1 ∧ n0 ≤ 2147483647 ∧ n1 ≤ 2147483647 ∧ Nat.ble (wt r) 8 = true ∧ ∀ i, 0 ≤ i → i < n → ∃ z, f i = .inl z ∧ -128 ≤ z ∧ z ≤ 127) (Classical.propDecidable _) (match st with
  | .inl n :: .inl _ :: .inr (.inr (some a)) :: .inl _ :: .inr (.inr (some a0)) :: r => match s.1 a0, s.1 a with
    | some (.inl x), some (.inl y) => some (.inl (r, L, (wup s.1 a (.inl (1, y.2.1, cpyV x.2.2 y.2.2 n)), s.2)))
    | _, _ => none
  | _ => none) none, Nat.le_add_right _ _, fun st L s o h => by
    dsimp only at h
    split at h
    · rename_i hg
      obtain ⟨n, a0, a, n0, n1, f, g, r, rfl, hx, hy, h0, h1, h2, h3, h4, h5, h6⟩ := hg
      dsimp only at h
      rw [hx, hy] at h
      cases h
      refine ⟨Le.rfl', fun κ PR PT C S hE hC hS hj => ?_⟩
      have hj : G κ (hv (wup s.1 a (.inl (1, n1, cpyV f g n)))) s.2.1 (C - s.2.1) (S - s.2.2) (lcv L) (p + 3) (stv r) := hj
      rw [hv_up] at hj
      rw [show ev (.inl (1, n1, cpyV f g n)) = .inl (1, n1, cpy (fun j => ve (f j)) (fun j => ve (g j)) n) from congrArg (fun z => Sum.inl (1, n1, z)) cpy_ve] at hj
      refine g_copy hE.1 (t := 1) (ty := .byte) hd q1 q2 q3 q4 rfl (hv_some hx) (hv_some hy) h0 h1 h2 h3 h4 ?_ (wt8 h5) dd hj
      intro H hH T hT vm₁ hal kA comp hk hkk i hi
      obtain ⟨z, hz, hz1, hz2⟩ := h6 (i : Int) (by omega) (by omega)
      dsimp only
      rw [hz]
      refine ⟨?_, trivial⟩
      have := pk_fb (Int32.ofInt z)
      rw [zByte_of ⟨hz1, hz2⟩] at this
      exact this
    · cases h⟩
theorem x_copyB {idx : Nat} {hd : 1 ≤ θ.d} {q1 : Cond.methodLink θ.y.cls idx arraycopyName ∈ lw_all} {q2 : Cond.native arraycopyName ∈ lw_all} {q3 : Cond.static arraycopyName ∈ lw_all} {q4 : Cond.initialized "java/lang/System" ∈ lw_all} {dd : decode θ.cc p = .ok (.invokestatic idx, 3)} {bb : Seg θ (p + 3) q} {st : Stk} {L : Lc} {s : St} {n : Int} {a0 a n0 n1 : Nat} {f g : Int → V} (hx : s.1 a0 = some (.inl (1, n0, f))) (hy : s.1 a = some (.inl (1, n1, g))) (h0 : 0 ≤ n ∧ n.toNat ≤ n0 ∧ n.toNat ≤ n1) (h3 : n0 ≤ 2147483647 ∧ n1 ≤ 2147483647) (h5 : Nat.ble (wt st) 8 = true) (h6 : ∀ i, 0 ≤ i → i < n → ∃ z, f i = .inl z ∧ -128 ≤ z ∧ z ≤ 127) :
    (seq (p_copyB hd q1 q2 q3 q4 dd) bb).1 (.inl n :: .inl 0 :: .inr (.inr (some a)) :: .inl 0 :: .inr (.inr (some a0)) :: st) L s = bb.1 st L (wup s.1 a (.inl (1, n1, cpyV f g n)), s.2) := by
  have hc : (p_copyB (θ := θ) hd q1 q2 q3 q4 dd).1 (.inl n :: .inl 0 :: .inr (.inr (some a)) :: .inl 0 :: .inr (.inr (some a0)) :: st) L s = some (.inl (st, L, (wup s.1 a (.inl (1, n1, cpyV f g n)), s.2))) := by
    refine (if_pos ⟨n, a0, a, n0, n1, f, g, st, rfl, hx, hy, h0.1, h0.2.1, h0.2.2, h3.1, h3.2, h5, h6⟩).trans ?_
    rw [hx, hy]
  show bd ((p_copyB (θ := θ) hd q1 q2 q3 q4 dd).1 _ L s) bb.1 = _
  rw [hc]
  rfl
noncomputable def p_copyO {idx : Nat} (hd : 1 ≤ θ.d) (q1 : Cond.methodLink θ.y.cls idx arraycopyName ∈ lw_all) (q2 : Cond.native arraycopyName ∈ lw_all) (q3 : Cond.static arraycopyName ∈ lw_all) (q4 : Cond.initialized "java/lang/System" ∈ lw_all) (dd : decode θ.cc p = .ok (.invokestatic idx, 3)) : Seg θ p (p + 3) := ⟨fun st L s => @ite _ (∃ (n : Int) (a0 a n0 n1 : Nat) (f g : Int → V) (r : Stk), st = .inl n :: .inl 0 :: .inr (.inr (some a)) :: .inl 0 :: .inr (.inr (some a0)) :: r ∧ s.1 a0 = some (.inl (5, n0, f)) ∧ s.1 a = some (.inl (5, n1, g)) ∧ 0 ≤ n ∧ n.toNat ≤ n0 ∧ n.toNat ≤ n1 ∧ n0 ≤ 2147483647 ∧ n1 ≤ 2147483647 ∧ Nat.ble (wt r) 8 = true ∧ ∀ i, 0 ≤ i → i < n → f i = .inr (.inr none) ∨ ∃ y ci h, f i = .inr (.inr (some y)) ∧ s.1 y = some (.inr (ci, h)) ∧ okA 5 ci = true) (Classical.propDecidable _) (match st with
  | .inl n :: .inl _ :: .inr (.inr (some a)) :: .inl _ :: .inr (.inr (some a0)) :: r => match s.1 a0, s.1 a with
    | some (.inl x), some (.inl y) => some (.inl (r, L, (wup s.1 a (.inl (5, y.2.1, cpyV x.2.2 y.2.2 n)), s.2)))
    | _, _ => none
  | _ => none) none, Nat.le_add_right _ _, fun st L s o h => by
    dsimp only at h
    split at h
    · rename_i hg
      obtain ⟨n, a0, a, n0, n1, f, g, r, rfl, hx, hy, h0, h1, h2, h3, h4, h5, h6⟩ := hg
      dsimp only at h
      rw [hx, hy] at h
      cases h
      refine ⟨Le.rfl', fun κ PR PT C S hE hC hS hj => ?_⟩
      have hj : G κ (hv (wup s.1 a (.inl (5, n1, cpyV f g n)))) s.2.1 (C - s.2.1) (S - s.2.2) (lcv L) (p + 3) (stv r) := hj
      rw [hv_up] at hj
      rw [show ev (.inl (5, n1, cpyV f g n)) = .inl (5, n1, cpy (fun j => ve (f j)) (fun j => ve (g j)) n) from congrArg (fun z => Sum.inl (5, n1, z)) cpy_ve] at hj
      refine g_copy hE.1 (t := 5) (ty := .object "java/lang/Object") hd q1 q2 q3 q4 rfl (hv_some hx) (hv_some hy) h0 h1 h2 h3 h4 ?_ (wt8 h5) dd hj
      intro H hH T hT vm₁ hal kA comp hk hkk i hi
      dsimp only
      rcases h6 (i : Int) (by omega) (by omega) with hz | ⟨y, ci, hh, hz, hyy, hok⟩
      · rw [hz]
        exact ⟨rfl, trivial⟩
      · rw [hz]
        obtain ⟨q, hq1, hq2, -⟩ := okA_sound hok
        obtain ⟨cellV, g1, g2, g3⟩ := recv_of' hE.1 hH (hv_some hyy) hq1
        obtain ⟨-, hfc, kC, hkC, -⟩ := hE.1.K.1.1 ci q hq1
        have hcc : κ.δ.1.1 ci = cellV.cls := Option.some.inj (hfc.symm.trans g3)
        rw [hcc] at hfc hkC
        obtain ⟨kA', comp', r1, r2, r3, -⟩ := (hE.1.K.1.2 5 (κ.δ.2.1 5, .object "java/lang/Object") rfl).2
        cases hk.symm.trans r1
        cases hkk.symm.trans r2
        obtain ⟨kE, hkE, -⟩ := Vm.findClass_spec r3
        obtain ⟨kC', hkC', -⟩ := hal.2.2 _ _ hkC
        obtain ⟨kE', hkE', -⟩ := hal.2.2 _ _ hkE
        refine ⟨rfl, cellV, (show T.heap[y]? = some cellV by rw [hT]; exact g1), (fun q h => by rw [h] at g2; cases g2), ⟨kC', hkC'⟩, ⟨kE', hkE'⟩, ?_⟩
        show vm₁.assignable _ _ = true
        rw [hal.assignable]
        rcases hq2 with hq2 | hq2
        · rw [hq2] at hfc
          cases r3.symm.trans hfc
          unfold Vm.assignable
          show κ.s.vm.assignableAux (255 + 1) _ _ = true
          rw [Vm.assignableAux]
          simp
        · obtain ⟨c0, t1, f1, f2, f3⟩ := Cond.castable_spec (va_Nw.use (A := κ.as) rfl (hE.1.K.2.2.2.1 _ hq2))
          cases hfc.symm.trans f1
          cases r3.symm.trans f2
          exact f3
    · cases h⟩
theorem x_copyO {idx : Nat} {hd : 1 ≤ θ.d} {q1 : Cond.methodLink θ.y.cls idx arraycopyName ∈ lw_all} {q2 : Cond.native arraycopyName ∈ lw_all} {q3 : Cond.static arraycopyName ∈ lw_all} {q4 : Cond.initialized "java/lang/System" ∈ lw_all} {dd : decode θ.cc p = .ok (.invokestatic idx, 3)} {bb : Seg θ (p + 3) q} {st : Stk} {L : Lc} {s : St} {n : Int} {a0 a n0 n1 : Nat} {f g : Int → V} (hx : s.1 a0 = some (.inl (5, n0, f))) (hy : s.1 a = some (.inl (5, n1, g))) (h0 : 0 ≤ n ∧ n.toNat ≤ n0 ∧ n.toNat ≤ n1) (h3 : n0 ≤ 2147483647 ∧ n1 ≤ 2147483647) (h5 : Nat.ble (wt st) 8 = true) (h6 : ∀ i, 0 ≤ i → i < n → f i = .inr (.inr none) ∨ ∃ y ci h, f i = .inr (.inr (some y)) ∧ s.1 y = some (.inr (ci, h)) ∧ okA 5 ci = true) :
    (seq (p_copyO hd q1 q2 q3 q4 dd) bb).1 (.inl n :: .inl 0 :: .inr (.inr (some a)) :: .inl 0 :: .inr (.inr (some a0)) :: st) L s = bb.1 st L (wup s.1 a (.inl (5, n1, cpyV f g n)), s.2) := by
  have hc : (p_copyO (θ := θ) hd q1 q2 q3 q4 dd).1 (.inl n :: .inl 0 :: .inr (.inr (some a)) :: .inl 0 :: .inr (.inr (some a0)) :: st) L s = some (.inl (st, L, (wup s.1 a (.inl (5, n1, cpyV f g n)), s.2))) := by
    refine (if_pos ⟨n, a0, a, n0, n1, f, g, st, rfl, hx, hy, h0.1, h0.2.1, h0.2.2, h3.1, h3.2, h5, h6⟩).trans ?_
    rw [hx, hy]
  show bd ((p_copyO (θ := θ) hd q1 q2 q3 q4 dd).1 _ L s) bb.1 = _
  rw [hc]
  rfl
end CSG
