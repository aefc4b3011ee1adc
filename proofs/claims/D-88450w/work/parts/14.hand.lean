/-! ===== methods with a handler; the law's own segments ===== -/
set_option maxRecDepth 100000
def MSW (l : Launch) (δ : Dl) (y : MethodName) (ws : List Cond) (d : Nat) (f : MDen) : Prop := ∀ av s v s', f av s = some (.inl v, s') → Le s s' ∧ MC l δ y ws d (s'.2.1 - s.2.1) (s'.2.2 - s.2.2) (av.map ve) (hv s.1) s.2.1 (v.map ve) (hv s'.1) s'.2.1
def MthW (l : Launch) (δ : Dl) (y : MethodName) (b : ByteArray) (n : Nat) (ret : Option FieldType) (hh : List (Nat × Nat × Nat × Nat)) (d : Nat) : Type := { f : MDen // MSW l δ y (wsW_ y b n ret hh) d f }
theorem mcW_of {θ : Ix} {hh : List (Nat × Nat × Nat × Nat)} (hy : plainName θ.y.cls = true) {av : List V} {s s' : St} {v : Option V} (hlen : Nat.ble (wsz av) θ.nL = true)
    (body : ∀ κ, Ev θ κ (fun v2 w2 sz2 => v2 = v.map ve ∧ w2 = hv s'.1 ∧ sz2 = s'.2.1) (fun _ _ _ => False) → κ.c.exceptionTable.toList.map (fun h => (h.startPc, h.endPc, h.handlerPc, h.catchType)) = hh → J κ s'.2.1 s'.2.2 0 [] (pad θ.nL (lcs av)) s) :
    MC θ.l θ.δ θ.y (wsW_ θ.y θ.cc θ.nL θ.ret hh) θ.d (s'.2.1 - s.2.1) (s'.2.2 - s.2.2) (av.map ve) (hv s.1) s.2.1 (v.map ve) (hv s'.1) s'.2.1 := by
  have hlen : (lg_sl (av.map ve)).length ≤ θ.nL := by rw [wsz_eq]; exact Nat.le_of_ble_eq_true hlen
  unfold MC Met
  refine Met.ofW2 (cc := θ.cc) (maxL := θ.nL) (ret := θ.ret) hy ?_ ?_
  · intro args u m h hn
    obtain ⟨m', meth, c, hn', h1, h2, h3, h4, h5, h6, h7, h8⟩ := Cond.codeWith_spec (atoms_spec (ws := wsW_ θ.y θ.cc θ.nL θ.ret hh) h _ List.mem_cons_self)
    cases hn.symm.trans hn'
    exact ⟨meth, c, h1, h2, h3, h4, h6, h7⟩
  intro p e u m args below meth c s₁ BL hml hP
  obtain ⟨rfl, hsz, hH, hK, hX⟩ := hP
  have hts0 := atoms_spec (ws := wsW_ θ.y θ.cc θ.nL θ.ret hh) BL.pre
  have hts : ∀ w ∈ lw_all, w.before _ u = true := fun w h => hts0 w (List.mem_cons_of_mem _ h)
  obtain ⟨m', meth', c', hn', hm', hc', -, -, htab, -, -, -⟩ := Cond.codeWith_spec (hts0 _ List.mem_cons_self)
  cases BL.named.symm.trans hn'
  cases BL.method.symm.trans hm'
  cases (Stand.of_body BL).code.symm.trans hc'
  have hl := lv_entry (av.map ve) (n := θ.nL) hlen
  rw [lg_entry_eq]
  rw [← lcs_args, ← lvs_pad θ.nL] at hl
  have hin : meth.name = θ.y.name := (name_of_methodNamed BL.named BL.method).1
  have hA : ∀ q, u.heap.size ≤ q → WA (hv s.1) s.2.1 q := fun q hq => Or.inr (by rw [← hsz]; exact hq)
  have hgo := body ((p, θ.l, e, rmOf θ.d (s'.2.1 - s.2.1) (s'.2.2 - s.2.2), u), (m, (av.map ve).toArray, below, meth, c), (θ.nL, θ.δ, WA (hv s.1) s.2.1, MQ below (QcO θ.δ (.returned (v.map ve)) (hv s'.1) s'.2.1 (WA (hv s.1) s.2.1)) (av.map ve).toArray u (s'.2.1 - s.2.1) (s'.2.2 - s.2.2) (WA (hv s.1) s.2.1)))
    ⟨⟨BL.exec, BL.bytes, hml, findClass_of_methodNamed BL.named, hts, BL.notSynchronized, hK, hA, Nat.le_refl _, Nat.le_refl _, hX⟩, ⟨BL.returns, by rintro v w' sz' t ⟨rfl, rfl, rfl⟩ ht; exact ht, fun _ _ _ _ hf => hf.elim⟩, rfl, rfl, rfl, hin⟩ htab
    u.heap [] _ 0 0 hsz hH (fun a ha => Or.inl ha) va_S.rf hl (by show 0 + _ ≤ _; rw [Nat.zero_add]; exact Nat.le_refl _) (by show 0 + _ ≤ _; rw [Nat.zero_add]; exact Nat.le_refl _)
  intro T hT X
  obtain ⟨t, a1, oc, b1, b2, b3, b4⟩ := hgo T hT X
  exact ⟨t, a1, oc, b1, b2, b3, b4⟩
def rR (o : Option Ou) : Option (Rs × St) := match o with
  | some (.inr (.inr (.inl x))) => some (.inl x.1, x.2)
  | _ => none
theorem rR_r {v : Option V} {s : St} : rR (some (.inr (.inr (.inl (v, s))))) = some (.inl v, s) := nrfl rfl
theorem rR_ite {c : Prop} [Decidable c] {x y : Option Ou} : rR (if c then x else y) = if c then rR x else rR y := by split <;> rfl
/-- a try block behind its start: it falls through to its end's code, or its exception goes to the handler -/
def trD (f g h : Den) (ci : Nat) (st : Stk) (L : Lc) (s : St) : Option (Rs × St) := match f st L s with
  | some (.inl y) => rR (g y.1 y.2.1 y.2.2)
  | some (.inr (.inr (.inl y))) => some (.inl y.1, y.2)
  | some (.inr (.inr (.inr y))) => match y.2.2.1 y.1 with
    | some (.inr z) => if z.1 = ci then rR (h [.inr (.inr (some y.1))] y.2.1 y.2.2) else none
    | _ => none
  | _ => none
def wD (p0 f g h : Den) (ci : Nat) (st : Stk) (L : Lc) (s : St) : Option (Rs × St) := match p0 st L s with
  | some (.inl x) => trD f g h ci x.1 x.2.1 x.2.2
  | some (.inr (.inr (.inl x))) => some (.inl x.1, x.2)
  | _ => none
theorem rR_some {o : Option Ou} {r : Rs} {s : St} (h : rR o = some (r, s)) : ∃ v, r = .inl v ∧ o = some (.inr (.inr (.inl (v, s)))) := by
  unfold rR at h
  split at h
  · rename_i x
    cases h
    exact ⟨x.1, rfl, rfl⟩
  · cases h
theorem w_sound {θ : Ix} {f t e hp e2 ct ci : Nat} {nm : String} (pre : Seg θ 0 f) (tr : Seg θ f t) (po : Seg θ t e) (hd : Seg θ hp e2) (hC : cR ci = some nm) (hct : ct ≠ 0) (q1 : Cond.classLink θ.y.cls ct nm ∈ lw_all) (hy : plainName θ.y.cls = true) :
    MSW θ.l θ.δ θ.y (wsW_ θ.y θ.cc θ.nL θ.ret [(f, t, hp, ct)]) θ.d (fun av s => if Nat.ble (wsz av) θ.nL = true then wD pre.1 tr.1 po.1 hd.1 ci [] (pad θ.nL (lcs av)) s else none) := by
  intro av s v s' h
  dsimp only at h
  split at h
  · rename_i hlen
    unfold wD at h
    split at h
    · rename_i x hx
      obtain ⟨hle0, k0⟩ := pre.2.2 _ _ _ _ hx
      unfold trD at h
      split at h
      · rename_i y hyy
        obtain ⟨hle1, k1⟩ := tr.2.2 _ _ _ _ hyy
        obtain ⟨v2, hv2, hz⟩ := rR_some h
        cases hv2
        obtain ⟨hle2, k2⟩ := po.2.2 _ _ _ _ hz
        refine ⟨hle0.tr (hle1.tr hle2), mcW_of hy hlen fun κ hE htab => ?_⟩
        have l2 : Le x.2.2 s' := hle1.tr hle2
        have l3 : Le y.2.2 s' := hle2
        refine k0 κ _ _ s'.2.1 s'.2.2 hE l2.1 l2.2 ?_
        refine k1 κ _ _ s'.2.1 s'.2.2 hE l3.1 l3.2 ?_
        exact k2 κ _ _ s'.2.1 s'.2.2 hE (Nat.le_refl _) (Nat.le_refl _) ⟨rfl, rfl, rfl⟩
      · rename_i y hyy
        cases h
        obtain ⟨hle1, k1⟩ := tr.2.2 _ _ _ _ hyy
        refine ⟨hle0.tr hle1, mcW_of hy hlen fun κ hE htab => ?_⟩
        refine k0 κ _ _ _ _ hE hle1.1 hle1.2 ?_
        exact k1 κ _ _ _ _ hE (Nat.le_refl _) (Nat.le_refl _) ⟨rfl, rfl, rfl⟩
      · rename_i y hyy
        obtain ⟨hle1, k1⟩ := tr.2.2 _ _ _ _ hyy
        split at h
        · rename_i z hz
          split at h
          · rename_i hci
            obtain ⟨v2, hv2, hh⟩ := rR_some h
            cases hv2
            obtain ⟨hle2, k2⟩ := hd.2.2 _ _ _ _ hh
            obtain ⟨q, hq1, hq2⟩ := cR_of hC
            refine ⟨hle0.tr (hle1.tr hle2), mcW_of hy hlen fun κ hE htab => ?_⟩
            have l2 : Le x.2.2 s' := hle1.tr hle2
            have l3 : Le y.2.2 s' := hle2
            refine k0 κ _ _ s'.2.1 s'.2.2 hE l2.1 l2.2 ?_
            refine k1 κ _ _ s'.2.1 s'.2.2 hE l3.1 l3.2 ?_
            intro r hr1 hr2
            have hj := k2 κ _ _ s'.2.1 s'.2.2 hE (Nat.le_refl _) (Nat.le_refl _) ⟨rfl, rfl, rfl⟩
            obtain ⟨c, fz⟩ := z
            have hci : c = ci := hci
            subst hci
            exact g_catch hE.1 htab ⟨hr1, hr2⟩ hct q1 (hv_some hz) hq1 hq2 hj
          · cases h
        · cases h
      · cases h
    · rename_i x hx
      cases h
      obtain ⟨hle0, k0⟩ := pre.2.2 _ _ _ _ hx
      refine ⟨hle0, mcW_of hy hlen fun κ hE htab => ?_⟩
      exact k0 κ _ _ _ _ hE (Nat.le_refl _) (Nat.le_refl _) ⟨rfl, rfl, rfl⟩
    · cases h
  · cases h
def mkW {l : Launch} {δ : Dl} {y : MethodName} {d : Nat} {ret : Option FieldType} {cc : ByteArray} {nL f t e hp e2 ct : Nat} {nm : String} (ci : Nat) (pre : Seg (l, δ, y, d, ret, cc, nL) 0 f) (tr : Seg (l, δ, y, d, ret, cc, nL) f t) (po : Seg (l, δ, y, d, ret, cc, nL) t e) (hd : Seg (l, δ, y, d, ret, cc, nL) hp e2) (hC : cR ci = some nm) (hct : ct ≠ 0) (q1 : Cond.classLink y.cls ct nm ∈ lw_all) (hy : plainName y.cls = true) : MthW l δ y cc nL ret [(f, t, hp, ct)] d := ⟨_, w_sound pre tr po hd hC hct q1 hy⟩
theorem mkW_eq {l : Launch} {δ : Dl} {y : MethodName} {d : Nat} {ret : Option FieldType} {cc : ByteArray} {nL f t e hp e2 ct ci : Nat} {nm : String} {pre : Seg (l, δ, y, d, ret, cc, nL) 0 f} {tr : Seg (l, δ, y, d, ret, cc, nL) f t} {po : Seg (l, δ, y, d, ret, cc, nL) t e} {hd : Seg (l, δ, y, d, ret, cc, nL) hp e2} {hC : cR ci = some nm} {hct : ct ≠ 0} {q1 : Cond.classLink y.cls ct nm ∈ lw_all} {hy : plainName y.cls = true} {av : List V} {s : St} (h : Nat.ble (wsz av) nL = true) : (mkW ci pre tr po hd hC hct q1 hy).1 av s = wD pre.1 tr.1 po.1 hd.1 ci [] (pad nL (lcs av)) s := if_pos h
theorem ok_W {θ : Ix} {p : Nat} {C : String} {idx : Nat} {y : MethodName} {b : ByteArray} {n na d' : Nat} {retC : Option FieldType} {hh : List (Nat × Nat × Nat × Nat)} (ci : Nat) (cv : CVW θ.y.cls idx C y b n retC hh na) (hC : cR ci = some C) (M : MthW θ.l θ.δ y b n retC hh d') (hd : d' < θ.d) (dd : decode θ.cc p = .ok (.invokevirtual idx, 3)) : CallOk θ p (p + 3) (na + 1) (rO (dO ci M.1)) := by
  intro as s rs s' hl h
  obtain ⟨v, rfl, h2⟩ := rO_some h
  obtain ⟨o, t, f, rfl, hx, hm⟩ := dO_some h2
  obtain ⟨hle, hM⟩ := M.2 _ _ _ _ hm
  obtain ⟨q, hq1, hq2⟩ := cR_of hC
  have hlt : (t.map ve).length = na := by simpa using hl
  refine ⟨hle, fun κ PR PT hE r L kc ks hw hc hs => ⟨fun v2 hv' kk => ?_, fun x hv' kk => by cases hv'⟩⟩
  cases hv'
  rw [← hE.2.2.2.1, ← hE.2.2.2.2.1] at hM
  rw [stv_args]
  exact g_callVW hE.1 (o := o) (ci := ci) cv hM (hv_some hx) hq1 hq2 rfl hlt dd hd hc hs (by rw [wt_ve]; exact hw) (by rw [toList_map]; exact kk)
/-! the script -/
def scr (δ : Dl) (i : Int) : Int := (Int32.ofNat (δ.2.2 (8 + i.toNat))).toInt
theorem scr_r (δ : Dl) (i : Int) : -2147483648 ≤ scr δ i ∧ scr δ i ≤ 2147483647 := i32_r _
section LAWS
variable {θ : Ix} {p q : Nat}
def p_sld (dd : decode θ.cc p = .ok (.iaload, 1)) : Seg θ p (p + 1) := ⟨fun st L s => match st with
  | .inl i :: .inr (.inr (some a)) :: r => if a = θ.δ.2.2 6 ∧ (0 ≤ i ∧ i < θ.δ.2.2 7) ∧ θ.δ.2.2 7 ≤ 2147483647 then some (.inl (.inl (scr θ.δ i) :: r, L, s)) else none
  | _ => none, Nat.le_add_right _ _, fun st L s o h => by
    dsimp only at h
    split at h
    · rename_i i a r
      split at h
      · rename_i hg
        cases h
        refine ⟨Le.rfl', fun κ PR PT C S hE hC hS hj => ?_⟩
        obtain ⟨hg1, hg2, hg3⟩ := hg
        subst hg1
        rw [← hE.2.2.2.1] at hg2 hg3
        have hj : G κ (hv s.1) s.2.1 (C - s.2.1) (S - s.2.2) (lcv L) (p + 1) (vI (scr θ.δ i) :: stv r) := hj
        rw [scr, vI_ti, ← hE.2.2.2.1] at hj
        show G κ _ _ _ _ _ _ (vI i :: .ref (θ.δ.2.2 6) :: stv r)
        rw [← hE.2.2.2.1]
        exact g_sld hE.1 hg2 hg3 dd hj
      · cases h
    · cases h⟩
theorem x_sld {dd : decode θ.cc p = .ok (.iaload, 1)} {bb : Seg θ (p + 1) q} {st : Stk} {L : Lc} {s : St} {i : Int} (hi : 0 ≤ i ∧ i < θ.δ.2.2 7) (hn : θ.δ.2.2 7 ≤ 2147483647) : (seq (p_sld dd) bb).1 (.inl i :: .inr (.inr (some (θ.δ.2.2 6))) :: st) L s = bb.1 (.inl (scr θ.δ i) :: st) L s := by
  show bd (if θ.δ.2.2 6 = θ.δ.2.2 6 ∧ (0 ≤ i ∧ i < θ.δ.2.2 7) ∧ θ.δ.2.2 7 ≤ 2147483647 then some (.inl (.inl (scr θ.δ i) :: st, L, s)) else none) bb.1 = _
  rw [if_pos ⟨rfl, hi, hn⟩]
  rfl
def p_slen (dd : decode θ.cc p = .ok (.arraylength, 1)) : Seg θ p (p + 1) := ⟨fun st L s => match st with
  | .inr (.inr (some a)) :: r => if a = θ.δ.2.2 6 then some (.inl (.inl (θ.δ.2.2 7 : Nat) :: r, L, s)) else none
  | _ => none, Nat.le_add_right _ _, fun st L s o h => by
    dsimp only at h
    split at h
    · rename_i a r
      split at h
      · rename_i hg
        cases h
        refine ⟨Le.rfl', fun κ PR PT C S hE hC hS hj => ?_⟩
        subst hg
        have hj : G κ (hv s.1) s.2.1 (C - s.2.1) (S - s.2.2) (lcv L) (p + 1) (vI ((θ.δ.2.2 7 : Nat) : Int) :: stv r) := hj
        rw [← hE.2.2.2.1] at hj
        show G κ _ _ _ _ _ _ (.ref (θ.δ.2.2 6) :: stv r)
        rw [← hE.2.2.2.1]
        exact g_slen hE.1 dd hj
      · cases h
    · cases h⟩
theorem x_slen {dd : decode θ.cc p = .ok (.arraylength, 1)} {bb : Seg θ (p + 1) q} {st : Stk} {L : Lc} {s : St} : (seq (p_slen dd) bb).1 (.inr (.inr (some (θ.δ.2.2 6))) :: st) L s = bb.1 (.inl (θ.δ.2.2 7 : Nat) :: st) L s := by
  show bd (if θ.δ.2.2 6 = θ.δ.2.2 6 then some (.inl (.inl (θ.δ.2.2 7 : Nat) :: st, L, s)) else none) bb.1 = _
  rw [if_pos rfl]
  rfl
end LAWS
