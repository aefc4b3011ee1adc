/-! ===== segments that touch the heap; switches; calls; methods ===== -/
set_option maxRecDepth 100000
theorem lookup_mem {alts : List (Nat × Nat)} {c k : Nat} (h : alts.lookup c = some k) : (c, k) ∈ alts := by
  induction alts with
  | nil => cases h
  | cons x t ih =>
    obtain ⟨a, b⟩ := x
    rw [List.lookup_cons] at h
    by_cases hc : c = a
    · subst hc
      simp at h
      subst h
      exact List.mem_cons_self
    · have : (c == a) = false := by simp [hc]
      rw [this] at h
      exact List.mem_cons_of_mem _ (ih h)
def okVb : FieldType → V → Bool
  | .int, .inl _ => true
  | .boolean, .inl z => decide (z = 0 ∨ z = 1)
  | .char, .inl z => decide (0 ≤ z ∧ z ≤ 65535)
  | .long, .inr (.inl _) => true
  | .object _, .inr (.inr _) => true
  | .array _, .inr (.inr _) => true
  | _, _ => false
theorem okV_sound {ty : FieldType} {v : V} (h : okVb ty v = true) : narrow ty (ve v) = ve v ∧ fits ty (ve v) = true := by
  unfold okVb at h
  split at h
  · exact ⟨rfl, rfl⟩
  · rename_i z
    have h : z = 0 ∨ z = 1 := by simpa using h
    exact ⟨nar_z h, by rcases h with rfl | rfl <;> decide⟩
  · rename_i z
    have h : 0 ≤ z ∧ z ≤ 65535 := by simpa using h
    have e : ve (.inl z) = .int (nI z.toNat) := by
      show Value.int (Int32.ofInt z) = _
      rw [nI, ← Int32.ofInt_eq_ofNat, Int.toNat_of_nonneg h.1]
    rw [e]
    exact pk_charN (by omega)
  · exact ⟨rfl, rfl⟩
  · rename_i z
    cases z <;> exact ⟨rfl, rfl⟩
  · rename_i z
    cases z <;> exact ⟨rfl, rfl⟩
  · cases h
theorem fup_ve {f : Nat → V} {k : Nat} {v : V} : (fun j => ve (fup f k v j)) = fup (fun j => ve (f j)) k (ve v) := by
  funext j
  unfold fup
  split <;> rfl
theorem iup_ve {f : Int → V} {k : Int} {v : V} : (fun j => ve (iup f k v j)) = iup (fun j => ve (f j)) k (ve v) := by
  funext j
  unfold iup
  split <;> rfl
section HSG
variable {θ : Ix} {p q : Nat}
def p_get {idx : Nat} (alts : List (Nat × Nat)) (F : ∀ c ∈ alts, FL θ.y.cls idx c.1 c.2) (dd : decode θ.cc p = .ok (.getfield idx, 3)) : Seg θ p (p + 3) := ⟨fun st L s => match st with
  | .inr (.inr (some a)) :: r => match s.1 a with
    | some (.inr x) => match alts.lookup x.1 with
      | some k => some (.inl (x.2 k :: r, L, s))
      | none => none
    | _ => none
  | _ => none, Nat.le_add_right _ _, fun st L s o h => by
    dsimp only at h
    split at h
    · split at h
      · rename_i x hx
        split at h
        · rename_i k hk
          cases h
          exact ⟨Le.rfl', fun κ PR PT C S hE hC hS hj => g_get hE.1 (F _ (lookup_mem hk)) (hv_some hx) rfl dd hj⟩
        · cases h
      · cases h
    · cases h⟩
theorem x_get {idx : Nat} {alts : List (Nat × Nat)} {F : ∀ c ∈ alts, FL θ.y.cls idx c.1 c.2} {dd : decode θ.cc p = .ok (.getfield idx, 3)} {bb : Seg θ (p + 3) q} {st : Stk} {L : Lc} {s : St} {a c k : Nat} {f : Nat → V} (h : s.1 a = some (.inr (c, f))) (hk : alts.lookup c = some k) : (seq (p_get alts F dd) bb).1 (.inr (.inr (some a)) :: st) L s = bb.1 (f k :: st) L s := by
  show bd (match s.1 a with
    | some (.inr x) => match alts.lookup x.1 with
      | some k => some (.inl (x.2 k :: st, L, s))
      | none => none
    | _ => none) bb.1 = _
  rw [h]
  show bd (match alts.lookup c with
      | some k => some (.inl (f k :: st, L, s))
      | none => none) bb.1 = _
  rw [hk]
  rfl
def p_put {idx : Nat} (alts : List (Nat × Nat)) (ty : FieldType) (F : ∀ c ∈ alts, FP θ.y.cls idx c.1 c.2 ty) (dd : decode θ.cc p = .ok (.putfield idx, 3)) : Seg θ p (p + 3) := ⟨fun st L s => match st with
  | v :: .inr (.inr (some a)) :: r => match s.1 a with
    | some (.inr x) => match alts.lookup x.1 with
      | some k => if okVb ty v = true then some (.inl (r, L, (wup s.1 a (.inr (x.1, fup x.2 k v)), s.2))) else none
      | none => none
    | _ => none
  | _ => none, Nat.le_add_right _ _, fun st L s o h => by
    dsimp only at h
    split at h
    · split at h
      · rename_i x hx
        split at h
        · rename_i k hk
          split at h
          · rename_i hg
            cases h
            refine ⟨Le.rfl', fun κ PR PT C S hE hC hS hj => g_put hE.1 (F _ (lookup_mem hk)) (hv_some hx) (okV_sound hg).1 (okV_sound hg).2 dd ?_⟩
            have hj : G κ (hv (wup s.1 _ (.inr (x.1, fup x.2 k _)))) s.2.1 (C - s.2.1) (S - s.2.2) (lcv L) (p + 3) _ := hj
            rw [hv_up] at hj
            rw [show ev (.inr (x.1, fup x.2 k _)) = .inr (x.1, fup (fun j => ve (x.2 j)) k (ve _)) from congrArg (fun z => Sum.inr (x.1, z)) fup_ve] at hj
            exact hj
          · cases h
        · cases h
      · cases h
    · cases h⟩
theorem x_put {idx : Nat} {alts : List (Nat × Nat)} {ty : FieldType} {F : ∀ c ∈ alts, FP θ.y.cls idx c.1 c.2 ty} {dd : decode θ.cc p = .ok (.putfield idx, 3)} {bb : Seg θ (p + 3) q} {st : Stk} {L : Lc} {s : St} {v : V} {a c k : Nat} {f : Nat → V} (h : s.1 a = some (.inr (c, f))) (hk : alts.lookup c = some k) (hg : okVb ty v = true) : (seq (p_put alts ty F dd) bb).1 (v :: .inr (.inr (some a)) :: st) L s = bb.1 st L (wup s.1 a (.inr (c, fup f k v)), s.2) := by
  show bd (match s.1 a with
    | some (.inr x) => match alts.lookup x.1 with
      | some k => if okVb ty v = true then some (.inl (st, L, (wup s.1 a (.inr (x.1, fup x.2 k v)), s.2))) else none
      | none => none
    | _ => none) bb.1 = _
  rw [h]
  show bd (match alts.lookup c with
      | some k => if okVb ty v = true then some (.inl (st, L, (wup s.1 a (.inr (c, fup f k v)), s.2))) else none
      | none => none) bb.1 = _
  rw [hk]
  show bd (if okVb ty v = true then some (.inl (st, L, (wup s.1 a (.inr (c, fup f k v)), s.2))) else none) bb.1 = _
  rw [if_pos hg]
  rfl
def p_putF {idx : Nat} (alts : List (Nat × Nat)) (ty : FieldType) (F : ∀ c ∈ alts, FF θ.y.cls idx c.1 c.2 ty) (hi : θ.y.name = "<init>") (dd : decode θ.cc p = .ok (.putfield idx, 3)) : Seg θ p (p + 3) := ⟨fun st L s => match st with
  | v :: .inr (.inr (some a)) :: r => match s.1 a with
    | some (.inr x) => match alts.lookup x.1 with
      | some k => if okVb ty v = true then some (.inl (r, L, (wup s.1 a (.inr (x.1, fup x.2 k v)), s.2))) else none
      | none => none
    | _ => none
  | _ => none, Nat.le_add_right _ _, fun st L s o h => by
    dsimp only at h
    split at h
    · split at h
      · rename_i x hx
        split at h
        · rename_i k hk
          split at h
          · rename_i hg
            cases h
            refine ⟨Le.rfl', fun κ PR PT C S hE hC hS hj => g_putF hE.1 (F _ (lookup_mem hk)) (hE.2.2.2.2.2.trans hi) (hv_some hx) (okV_sound hg).1 (okV_sound hg).2 dd ?_⟩
            have hj : G κ (hv (wup s.1 _ (.inr (x.1, fup x.2 k _)))) s.2.1 (C - s.2.1) (S - s.2.2) (lcv L) (p + 3) _ := hj
            rw [hv_up] at hj
            rw [show ev (.inr (x.1, fup x.2 k _)) = .inr (x.1, fup (fun j => ve (x.2 j)) k (ve _)) from congrArg (fun z => Sum.inr (x.1, z)) fup_ve] at hj
            exact hj
          · cases h
        · cases h
      · cases h
    · cases h⟩
theorem x_putF {idx : Nat} {alts : List (Nat × Nat)} {ty : FieldType} {F : ∀ c ∈ alts, FF θ.y.cls idx c.1 c.2 ty} {hi : θ.y.name = "<init>"} {dd : decode θ.cc p = .ok (.putfield idx, 3)} {bb : Seg θ (p + 3) q} {st : Stk} {L : Lc} {s : St} {v : V} {a c k : Nat} {f : Nat → V} (h : s.1 a = some (.inr (c, f))) (hk : alts.lookup c = some k) (hg : okVb ty v = true) : (seq (p_putF alts ty F hi dd) bb).1 (v :: .inr (.inr (some a)) :: st) L s = bb.1 st L (wup s.1 a (.inr (c, fup f k v)), s.2) := by
  show bd (match s.1 a with
    | some (.inr x) => match alts.lookup x.1 with
      | some k => if okVb ty v = true then some (.inl (st, L, (wup s.1 a (.inr (x.1, fup x.2 k v)), s.2))) else none
      | none => none
    | _ => none) bb.1 = _
  rw [h]
  show bd (match alts.lookup c with
      | some k => if okVb ty v = true then some (.inl (st, L, (wup s.1 a (.inr (c, fup f k v)), s.2))) else none
      | none => none) bb.1 = _
  rw [hk]
  show bd (if okVb ty v = true then some (.inl (st, L, (wup s.1 a (.inr (c, fup f k v)), s.2))) else none) bb.1 = _
  rw [if_pos hg]
  rfl
def p_iald (dd : decode θ.cc p = .ok (.iaload, 1)) : Seg θ p (p + 1) := ⟨fun st L s => match st with
  | .inl i :: .inr (.inr (some a)) :: r => match s.1 a with
    | some (.inl x) => if (x.1 = 0) ∧ (0 ≤ i ∧ i < x.2.1) ∧ x.2.1 ≤ 2147483647 then some (.inl (x.2.2 i :: r, L, s)) else none
    | _ => none
  | _ => none, Nat.le_add_right _ _, fun st L s o h => by
    dsimp only at h
    split at h
    · split at h
      · rename_i x hx
        split at h
        · rename_i hg
          cases h
          refine ⟨Le.rfl', fun κ PR PT C S hE hC hS hj => ?_⟩
          obtain ⟨t, n, f⟩ := x
          obtain ⟨hg1, hg2, hg3⟩ := hg
          have hx := hv_some hx
          dsimp only at hg1
          subst hg1
          exact g_iald hE.1 hx hg2 dd hj hg3
        · cases h
      · cases h
    · cases h⟩
theorem x_iald {dd : decode θ.cc p = .ok (.iaload, 1)} {bb : Seg θ (p + 1) q} {st : Stk} {L : Lc} {s : St} {i : Int} {a n : Nat} {f : Int → V} (h : s.1 a = some (.inl (0, n, f))) (hi : 0 ≤ i ∧ i < n) (hn : n ≤ 2147483647) : (seq (p_iald dd) bb).1 (.inl i :: .inr (.inr (some a)) :: st) L s = bb.1 (f i :: st) L s := by
  show bd (match s.1 a with
    | some (.inl x) => if (x.1 = 0) ∧ (0 ≤ i ∧ i < x.2.1) ∧ x.2.1 ≤ 2147483647 then some (.inl (x.2.2 i :: st, L, s)) else none
    | _ => none) bb.1 = _
  rw [h]
  show bd (if ((0 : Nat) = 0) ∧ (0 ≤ i ∧ i < (n : Int)) ∧ n ≤ 2147483647 then some (.inl (f i :: st, L, s)) else none) bb.1 = _
  rw [if_pos ⟨rfl, hi, hn⟩]
  rfl
def p_bald (dd : decode θ.cc p = .ok (.baload, 1)) : Seg θ p (p + 1) := ⟨fun st L s => match st with
  | .inl i :: .inr (.inr (some a)) :: r => match s.1 a with
    | some (.inl x) => if (x.1 = 1 ∨ x.1 = 2) ∧ (0 ≤ i ∧ i < x.2.1) ∧ x.2.1 ≤ 2147483647 then some (.inl (x.2.2 i :: r, L, s)) else none
    | _ => none
  | _ => none, Nat.le_add_right _ _, fun st L s o h => by
    dsimp only at h
    split at h
    · split at h
      · rename_i x hx
        split at h
        · rename_i hg
          cases h
          refine ⟨Le.rfl', fun κ PR PT C S hE hC hS hj => ?_⟩
          obtain ⟨t, n, f⟩ := x
          obtain ⟨hg1, hg2, hg3⟩ := hg
          have hx := hv_some hx
          dsimp only at hg1
          rcases hg1 with hg1 | hg1
          · subst hg1
            exact g_bald hE.1 hx hg2 dd hj hg3
          · subst hg1
            exact g_zald hE.1 hx hg2 dd hj hg3
        · cases h
      · cases h
    · cases h⟩
theorem x_bald1 {dd : decode θ.cc p = .ok (.baload, 1)} {bb : Seg θ (p + 1) q} {st : Stk} {L : Lc} {s : St} {i : Int} {a n : Nat} {f : Int → V} (h : s.1 a = some (.inl (1, n, f))) (hi : 0 ≤ i ∧ i < n) (hn : n ≤ 2147483647) : (seq (p_bald dd) bb).1 (.inl i :: .inr (.inr (some a)) :: st) L s = bb.1 (f i :: st) L s := by
  show bd (match s.1 a with
    | some (.inl x) => if (x.1 = 1 ∨ x.1 = 2) ∧ (0 ≤ i ∧ i < x.2.1) ∧ x.2.1 ≤ 2147483647 then some (.inl (x.2.2 i :: st, L, s)) else none
    | _ => none) bb.1 = _
  rw [h]
  show bd (if ((1 : Nat) = 1 ∨ (1 : Nat) = 2) ∧ (0 ≤ i ∧ i < (n : Int)) ∧ n ≤ 2147483647 then some (.inl (f i :: st, L, s)) else none) bb.1 = _
  rw [if_pos ⟨Or.inl rfl, hi, hn⟩]
  rfl
theorem x_bald2 {dd : decode θ.cc p = .ok (.baload, 1)} {bb : Seg θ (p + 1) q} {st : Stk} {L : Lc} {s : St} {i : Int} {a n : Nat} {f : Int → V} (h : s.1 a = some (.inl (2, n, f))) (hi : 0 ≤ i ∧ i < n) (hn : n ≤ 2147483647) : (seq (p_bald dd) bb).1 (.inl i :: .inr (.inr (some a)) :: st) L s = bb.1 (f i :: st) L s := by
  show bd (match s.1 a with
    | some (.inl x) => if (x.1 = 1 ∨ x.1 = 2) ∧ (0 ≤ i ∧ i < x.2.1) ∧ x.2.1 ≤ 2147483647 then some (.inl (x.2.2 i :: st, L, s)) else none
    | _ => none) bb.1 = _
  rw [h]
  show bd (if ((2 : Nat) = 1 ∨ (2 : Nat) = 2) ∧ (0 ≤ i ∧ i < (n : Int)) ∧ n ≤ 2147483647 then some (.inl (f i :: st, L, s)) else none) bb.1 = _
  rw [if_pos ⟨Or.inr rfl, hi, hn⟩]
  rfl
def p_lald (dd : decode θ.cc p = .ok (.laload, 1)) : Seg θ p (p + 1) := ⟨fun st L s => match st with
  | .inl i :: .inr (.inr (some a)) :: r => match s.1 a with
    | some (.inl x) => if (x.1 = 3) ∧ (0 ≤ i ∧ i < x.2.1) ∧ x.2.1 ≤ 2147483647 then some (.inl (x.2.2 i :: r, L, s)) else none
    | _ => none
  | _ => none, Nat.le_add_right _ _, fun st L s o h => by
    dsimp only at h
    split at h
    · split at h
      · rename_i x hx
        split at h
        · rename_i hg
          cases h
          refine ⟨Le.rfl', fun κ PR PT C S hE hC hS hj => ?_⟩
          obtain ⟨t, n, f⟩ := x
          obtain ⟨hg1, hg2, hg3⟩ := hg
          have hx := hv_some hx
          dsimp only at hg1
          subst hg1
          exact g_lald hE.1 hx hg2 dd hj hg3
        · cases h
      · cases h
    · cases h⟩
theorem x_lald {dd : decode θ.cc p = .ok (.laload, 1)} {bb : Seg θ (p + 1) q} {st : Stk} {L : Lc} {s : St} {i : Int} {a n : Nat} {f : Int → V} (h : s.1 a = some (.inl (3, n, f))) (hi : 0 ≤ i ∧ i < n) (hn : n ≤ 2147483647) : (seq (p_lald dd) bb).1 (.inl i :: .inr (.inr (some a)) :: st) L s = bb.1 (f i :: st) L s := by
  show bd (match s.1 a with
    | some (.inl x) => if (x.1 = 3) ∧ (0 ≤ i ∧ i < x.2.1) ∧ x.2.1 ≤ 2147483647 then some (.inl (x.2.2 i :: st, L, s)) else none
    | _ => none) bb.1 = _
  rw [h]
  show bd (if ((3 : Nat) = 3) ∧ (0 ≤ i ∧ i < (n : Int)) ∧ n ≤ 2147483647 then some (.inl (f i :: st, L, s)) else none) bb.1 = _
  rw [if_pos ⟨rfl, hi, hn⟩]
  rfl
def p_aald (dd : decode θ.cc p = .ok (.aaload, 1)) : Seg θ p (p + 1) := ⟨fun st L s => match st with
  | .inl i :: .inr (.inr (some a)) :: r => match s.1 a with
    | some (.inl x) => if (x.1 = 4 ∨ x.1 = 5) ∧ (0 ≤ i ∧ i < x.2.1) ∧ x.2.1 ≤ 2147483647 then some (.inl (x.2.2 i :: r, L, s)) else none
    | _ => none
  | _ => none, Nat.le_add_right _ _, fun st L s o h => by
    dsimp only at h
    split at h
    · split at h
      · rename_i x hx
        split at h
        · rename_i hg
          cases h
          refine ⟨Le.rfl', fun κ PR PT C S hE hC hS hj => ?_⟩
          obtain ⟨t, n, f⟩ := x
          obtain ⟨hg1, hg2, hg3⟩ := hg
          have hx := hv_some hx
          dsimp only at hg1
          rcases hg1 with hg1 | hg1
          · subst hg1
            exact g_wald hE.1 hx hg2 dd hj hg3
          · subst hg1
            exact g_oald hE.1 hx hg2 dd hj hg3
        · cases h
      · cases h
    · cases h⟩
theorem x_aald4 {dd : decode θ.cc p = .ok (.aaload, 1)} {bb : Seg θ (p + 1) q} {st : Stk} {L : Lc} {s : St} {i : Int} {a n : Nat} {f : Int → V} (h : s.1 a = some (.inl (4, n, f))) (hi : 0 ≤ i ∧ i < n) (hn : n ≤ 2147483647) : (seq (p_aald dd) bb).1 (.inl i :: .inr (.inr (some a)) :: st) L s = bb.1 (f i :: st) L s := by
  show bd (match s.1 a with
    | some (.inl x) => if (x.1 = 4 ∨ x.1 = 5) ∧ (0 ≤ i ∧ i < x.2.1) ∧ x.2.1 ≤ 2147483647 then some (.inl (x.2.2 i :: st, L, s)) else none
    | _ => none) bb.1 = _
  rw [h]
  show bd (if ((4 : Nat) = 4 ∨ (4 : Nat) = 5) ∧ (0 ≤ i ∧ i < (n : Int)) ∧ n ≤ 2147483647 then some (.inl (f i :: st, L, s)) else none) bb.1 = _
  rw [if_pos ⟨Or.inl rfl, hi, hn⟩]
  rfl
theorem x_aald5 {dd : decode θ.cc p = .ok (.aaload, 1)} {bb : Seg θ (p + 1) q} {st : Stk} {L : Lc} {s : St} {i : Int} {a n : Nat} {f : Int → V} (h : s.1 a = some (.inl (5, n, f))) (hi : 0 ≤ i ∧ i < n) (hn : n ≤ 2147483647) : (seq (p_aald dd) bb).1 (.inl i :: .inr (.inr (some a)) :: st) L s = bb.1 (f i :: st) L s := by
  show bd (match s.1 a with
    | some (.inl x) => if (x.1 = 4 ∨ x.1 = 5) ∧ (0 ≤ i ∧ i < x.2.1) ∧ x.2.1 ≤ 2147483647 then some (.inl (x.2.2 i :: st, L, s)) else none
    | _ => none) bb.1 = _
  rw [h]
  show bd (if ((5 : Nat) = 4 ∨ (5 : Nat) = 5) ∧ (0 ≤ i ∧ i < (n : Int)) ∧ n ≤ 2147483647 then some (.inl (f i :: st, L, s)) else none) bb.1 = _
  rw [if_pos ⟨Or.inr rfl, hi, hn⟩]
  rfl
def p_iast (dd : decode θ.cc p = .ok (.iastore, 1)) : Seg θ p (p + 1) := ⟨fun st L s => match st with
  | .inl z :: .inl i :: .inr (.inr (some a)) :: r => match s.1 a with
    | some (.inl x) => if x.1 = 0 ∧ (0 ≤ i ∧ i < x.2.1) ∧ x.2.1 ≤ 2147483647 then some (.inl (r, L, (wup s.1 a (.inl (x.1, x.2.1, iup x.2.2 i (.inl z))), s.2))) else none
    | _ => none
  | _ => none, Nat.le_add_right _ _, fun st L s o h => by
    dsimp only at h
    split at h
    · rename_i z i a r
      split at h
      · rename_i x hx
        split at h
        · rename_i hg
          cases h
          refine ⟨Le.rfl', fun κ PR PT C S hE hC hS hj => ?_⟩
          obtain ⟨t, n, f⟩ := x
          obtain ⟨hg1, hg2, hg3⟩ := hg
          have hx := hv_some hx
          dsimp only at hg1
          subst hg1
          have hj : G κ (hv (wup s.1 a (.inl (0, n, iup f i (.inl z))))) s.2.1 (C - s.2.1) (S - s.2.2) (lcv L) (p + 1) (stv r) := hj
          rw [hv_up] at hj
          rw [show ev (.inl (0, n, iup f i (.inl z))) = .inl (0, n, iup (fun j => ve (f j)) i (ve (.inl z))) from congrArg (fun z => Sum.inl (0, n, z)) iup_ve] at hj
          exact g_iast hE.1 hx hg2 dd hj hg3
        · cases h
      · cases h
    · cases h⟩
theorem x_iast {dd : decode θ.cc p = .ok (.iastore, 1)} {bb : Seg θ (p + 1) q} {st : Stk} {L : Lc} {s : St} {i z : Int} {a n : Nat} {f : Int → V} (h : s.1 a = some (.inl (0, n, f))) (hi : 0 ≤ i ∧ i < n) (hn : n ≤ 2147483647) : (seq (p_iast dd) bb).1 (.inl z :: .inl i :: .inr (.inr (some a)) :: st) L s = bb.1 st L (wup s.1 a (.inl (0, n, iup f i (.inl z))), s.2) := by
  show bd (match s.1 a with
    | some (.inl x) => if x.1 = 0 ∧ (0 ≤ i ∧ i < x.2.1) ∧ x.2.1 ≤ 2147483647 then some (.inl (st, L, (wup s.1 a (.inl (x.1, x.2.1, iup x.2.2 i (.inl z))), s.2))) else none
    | _ => none) bb.1 = _
  rw [h]
  show bd (if 0 = 0 ∧ (0 ≤ i ∧ i < (n : Int)) ∧ n ≤ 2147483647 then some (.inl (st, L, (wup s.1 a (.inl (0, n, iup f i (.inl z))), s.2))) else none) bb.1 = _
  rw [if_pos ⟨rfl, hi, hn⟩]
  rfl
def p_bast (dd : decode θ.cc p = .ok (.bastore, 1)) : Seg θ p (p + 1) := ⟨fun st L s => match st with
  | .inl z :: .inl i :: .inr (.inr (some a)) :: r => match s.1 a with
    | some (.inl x) => if x.1 = 1 ∧ (0 ≤ i ∧ i < x.2.1) ∧ x.2.1 ≤ 2147483647 ∧ (-128 ≤ z ∧ z ≤ 127) then some (.inl (r, L, (wup s.1 a (.inl (x.1, x.2.1, iup x.2.2 i (.inl z))), s.2))) else none
    | _ => none
  | _ => none, Nat.le_add_right _ _, fun st L s o h => by
    dsimp only at h
    split at h
    · rename_i z i a r
      split at h
      · rename_i x hx
        split at h
        · rename_i hg
          cases h
          refine ⟨Le.rfl', fun κ PR PT C S hE hC hS hj => ?_⟩
          obtain ⟨t, n, f⟩ := x
          obtain ⟨hg1, hg2, hg3, hg4⟩ := hg
          have hx := hv_some hx
          dsimp only at hg1
          subst hg1
          have hj : G κ (hv (wup s.1 a (.inl (1, n, iup f i (.inl z))))) s.2.1 (C - s.2.1) (S - s.2.2) (lcv L) (p + 1) (stv r) := hj
          rw [hv_up] at hj
          rw [show ev (.inl (1, n, iup f i (.inl z))) = .inl (1, n, iup (fun j => ve (f j)) i (ve (.inl z))) from congrArg (fun z => Sum.inl (1, n, z)) iup_ve] at hj
          exact g_bast hE.1 hx hg2 dd hj hg4 hg3
        · cases h
      · cases h
    · cases h⟩
theorem x_bast {dd : decode θ.cc p = .ok (.bastore, 1)} {bb : Seg θ (p + 1) q} {st : Stk} {L : Lc} {s : St} {i z : Int} {a n : Nat} {f : Int → V} (h : s.1 a = some (.inl (1, n, f))) (hi : 0 ≤ i ∧ i < n) (hn : n ≤ 2147483647) (hx : -128 ≤ z ∧ z ≤ 127) : (seq (p_bast dd) bb).1 (.inl z :: .inl i :: .inr (.inr (some a)) :: st) L s = bb.1 st L (wup s.1 a (.inl (1, n, iup f i (.inl z))), s.2) := by
  show bd (match s.1 a with
    | some (.inl x) => if x.1 = 1 ∧ (0 ≤ i ∧ i < x.2.1) ∧ x.2.1 ≤ 2147483647 ∧ (-128 ≤ z ∧ z ≤ 127) then some (.inl (st, L, (wup s.1 a (.inl (x.1, x.2.1, iup x.2.2 i (.inl z))), s.2))) else none
    | _ => none) bb.1 = _
  rw [h]
  show bd (if 1 = 1 ∧ (0 ≤ i ∧ i < (n : Int)) ∧ n ≤ 2147483647 ∧ (-128 ≤ z ∧ z ≤ 127) then some (.inl (st, L, (wup s.1 a (.inl (1, n, iup f i (.inl z))), s.2))) else none) bb.1 = _
  rw [if_pos ⟨rfl, hi, hn, hx⟩]
  rfl
def p_zast (dd : decode θ.cc p = .ok (.bastore, 1)) : Seg θ p (p + 1) := ⟨fun st L s => match st with
  | .inl z :: .inl i :: .inr (.inr (some a)) :: r => match s.1 a with
    | some (.inl x) => if x.1 = 2 ∧ (0 ≤ i ∧ i < x.2.1) ∧ x.2.1 ≤ 2147483647 ∧ (z = 0 ∨ z = 1) then some (.inl (r, L, (wup s.1 a (.inl (x.1, x.2.1, iup x.2.2 i (.inl z))), s.2))) else none
    | _ => none
  | _ => none, Nat.le_add_right _ _, fun st L s o h => by
    dsimp only at h
    split at h
    · rename_i z i a r
      split at h
      · rename_i x hx
        split at h
        · rename_i hg
          cases h
          refine ⟨Le.rfl', fun κ PR PT C S hE hC hS hj => ?_⟩
          obtain ⟨t, n, f⟩ := x
          obtain ⟨hg1, hg2, hg3, hg4⟩ := hg
          have hx := hv_some hx
          dsimp only at hg1
          subst hg1
          have hj : G κ (hv (wup s.1 a (.inl (2, n, iup f i (.inl z))))) s.2.1 (C - s.2.1) (S - s.2.2) (lcv L) (p + 1) (stv r) := hj
          rw [hv_up] at hj
          rw [show ev (.inl (2, n, iup f i (.inl z))) = .inl (2, n, iup (fun j => ve (f j)) i (ve (.inl z))) from congrArg (fun z => Sum.inl (2, n, z)) iup_ve] at hj
          exact g_zast hE.1 hx hg2 dd hj hg4 hg3
        · cases h
      · cases h
    · cases h⟩
theorem x_zast {dd : decode θ.cc p = .ok (.bastore, 1)} {bb : Seg θ (p + 1) q} {st : Stk} {L : Lc} {s : St} {i z : Int} {a n : Nat} {f : Int → V} (h : s.1 a = some (.inl (2, n, f))) (hi : 0 ≤ i ∧ i < n) (hn : n ≤ 2147483647) (hx : z = 0 ∨ z = 1) : (seq (p_zast dd) bb).1 (.inl z :: .inl i :: .inr (.inr (some a)) :: st) L s = bb.1 st L (wup s.1 a (.inl (2, n, iup f i (.inl z))), s.2) := by
  show bd (match s.1 a with
    | some (.inl x) => if x.1 = 2 ∧ (0 ≤ i ∧ i < x.2.1) ∧ x.2.1 ≤ 2147483647 ∧ (z = 0 ∨ z = 1) then some (.inl (st, L, (wup s.1 a (.inl (x.1, x.2.1, iup x.2.2 i (.inl z))), s.2))) else none
    | _ => none) bb.1 = _
  rw [h]
  show bd (if 2 = 2 ∧ (0 ≤ i ∧ i < (n : Int)) ∧ n ≤ 2147483647 ∧ (z = 0 ∨ z = 1) then some (.inl (st, L, (wup s.1 a (.inl (2, n, iup f i (.inl z))), s.2))) else none) bb.1 = _
  rw [if_pos ⟨rfl, hi, hn, hx⟩]
  rfl
def p_last (dd : decode θ.cc p = .ok (.lastore, 1)) : Seg θ p (p + 1) := ⟨fun st L s => match st with
  | .inr (.inl z) :: .inl i :: .inr (.inr (some a)) :: r => match s.1 a with
    | some (.inl x) => if x.1 = 3 ∧ (0 ≤ i ∧ i < x.2.1) ∧ x.2.1 ≤ 2147483647 then some (.inl (r, L, (wup s.1 a (.inl (x.1, x.2.1, iup x.2.2 i (.inr (.inl z)))), s.2))) else none
    | _ => none
  | _ => none, Nat.le_add_right _ _, fun st L s o h => by
    dsimp only at h
    split at h
    · rename_i z i a r
      split at h
      · rename_i x hx
        split at h
        · rename_i hg
          cases h
          refine ⟨Le.rfl', fun κ PR PT C S hE hC hS hj => ?_⟩
          obtain ⟨t, n, f⟩ := x
          obtain ⟨hg1, hg2, hg3⟩ := hg
          have hx := hv_some hx
          dsimp only at hg1
          subst hg1
          have hj : G κ (hv (wup s.1 a (.inl (3, n, iup f i (.inr (.inl z)))))) s.2.1 (C - s.2.1) (S - s.2.2) (lcv L) (p + 1) (stv r) := hj
          rw [hv_up] at hj
          rw [show ev (.inl (3, n, iup f i (.inr (.inl z)))) = .inl (3, n, iup (fun j => ve (f j)) i (ve (.inr (.inl z)))) from congrArg (fun z => Sum.inl (3, n, z)) iup_ve] at hj
          exact g_last hE.1 hx hg2 dd hj hg3
        · cases h
      · cases h
    · cases h⟩
theorem x_last {dd : decode θ.cc p = .ok (.lastore, 1)} {bb : Seg θ (p + 1) q} {st : Stk} {L : Lc} {s : St} {i z : Int} {a n : Nat} {f : Int → V} (h : s.1 a = some (.inl (3, n, f))) (hi : 0 ≤ i ∧ i < n) (hn : n ≤ 2147483647) : (seq (p_last dd) bb).1 (.inr (.inl z) :: .inl i :: .inr (.inr (some a)) :: st) L s = bb.1 st L (wup s.1 a (.inl (3, n, iup f i (.inr (.inl z)))), s.2) := by
  show bd (match s.1 a with
    | some (.inl x) => if x.1 = 3 ∧ (0 ≤ i ∧ i < x.2.1) ∧ x.2.1 ≤ 2147483647 then some (.inl (st, L, (wup s.1 a (.inl (x.1, x.2.1, iup x.2.2 i (.inr (.inl z)))), s.2))) else none
    | _ => none) bb.1 = _
  rw [h]
  show bd (if 3 = 3 ∧ (0 ≤ i ∧ i < (n : Int)) ∧ n ≤ 2147483647 then some (.inl (st, L, (wup s.1 a (.inl (3, n, iup f i (.inr (.inl z)))), s.2))) else none) bb.1 = _
  rw [if_pos ⟨rfl, hi, hn⟩]
  rfl
def p_alen (dd : decode θ.cc p = .ok (.arraylength, 1)) : Seg θ p (p + 1) := ⟨fun st L s => match st with
  | .inr (.inr (some a)) :: r => match s.1 a with
    | some (.inl x) => if x.1 < 6 then some (.inl (.inl x.2.1 :: r, L, s)) else none
    | _ => none
  | _ => none, Nat.le_add_right _ _, fun st L s o h => by
    dsimp only at h
    split at h
    · split at h
      · rename_i x hx
        split at h
        · rename_i hg
          cases h
          refine ⟨Le.rfl', fun κ PR PT C S hE hC hS hj => ?_⟩
          obtain ⟨t, n, f⟩ := x
          have hx := hv_some hx
          have hg : t < 6 := hg
          match t, hg with
          | 0, _ => exact g_alen hE.1 (t := 0) (q := (κ.δ.2.1 0, _)) rfl rfl hx dd hj
          | 1, _ => exact g_alen hE.1 (t := 1) (q := (κ.δ.2.1 1, _)) rfl rfl hx dd hj
          | 2, _ => exact g_alen hE.1 (t := 2) (q := (κ.δ.2.1 2, _)) rfl rfl hx dd hj
          | 3, _ => exact g_alen hE.1 (t := 3) (q := (κ.δ.2.1 3, _)) rfl rfl hx dd hj
          | 4, _ => exact g_alen hE.1 (t := 4) (q := (κ.δ.2.1 4, _)) rfl rfl hx dd hj
          | 5, _ => exact g_alen hE.1 (t := 5) (q := (κ.δ.2.1 5, _)) rfl rfl hx dd hj
        · cases h
      · cases h
    · cases h⟩
theorem x_alen {dd : decode θ.cc p = .ok (.arraylength, 1)} {bb : Seg θ (p + 1) q} {st : Stk} {L : Lc} {s : St} {a t n : Nat} {f : Int → V} (h : s.1 a = some (.inl (t, n, f))) (ht : t < 6) : (seq (p_alen dd) bb).1 (.inr (.inr (some a)) :: st) L s = bb.1 (.inl n :: st) L s := by
  show bd (match s.1 a with
    | some (.inl x) => if x.1 < 6 then some (.inl (.inl x.2.1 :: st, L, s)) else none
    | _ => none) bb.1 = _
  rw [h]
  show bd (if t < 6 then some (.inl (.inl (n : Int) :: st, L, s)) else none) bb.1 = _
  rw [if_pos ht]
  rfl
/-! switches -/
def tbO (lo hi dflt : Int) (offs : Array Int) (a : Int) : Int := if a < lo ∨ hi < a then dflt else offs.getD (a - lo).toNat dflt
def p_table {dflt lo hi : Int} {offs : Array Int} {len : Nat} (dd : decode θ.cc p = .ok (.tableswitch dflt lo hi offs, len)) (hn : hi - lo + 1 = offs.size) : Seg θ p (p + len) := ⟨fun st L s => match st with
  | .inl a :: r => if (-2147483648 ≤ a ∧ a ≤ 2147483647) ∧ 0 ≤ (p : Int) + tbO lo hi dflt offs a then some (.inr (.inl (((p : Int) + tbO lo hi dflt offs a).toNat, r, L, s))) else none
  | _ => none, Nat.le_add_right _ _, fun st L s o h => by
    dsimp only at h
    split at h
    · rename_i a r
      split at h
      · rename_i hg
        cases h
        refine ⟨Le.rfl', fun κ PR PT C S hE hC hS hk => ?_⟩
        by_cases hq : a < lo ∨ hi < a
        · rw [tbO, if_pos hq] at hg
          refine g_tableOut hE.1 dd hq (tgt := ((p : Int) + dflt).toNat) (by omega) ?_ hg.1
          have hk : J κ C S ((p : Int) + tbO lo hi dflt offs a).toNat r L s := hk
          rw [tbO, if_pos hq] at hk
          exact hk
        · rw [tbO, if_neg hq] at hg
          have hlt : (a - lo).toNat < offs.size := by omega
          refine g_tableIn hE.1 dd (fun z => hq (Or.inl z)) (fun z => hq (Or.inr z)) (off := offs.getD (a - lo).toNat dflt) (by rw [Array.getD_eq_getD_getElem?, Array.getElem?_eq_getElem hlt]; rfl) (tgt := ((p : Int) + offs.getD (a - lo).toNat dflt).toNat) (by omega) ?_ hg.1
          have hk : J κ C S ((p : Int) + tbO lo hi dflt offs a).toNat r L s := hk
          rw [tbO, if_neg hq] at hk
          exact hk
      · cases h
    · cases h⟩
theorem x_table {dflt lo hi : Int} {offs : Array Int} {len : Nat} {dd : decode θ.cc p = .ok (.tableswitch dflt lo hi offs, len)} {hn : hi - lo + 1 = offs.size} {bb : Seg θ (p + len) q} {st : Stk} {L : Lc} {s : St} {a : Int} (t : Nat) (ha : -2147483648 ≤ a ∧ a ≤ 2147483647) (ht : (p : Int) + tbO lo hi dflt offs a = (t : Int)) : (seq (p_table dd hn) bb).1 (.inl a :: st) L s = some (.inr (.inl (t, st, L, s))) := by
  show bd (if (-2147483648 ≤ a ∧ a ≤ 2147483647) ∧ 0 ≤ (p : Int) + tbO lo hi dflt offs a then some (.inr (.inl (((p : Int) + tbO lo hi dflt offs a).toNat, st, L, s))) else none) bb.1 = _
  rw [ht, if_pos ⟨ha, by omega⟩]
  rfl
def p_lookup {dflt : Int} {ps : Array (Int × Int)} {len : Nat} (dd : decode θ.cc p = .ok (.lookupswitch dflt ps, len)) (hp : (ps.toList.zip (ps.toList.drop 1)).all (fun (a, next) => a.1 < next.1) = true) : Seg θ p (p + len) := ⟨fun st L s => match st with
  | .inl a :: r => if (-2147483648 ≤ a ∧ a ≤ 2147483647) ∧ 0 ≤ (p : Int) + Op.lookupswitch.offset ps.toList dflt a then some (.inr (.inl (((p : Int) + Op.lookupswitch.offset ps.toList dflt a).toNat, r, L, s))) else none
  | _ => none, Nat.le_add_right _ _, fun st L s o h => by
    dsimp only at h
    split at h
    · rename_i a r
      split at h
      · rename_i hg
        cases h
        exact ⟨Le.rfl', fun κ PR PT C S hE hC hS hk => g_lookup hE.1 dd hp rfl (tgt := ((p : Int) + Op.lookupswitch.offset ps.toList dflt a).toNat) (by omega) hk hg.1⟩
      · cases h
    · cases h⟩
theorem x_lookup {dflt : Int} {ps : Array (Int × Int)} {len : Nat} {dd : decode θ.cc p = .ok (.lookupswitch dflt ps, len)} {hp : (ps.toList.zip (ps.toList.drop 1)).all (fun (a, next) => a.1 < next.1) = true} {bb : Seg θ (p + len) q} {st : Stk} {L : Lc} {s : St} {a : Int} (t : Nat) (ha : -2147483648 ≤ a ∧ a ≤ 2147483647) (ht : (p : Int) + Op.lookupswitch.offset ps.toList dflt a = (t : Int)) : (seq (p_lookup dd hp) bb).1 (.inl a :: st) L s = some (.inr (.inl (t, st, L, s))) := by
  show bd (if (-2147483648 ≤ a ∧ a ≤ 2147483647) ∧ 0 ≤ (p : Int) + Op.lookupswitch.offset ps.toList dflt a then some (.inr (.inl (((p : Int) + Op.lookupswitch.offset ps.toList dflt a).toNat, st, L, s))) else none) bb.1 = _
  rw [ht, if_pos ⟨ha, by omega⟩]
  rfl
/-! calls that return -/
def wt (st : Stk) : Nat := (st.map vc).sum
theorem wt_ve {st : Stk} : ((stv st).map fun v => v.category).sum = wt st := by
  unfold wt stv
  rw [List.map_map]
  congr 1
  exact List.map_congr_left (fun v _ => ve_cat v)
def mres (x : Option (Rs × St)) (r : Stk) (L : Lc) : Option Ou := match x with
  | some (.inl v, s') => some (.inl (v.toList ++ r, L, s'))
  | _ => none
theorem mres_v {v : V} {s' : St} {r : Stk} {L : Lc} : mres (some (.inl (some v), s')) r L = some (.inl (v :: r, L, s')) := nrfl rfl
theorem mres_n {s' : St} {r : Stk} {L : Lc} : mres (some (.inl none, s')) r L = some (.inl (r, L, s')) := nrfl rfl
theorem mres_ite {c : Prop} [Decidable c] {x y : Option (Rs × St)} {r : Stk} {L : Lc} : mres (if c then x else y) r L = if c then mres x r L else mres y r L := by split <;> rfl
theorem toList_map {v : Option V} {r : Stk} : (v.map ve).toList ++ stv r = stv (v.toList ++ r) := by cases v <;> rfl
theorem split_st {st : Stk} {na : Nat} {v : V} {r : Stk} (h : st.drop na = v :: r) : stv st = (stv (st.take na).reverse).reverse ++ ve v :: stv r := by
  have e : st = st.take na ++ v :: r := by rw [← h, List.take_append_drop]
  have h2 : stv st = stv (st.take na ++ v :: r) := congrArg stv e
  rw [h2]
  unfold stv
  rw [List.map_append, List.map_reverse, List.reverse_reverse, List.map_cons]
def cR (ci : Nat) : Option String := (CL[ci]?).map (fun q => q.1)
theorem cR_of {ci : Nat} {C : String} (h : cR ci = some C) : ∃ q, CL[ci]? = some q ∧ q.1 = C := by
  unfold cR at h
  cases hx : CL[ci]? with
  | none => rw [hx] at h; cases h
  | some q => rw [hx] at h; cases h; exact ⟨q, rfl, rfl⟩
def p_callV {C : String} {idx : Nat} {y : MethodName} {b : ByteArray} {n na d' : Nat} {retC : Option FieldType} (ci : Nat) (cv : CV θ.y.cls idx C y b n retC na) (hC : cR ci = some C) (M : Mth θ.l θ.δ y b n retC d') (hd : d' < θ.d) (dd : decode θ.cc p = .ok (.invokevirtual idx, 3)) : Seg θ p (p + 3) := ⟨fun st L s => match st.drop na with
  | .inr (.inr (some o)) :: r => match s.1 o with
    | some (.inr x) => if x.1 = ci ∧ Nat.ble (wt r) 8 = true ∧ (st.take na).length = na then mres (M.1 (.inr (.inr (some o)) :: (st.take na).reverse) s) r L else none
    | _ => none
  | _ => none, Nat.le_add_right _ _, fun st L s o h => by
    dsimp only at h
    split at h
    · rename_i ob r hdr
      split at h
      · rename_i x hx
        split at h
        · rename_i hg
          unfold mres at h
          split at h
          · rename_i v s' hm
            cases h
            obtain ⟨hle, hM, -⟩ := M.2 _ _ _ _ hm
            refine ⟨hle, fun κ PR PT C' S hE hC' hS hj => ?_⟩
            obtain ⟨q, hq1, hq2⟩ := cR_of hC
            have hM := hM v rfl
            rw [← hE.2.2.2.1, ← hE.2.2.2.2.1] at hM
            have hx' := hv_some hx
            obtain ⟨hg1, hg2, hg3⟩ := hg
            refine g_callV hE.1 (o := ob) (ci := ci) cv hM (f := fun k => ve (x.2 k)) (by rw [hx', ← hg1]; rfl) hq1 hq2 (split_st hdr) (by simp only [stv, List.length_map, List.length_reverse]; exact hg3) dd hd ?_ ?_ (by rw [wt_ve]; exact Nat.le_of_ble_eq_true hg2) ?_
            · have h1 := hle.1
              have h2 : s'.2.1 ≤ C' := hC'
              omega
            · have h1 := hle.2
              have h2 : s'.2.2 ≤ S := hS
              omega
            · have hj : G κ (hv s'.1) s'.2.1 (C' - s'.2.1) (S - s'.2.2) (lcv L) (p + 3) (stv (v.toList ++ r)) := hj
              have h1 := hle.1
              have h2 := hle.2
              rw [show C' - s.2.1 - (s'.2.1 - s.2.1) = C' - s'.2.1 by omega, show S - s.2.2 - (s'.2.2 - s.2.2) = S - s'.2.2 by omega, toList_map]
              exact hj
          · cases h
        · cases h
      · cases h
    · cases h⟩
theorem x_callV {C : String} {idx : Nat} {y : MethodName} {b : ByteArray} {n na d' ci : Nat} {retC : Option FieldType} {cv : CV θ.y.cls idx C y b n retC na} {hC : cR ci = some C} {M : Mth θ.l θ.δ y b n retC d'} {hd : d' < θ.d} {dd : decode θ.cc p = .ok (.invokevirtual idx, 3)} {bb : Seg θ (p + 3) q} {st as r : Stk} {o : Nat} {f : Nat → V} {L : Lc} {s : St}
    (h : s.1 o = some (.inr (ci, f))) (h1 : st.drop na = .inr (.inr (some o)) :: r) (h2 : (st.take na).reverse = as) (h3 : Nat.ble (wt r) 8 = true) (h4 : (st.take na).length = na) : (seq (p_callV ci cv hC M hd dd) bb).1 st L s = bd (mres (M.1 (.inr (.inr (some o)) :: as) s) r L) bb.1 := by
  show bd (match st.drop na with
    | .inr (.inr (some o)) :: r => match s.1 o with
      | some (.inr x) => if x.1 = ci ∧ Nat.ble (wt r) 8 = true ∧ (st.take na).length = na then mres (M.1 (.inr (.inr (some o)) :: (st.take na).reverse) s) r L else none
      | _ => none
    | _ => none) bb.1 = _
  rw [h1]
  show bd (match s.1 o with
      | some (.inr x) => if x.1 = ci ∧ Nat.ble (wt r) 8 = true ∧ (st.take na).length = na then mres (M.1 (.inr (.inr (some o)) :: (st.take na).reverse) s) r L else none
      | _ => none) bb.1 = _
  rw [h]
  show bd (if ci = ci ∧ Nat.ble (wt r) 8 = true ∧ (st.take na).length = na then mres (M.1 (.inr (.inr (some o)) :: (st.take na).reverse) s) r L else none) bb.1 = _
  rw [if_pos ⟨rfl, h3, h4⟩, h2]
theorem split_st2 {st : Stk} {na : Nat} : stv st = (stv (st.take na).reverse).reverse ++ stv (st.drop na) := by
  have h2 : stv st = stv (st.take na ++ st.drop na) := congrArg stv (List.take_append_drop na st).symm
  rw [h2]
  unfold stv
  rw [List.map_append, List.map_reverse, List.reverse_reverse]
def p_callS {idx : Nat} {y : MethodName} {b : ByteArray} {n na d' : Nat} {retC : Option FieldType} (cv : CS θ.y.cls idx y b n retC na) (M : Mth θ.l θ.δ y b n retC d') (hd : d' < θ.d) (dd : decode θ.cc p = .ok (.invokestatic idx, 3)) : Seg θ p (p + 3) := ⟨fun st L s => if Nat.ble (wt (st.drop na)) 8 = true ∧ (st.take na).length = na then mres (M.1 (st.take na).reverse s) (st.drop na) L else none, Nat.le_add_right _ _, fun st L s o h => by
    dsimp only at h
    split at h
    · rename_i hg
      unfold mres at h
      split at h
      · rename_i v s' hm
        cases h
        obtain ⟨hle, hM, -⟩ := M.2 _ _ _ _ hm
        refine ⟨hle, fun κ PR PT C' S hE hC' hS hj => ?_⟩
        have hM := hM v rfl
        rw [← hE.2.2.2.1, ← hE.2.2.2.2.1] at hM
        obtain ⟨hg2, hg3⟩ := hg
        refine g_callS hE.1 cv hM split_st2 (by simp only [List.length_map, List.length_reverse]; exact hg3) dd hd ?_ ?_ (by rw [wt_ve]; exact Nat.le_of_ble_eq_true hg2) ?_
        · have h1 := hle.1
          have h2 : s'.2.1 ≤ C' := hC'
          omega
        · have h1 := hle.2
          have h2 : s'.2.2 ≤ S := hS
          omega
        · have hj : G κ (hv s'.1) s'.2.1 (C' - s'.2.1) (S - s'.2.2) (lcv L) (p + 3) (stv (v.toList ++ st.drop na)) := hj
          have h1 := hle.1
          have h2 := hle.2
          rw [show C' - s.2.1 - (s'.2.1 - s.2.1) = C' - s'.2.1 by omega, show S - s.2.2 - (s'.2.2 - s.2.2) = S - s'.2.2 by omega, toList_map]
          exact hj
      · cases h
    · cases h⟩
theorem x_callS {idx : Nat} {y : MethodName} {b : ByteArray} {n na d' : Nat} {retC : Option FieldType} {cv : CS θ.y.cls idx y b n retC na} {M : Mth θ.l θ.δ y b n retC d'} {hd : d' < θ.d} {dd : decode θ.cc p = .ok (.invokestatic idx, 3)} {bb : Seg θ (p + 3) q} {st as r : Stk} {L : Lc} {s : St}
    (h1 : st.drop na = r) (h2 : (st.take na).reverse = as) (h3 : Nat.ble (wt r) 8 = true) (h4 : (st.take na).length = na) : (seq (p_callS cv M hd dd) bb).1 st L s = bd (mres (M.1 as s) r L) bb.1 := by
  show bd (if Nat.ble (wt (st.drop na)) 8 = true ∧ (st.take na).length = na then mres (M.1 (st.take na).reverse s) (st.drop na) L else none) bb.1 = _
  rw [h1, if_pos ⟨h3, h4⟩, h2]
end HSG
/-! a method out of its body -/
def bres (o : Option Ou) : Option (Rs × St) := match o with
  | some (.inr (.inr (.inl x))) => some (.inl x.1, x.2)
  | some (.inr (.inr (.inr x))) => some (.inr x.1, x.2.2)
  | _ => none
theorem bres_r {v : Option V} {s : St} : bres (some (.inr (.inr (.inl (v, s))))) = some (.inl v, s) := nrfl rfl
theorem bres_ite {c : Prop} [Decidable c] {x y : Option Ou} : bres (if c then x else y) = if c then bres x else bres y := by split <;> rfl
theorem lcs_args : ∀ (k : Nat) (av : List V), lvs k (lcv (lcs av)) = lv_args k (av.map ve) := by
  intro k av
  induction av generalizing k with
  | nil => rfl
  | cons v t ih =>
    rcases v with z | z | z
    · exact congrArg (List.cons _) (ih (k + 1))
    · exact congrArg (List.cons _) (ih (k + 2))
    · cases z with
      | none => exact congrArg (List.cons _) (ih (k + 1))
      | some a => exact congrArg (List.cons _) (ih (k + 1))
def wsz (av : List V) : Nat := (lcs av).length
theorem wsz_eq : ∀ (av : List V), (lg_sl (av.map ve)).length = wsz av := by
  intro av
  induction av with
  | nil => rfl
  | cons v t ih =>
    rcases v with z | z | z
    · exact congrArg (· + 1) ih
    · exact congrArg (· + 2) ih
    · cases z with
      | none => exact congrArg (· + 1) ih
      | some a => exact congrArg (· + 1) ih
def mden {θ : Ix} {q : Nat} (B : Seg θ 0 q) : MDen := fun av s => if Nat.ble (wsz av) θ.nL = true then bres (B.1 [] (pad θ.nL (lcs av)) s) else none
theorem mk_sound {θ : Ix} {q : Nat} (B : Seg θ 0 q) (hy : plainName θ.y.cls = true) : MSn θ.l θ.δ θ.y (ws_ θ.y θ.cc θ.nL θ.ret) θ.d (mden B) := by
  intro av s r s' h
  unfold mden at h
  split at h
  · rename_i hlen
    have hlen : (lg_sl (av.map ve)).length ≤ θ.nL := by rw [wsz_eq]; exact Nat.le_of_ble_eq_true hlen
    cases hb : B.1 [] (pad θ.nL (lcs av)) s with
    | none => rw [hb] at h; cases h
    | some o =>
      rw [hb] at h
      obtain ⟨hle, hB⟩ := B.2.2 _ _ _ _ hb
      rcases o with o | o | o | o
      · cases h
      · cases h
      · cases h
        refine ⟨hle, fun v hv' => ?_, fun x hx => by cases hx⟩
        cases hv'
        refine Met.ofW (cc := θ.cc) (maxL := θ.nL) (ret := θ.ret) hy rfl ?_
        intro p e u m args below meth c s₁ BL hml hP
        obtain ⟨rfl, hsz, hH, hK, hX⟩ := hP
        have hts := atoms_spec (ws := ws_ θ.y θ.cc θ.nL θ.ret) BL.pre
        have hts : ∀ w ∈ lw_all, w.before _ u = true := fun w h => hts w (List.mem_cons_of_mem _ h)
        have hl := lv_entry (av.map ve) (n := θ.nL) hlen
        rw [lg_entry_eq]
        rw [← lcs_args, ← lvs_pad θ.nL] at hl
        have hin : meth.name = θ.y.name := (name_of_methodNamed BL.named BL.method).1
        have hA : ∀ q, u.heap.size ≤ q → WA (hv s.1) s.2.1 q := fun q hq => Or.inr (by rw [← hsz]; exact hq)
        refine hB ((p, θ.l, e, rmOf θ.d (o.2.2.1 - s.2.1) (o.2.2.2 - s.2.2), u), (m, (av.map ve).toArray, below, meth, c), (θ.nL, θ.δ, WA (hv s.1) s.2.1, MQ below (QcO θ.δ (.returned (o.1.map ve)) (hv o.2.1) o.2.2.1 (WA (hv s.1) s.2.1)) (av.map ve).toArray u (o.2.2.1 - s.2.1) (o.2.2.2 - s.2.2) (WA (hv s.1) s.2.1)))
          (fun v w' sz' => v = o.1.map ve ∧ w' = hv o.2.1 ∧ sz' = o.2.2.1) (fun _ _ _ => False) o.2.2.1 o.2.2.2 ⟨⟨BL.exec, BL.bytes, hml, findClass_of_methodNamed BL.named, hts, BL.notSynchronized, hK, hA, Nat.le_refl _, Nat.le_refl _, ?_⟩, ⟨BL.returns, ?_, ?_⟩, rfl, rfl, rfl, hin⟩ (Nat.le_refl _) (Nat.le_refl _) ⟨rfl, rfl, rfl⟩
          u.heap [] _ 0 0 hsz hH (fun a ha => Or.inl ha) va_S.rf hl ?_ ?_
        · exact hX
        · rintro v w' sz' t ⟨rfl, rfl, rfl⟩ ht
          exact ht
        · exact fun _ _ _ _ hf => hf.elim
        · show 0 + _ ≤ _
          rw [Nat.zero_add]
          exact Nat.le_refl _
        · show 0 + _ ≤ _
          rw [Nat.zero_add]
          exact Nat.le_refl _
      · cases h
        refine ⟨hle, (fun v hv' => by cases hv'), fun x hx => ?_⟩
        cases hx
        unfold MT MetT
        refine Met.ofW2 (cc := θ.cc) (maxL := θ.nL) (ret := θ.ret) hy ?_ ?_
        · intro args u m h hn
          obtain ⟨meth, c, h1, h2, h3, h4, h5, h6, -, -⟩ := Cond.code_spec hn (atoms_spec (ws := ws_ θ.y θ.cc θ.nL θ.ret) h _ List.mem_cons_self)
          exact ⟨meth, c, h1, h2, h3, h4, h5, h6⟩
        intro p e u m args below meth c s₁ BL hml hP
        obtain ⟨rfl, hsz, hH, hK, hX⟩ := hP
        have hts0 := atoms_spec (ws := ws_ θ.y θ.cc θ.nL θ.ret) BL.pre
        have hts : ∀ w ∈ lw_all, w.before _ u = true := fun w h => hts0 w (List.mem_cons_of_mem _ h)
        have hno := BL.noHandlers (hts0 _ List.mem_cons_self)
        have hl := lv_entry (av.map ve) (n := θ.nL) hlen
        rw [lg_entry_eq]
        rw [← lcs_args, ← lvs_pad θ.nL] at hl
        have hin : meth.name = θ.y.name := (name_of_methodNamed BL.named BL.method).1
        have hA : ∀ q, u.heap.size ≤ q → WA (hv s.1) s.2.1 q := fun q hq => Or.inr (by rw [← hsz]; exact hq)
        have hE : Ev θ ((p, θ.l, e, rmOf θ.d (o.2.2.2.1 - s.2.1) (o.2.2.2.2 - s.2.2), u), (m, (av.map ve).toArray, below, meth, c), (θ.nL, θ.δ, WA (hv s.1) s.2.1, MQT below (QcO θ.δ (.threw o.1) (hv o.2.2.1) o.2.2.2.1 (WA (hv s.1) s.2.1)) (av.map ve).toArray u (o.2.2.2.1 - s.2.1) (o.2.2.2.2 - s.2.2) (WA (hv s.1) s.2.1)))
          (fun _ _ _ => False) (fun x w' sz' => x = o.1 ∧ w' = hv o.2.2.1 ∧ sz' = o.2.2.2.1) := by
          refine ⟨⟨BL.exec, BL.bytes, hml, findClass_of_methodNamed BL.named, hts, BL.notSynchronized, hK, hA, Nat.le_refl _, Nat.le_refl _, hX⟩, ⟨BL.returns, fun _ _ _ _ hf => hf.elim, ?_⟩, rfl, rfl, rfl, hin⟩
          rintro v w' sz' t ⟨rfl, rfl, rfl⟩ ht
          exact ht
        have hgo := hB _ _ _ o.2.2.2.1 o.2.2.2.2 hE (Nat.le_refl _) (Nat.le_refl _) (fun r _ _ => g_out hE.1 hE.2.1 hno ⟨rfl, rfl, rfl⟩)
          u.heap [] _ 0 0 hsz hH (fun a ha => Or.inl ha) va_S.rf hl (by show 0 + _ ≤ _; rw [Nat.zero_add]; exact Nat.le_refl _) (by show 0 + _ ≤ _; rw [Nat.zero_add]; exact Nat.le_refl _)
        intro T hT X
        obtain ⟨t, a1, oc, b1, b2, b3, b4⟩ := hgo T hT X
        exact ⟨t, a1, oc, b1, b2, b3, b4⟩
  · cases h
def mk {l : Launch} {δ : Dl} {y : MethodName} {d : Nat} {ret : Option FieldType} {cc : ByteArray} {nL q : Nat} (B : Seg (l, δ, y, d, ret, cc, nL) 0 q) (hy : plainName y.cls = true) : Mth l δ y cc nL ret d := ⟨mden B, mk_sound B hy⟩
theorem mk_eq {l : Launch} {δ : Dl} {y : MethodName} {d : Nat} {ret : Option FieldType} {cc : ByteArray} {nL q : Nat} {B : Seg (l, δ, y, d, ret, cc, nL) 0 q} {hy : plainName y.cls = true} {av : List V} {s : St} (h : Nat.ble (wsz av) nL = true) : (mk B hy).1 av s = bres (B.1 [] (pad nL (lcs av)) s) := if_pos h
