/-! ===== one segment an instruction ===== -/
set_option maxRecDepth 100000
section PRM
variable {θ : Ix} {p q : Nat}

def f_iconst (n : Int) : Stk → Option Stk := fun st => match st with
  | st => some (.inl n :: st)
def p_iconst (n : Int) (dd : decode θ.cc p = .ok (.iconst n, 1)) : Seg θ p (p + 1) := ⟨fun st L s => (f_iconst n st).map (fun x => .inl (x, L, s)), snd_st (Nat.le_add_right _ _) (fun st x hx κ PR PT hE w sz kc ks L k => by
    unfold f_iconst at hx
    cases hx
    exact g_iconst hE.1 dd k)⟩
theorem x_iconst (n : Int) {dd : decode θ.cc p = .ok (.iconst n, 1)} {bb : Seg θ (p + 1) q} {st : Stk} {L : Lc} {s : St} : (seq (p_iconst n dd) bb).1 (st) L s = bb.1 (.inl n :: st) L s := nrfl rfl
def p_bipush (n : Int) (dd : decode θ.cc p = .ok (.bipush n, 2)) (hv : (Int8.ofInt n).toInt32 = Int32.ofInt n) : Seg θ p (p + 2) := ⟨fun st L s => some (.inl (.inl n :: st, L, s)), snd_st (f := fun st => some (.inl n :: st)) (Nat.le_add_right _ _) (fun st x hx κ PR PT hE w sz kc ks L k => by
  cases hx
  exact g_bipush hE.1 dd k hv)⟩
theorem x_bipush {n : Int} {dd : decode θ.cc p = .ok (.bipush n, 2)} {hv : (Int8.ofInt n).toInt32 = Int32.ofInt n} {bb : Seg θ (p + 2) q} {st : Stk} {L : Lc} {s : St} : (seq (p_bipush n dd hv) bb).1 st L s = bb.1 (.inl n :: st) L s := nrfl rfl
def p_sipush (n : Int) (dd : decode θ.cc p = .ok (.sipush n, 3)) (hv : (Int16.ofInt n).toInt32 = Int32.ofInt n) : Seg θ p (p + 3) := ⟨fun st L s => some (.inl (.inl n :: st, L, s)), snd_st (f := fun st => some (.inl n :: st)) (Nat.le_add_right _ _) (fun st x hx κ PR PT hE w sz kc ks L k => by
  cases hx
  exact g_sipush hE.1 dd k hv)⟩
theorem x_sipush {n : Int} {dd : decode θ.cc p = .ok (.sipush n, 3)} {hv : (Int16.ofInt n).toInt32 = Int32.ofInt n} {bb : Seg θ (p + 3) q} {st : Stk} {L : Lc} {s : St} : (seq (p_sipush n dd hv) bb).1 st L s = bb.1 (.inl n :: st) L s := nrfl rfl
def p_ldc (n : Int) {idx : Nat} {x : Int32} (hq : Cond.constant θ.y.cls idx x ∈ lw_all) (hn : Int32.ofInt n = x) (dd : decode θ.cc p = .ok (.ldc idx, 2)) : Seg θ p (p + 2) := ⟨fun st L s => some (.inl (.inl n :: st, L, s)), snd_st (f := fun st => some (.inl n :: st)) (Nat.le_add_right _ _) (fun st x hx κ PR PT hE w sz kc ks L k => by
  cases hx
  exact g_ldc hE.1 n hq hn dd k)⟩
theorem x_ldc {n : Int} {idx : Nat} {x : Int32} {hq : Cond.constant θ.y.cls idx x ∈ lw_all} {hn : Int32.ofInt n = x} {dd : decode θ.cc p = .ok (.ldc idx, 2)} {bb : Seg θ (p + 2) q} {st : Stk} {L : Lc} {s : St} : (seq (p_ldc n hq hn dd) bb).1 st L s = bb.1 (.inl n :: st) L s := nrfl rfl
def p_ldcW (n : Int) {idx : Nat} {x : Int32} (hq : Cond.constant θ.y.cls idx x ∈ lw_all) (hn : Int32.ofInt n = x) (dd : decode θ.cc p = .ok (.ldc_w idx, 3)) : Seg θ p (p + 3) := ⟨fun st L s => some (.inl (.inl n :: st, L, s)), snd_st (f := fun st => some (.inl n :: st)) (Nat.le_add_right _ _) (fun st x hx κ PR PT hE w sz kc ks L k => by
  cases hx
  exact g_ldcw hE.1 n hq hn dd k)⟩
theorem x_ldcW {n : Int} {idx : Nat} {x : Int32} {hq : Cond.constant θ.y.cls idx x ∈ lw_all} {hn : Int32.ofInt n = x} {dd : decode θ.cc p = .ok (.ldc_w idx, 3)} {bb : Seg θ (p + 3) q} {st : Stk} {L : Lc} {s : St} : (seq (p_ldcW n hq hn dd) bb).1 st L s = bb.1 (.inl n :: st) L s := nrfl rfl
def p_ldc2 (n : Int) {idx : Nat} {x : Int64} (hq : Cond.constantLong θ.y.cls idx x ∈ lw_all) (hn : Int64.ofInt n = x) (dd : decode θ.cc p = .ok (.ldc2_w idx, 3)) : Seg θ p (p + 3) := ⟨fun st L s => some (.inl (.inr (.inl n) :: st, L, s)), snd_st (f := fun st => some (.inr (.inl n) :: st)) (Nat.le_add_right _ _) (fun st x hx κ PR PT hE w sz kc ks L k => by
  cases hx
  exact g_ldc2 hE.1 n hq hn dd k)⟩
theorem x_ldc2 {n : Int} {idx : Nat} {x : Int64} {hq : Cond.constantLong θ.y.cls idx x ∈ lw_all} {hn : Int64.ofInt n = x} {dd : decode θ.cc p = .ok (.ldc2_w idx, 3)} {bb : Seg θ (p + 3) q} {st : Stk} {L : Lc} {s : St} : (seq (p_ldc2 n hq hn dd) bb).1 st L s = bb.1 (.inr (.inl n) :: st) L s := nrfl rfl
def f_lconst0 : Stk → Option Stk := fun st => match st with
  | st => some (.inr (.inl 0) :: st)
def p_lconst0 (dd : decode θ.cc p = .ok (.lconst 0, 1)) : Seg θ p (p + 1) := ⟨fun st L s => (f_lconst0 st).map (fun x => .inl (x, L, s)), snd_st (Nat.le_add_right _ _) (fun st x hx κ PR PT hE w sz kc ks L k => by
    unfold f_lconst0 at hx
    cases hx
    exact g_lconst0 hE.1 dd k)⟩
theorem x_lconst0 {dd : decode θ.cc p = .ok (.lconst 0, 1)} {bb : Seg θ (p + 1) q} {st : Stk} {L : Lc} {s : St} : (seq (p_lconst0 dd) bb).1 (st) L s = bb.1 (.inr (.inl 0) :: st) L s := nrfl rfl
def f_lconst1 : Stk → Option Stk := fun st => match st with
  | st => some (.inr (.inl 1) :: st)
def p_lconst1 (dd : decode θ.cc p = .ok (.lconst 1, 1)) : Seg θ p (p + 1) := ⟨fun st L s => (f_lconst1 st).map (fun x => .inl (x, L, s)), snd_st (Nat.le_add_right _ _) (fun st x hx κ PR PT hE w sz kc ks L k => by
    unfold f_lconst1 at hx
    cases hx
    exact g_lconst1 hE.1 dd k)⟩
theorem x_lconst1 {dd : decode θ.cc p = .ok (.lconst 1, 1)} {bb : Seg θ (p + 1) q} {st : Stk} {L : Lc} {s : St} : (seq (p_lconst1 dd) bb).1 (st) L s = bb.1 (.inr (.inl 1) :: st) L s := nrfl rfl
def f_null : Stk → Option Stk := fun st => match st with
  | st => some (.inr (.inr none) :: st)
def p_null (dd : decode θ.cc p = .ok (.aconst_null, 1)) : Seg θ p (p + 1) := ⟨fun st L s => (f_null st).map (fun x => .inl (x, L, s)), snd_st (Nat.le_add_right _ _) (fun st x hx κ PR PT hE w sz kc ks L k => by
    unfold f_null at hx
    cases hx
    exact g_null hE.1 dd k)⟩
theorem x_null {dd : decode θ.cc p = .ok (.aconst_null, 1)} {bb : Seg θ (p + 1) q} {st : Stk} {L : Lc} {s : St} : (seq (p_null dd) bb).1 (st) L s = bb.1 (.inr (.inr none) :: st) L s := nrfl rfl
def f_iadd : Stk → Option Stk := fun st => match st with
  | .inl b :: .inl a :: st => some (.inl (a + b) :: st)
  | _ => none
def p_iadd (dd : decode θ.cc p = .ok (.iadd, 1)) : Seg θ p (p + 1) := ⟨fun st L s => (f_iadd st).map (fun x => .inl (x, L, s)), snd_st (Nat.le_add_right _ _) (fun st x hx κ PR PT hE w sz kc ks L k => by
    unfold f_iadd at hx
    split at hx
    · cases hx
      exact g_iadd hE.1 dd k
    · cases hx)⟩
theorem x_iadd {a b : Int} {dd : decode θ.cc p = .ok (.iadd, 1)} {bb : Seg θ (p + 1) q} {st : Stk} {L : Lc} {s : St} : (seq (p_iadd dd) bb).1 (.inl b :: .inl a :: st) L s = bb.1 (.inl (a + b) :: st) L s := nrfl rfl
def f_isub : Stk → Option Stk := fun st => match st with
  | .inl b :: .inl a :: st => some (.inl (a - b) :: st)
  | _ => none
def p_isub (dd : decode θ.cc p = .ok (.isub, 1)) : Seg θ p (p + 1) := ⟨fun st L s => (f_isub st).map (fun x => .inl (x, L, s)), snd_st (Nat.le_add_right _ _) (fun st x hx κ PR PT hE w sz kc ks L k => by
    unfold f_isub at hx
    split at hx
    · cases hx
      exact g_isub hE.1 dd k
    · cases hx)⟩
theorem x_isub {a b : Int} {dd : decode θ.cc p = .ok (.isub, 1)} {bb : Seg θ (p + 1) q} {st : Stk} {L : Lc} {s : St} : (seq (p_isub dd) bb).1 (.inl b :: .inl a :: st) L s = bb.1 (.inl (a - b) :: st) L s := nrfl rfl
def f_imul : Stk → Option Stk := fun st => match st with
  | .inl b :: .inl a :: st => some (.inl (a * b) :: st)
  | _ => none
def p_imul (dd : decode θ.cc p = .ok (.imul, 1)) : Seg θ p (p + 1) := ⟨fun st L s => (f_imul st).map (fun x => .inl (x, L, s)), snd_st (Nat.le_add_right _ _) (fun st x hx κ PR PT hE w sz kc ks L k => by
    unfold f_imul at hx
    split at hx
    · cases hx
      exact g_imul hE.1 dd k
    · cases hx)⟩
theorem x_imul {a b : Int} {dd : decode θ.cc p = .ok (.imul, 1)} {bb : Seg θ (p + 1) q} {st : Stk} {L : Lc} {s : St} : (seq (p_imul dd) bb).1 (.inl b :: .inl a :: st) L s = bb.1 (.inl (a * b) :: st) L s := nrfl rfl
def f_iand : Stk → Option Stk := fun st => match st with
  | .inl b :: .inl a :: st => some (.inl (zAnd a b) :: st)
  | _ => none
def p_iand (dd : decode θ.cc p = .ok (.iand, 1)) : Seg θ p (p + 1) := ⟨fun st L s => (f_iand st).map (fun x => .inl (x, L, s)), snd_st (Nat.le_add_right _ _) (fun st x hx κ PR PT hE w sz kc ks L k => by
    unfold f_iand at hx
    split at hx
    · cases hx
      exact g_iand hE.1 dd k
    · cases hx)⟩
theorem x_iand {a b : Int} {dd : decode θ.cc p = .ok (.iand, 1)} {bb : Seg θ (p + 1) q} {st : Stk} {L : Lc} {s : St} : (seq (p_iand dd) bb).1 (.inl b :: .inl a :: st) L s = bb.1 (.inl (zAnd a b) :: st) L s := nrfl rfl
def f_ior : Stk → Option Stk := fun st => match st with
  | .inl b :: .inl a :: st => some (.inl (zOr a b) :: st)
  | _ => none
def p_ior (dd : decode θ.cc p = .ok (.ior, 1)) : Seg θ p (p + 1) := ⟨fun st L s => (f_ior st).map (fun x => .inl (x, L, s)), snd_st (Nat.le_add_right _ _) (fun st x hx κ PR PT hE w sz kc ks L k => by
    unfold f_ior at hx
    split at hx
    · cases hx
      exact g_ior hE.1 dd k
    · cases hx)⟩
theorem x_ior {a b : Int} {dd : decode θ.cc p = .ok (.ior, 1)} {bb : Seg θ (p + 1) q} {st : Stk} {L : Lc} {s : St} : (seq (p_ior dd) bb).1 (.inl b :: .inl a :: st) L s = bb.1 (.inl (zOr a b) :: st) L s := nrfl rfl
def f_ixor : Stk → Option Stk := fun st => match st with
  | .inl b :: .inl a :: st => some (.inl (zXor a b) :: st)
  | _ => none
def p_ixor (dd : decode θ.cc p = .ok (.ixor, 1)) : Seg θ p (p + 1) := ⟨fun st L s => (f_ixor st).map (fun x => .inl (x, L, s)), snd_st (Nat.le_add_right _ _) (fun st x hx κ PR PT hE w sz kc ks L k => by
    unfold f_ixor at hx
    split at hx
    · cases hx
      exact g_ixor hE.1 dd k
    · cases hx)⟩
theorem x_ixor {a b : Int} {dd : decode θ.cc p = .ok (.ixor, 1)} {bb : Seg θ (p + 1) q} {st : Stk} {L : Lc} {s : St} : (seq (p_ixor dd) bb).1 (.inl b :: .inl a :: st) L s = bb.1 (.inl (zXor a b) :: st) L s := nrfl rfl
def f_ishl : Stk → Option Stk := fun st => match st with
  | .inl b :: .inl a :: st => some (.inl (zShl a b) :: st)
  | _ => none
def p_ishl (dd : decode θ.cc p = .ok (.ishl, 1)) : Seg θ p (p + 1) := ⟨fun st L s => (f_ishl st).map (fun x => .inl (x, L, s)), snd_st (Nat.le_add_right _ _) (fun st x hx κ PR PT hE w sz kc ks L k => by
    unfold f_ishl at hx
    split at hx
    · cases hx
      exact g_ishl hE.1 dd k
    · cases hx)⟩
theorem x_ishl {a b : Int} {dd : decode θ.cc p = .ok (.ishl, 1)} {bb : Seg θ (p + 1) q} {st : Stk} {L : Lc} {s : St} : (seq (p_ishl dd) bb).1 (.inl b :: .inl a :: st) L s = bb.1 (.inl (zShl a b) :: st) L s := nrfl rfl
def f_ishr : Stk → Option Stk := fun st => match st with
  | .inl b :: .inl a :: st => some (.inl (zShr a b) :: st)
  | _ => none
def p_ishr (dd : decode θ.cc p = .ok (.ishr, 1)) : Seg θ p (p + 1) := ⟨fun st L s => (f_ishr st).map (fun x => .inl (x, L, s)), snd_st (Nat.le_add_right _ _) (fun st x hx κ PR PT hE w sz kc ks L k => by
    unfold f_ishr at hx
    split at hx
    · cases hx
      exact g_ishr hE.1 dd k
    · cases hx)⟩
theorem x_ishr {a b : Int} {dd : decode θ.cc p = .ok (.ishr, 1)} {bb : Seg θ (p + 1) q} {st : Stk} {L : Lc} {s : St} : (seq (p_ishr dd) bb).1 (.inl b :: .inl a :: st) L s = bb.1 (.inl (zShr a b) :: st) L s := nrfl rfl
def f_ineg : Stk → Option Stk := fun st => match st with
  | .inl a :: st => some (.inl (-a) :: st)
  | _ => none
def p_ineg (dd : decode θ.cc p = .ok (.ineg, 1)) : Seg θ p (p + 1) := ⟨fun st L s => (f_ineg st).map (fun x => .inl (x, L, s)), snd_st (Nat.le_add_right _ _) (fun st x hx κ PR PT hE w sz kc ks L k => by
    unfold f_ineg at hx
    split at hx
    · cases hx
      exact g_ineg hE.1 dd k
    · cases hx)⟩
theorem x_ineg {a : Int} {dd : decode θ.cc p = .ok (.ineg, 1)} {bb : Seg θ (p + 1) q} {st : Stk} {L : Lc} {s : St} : (seq (p_ineg dd) bb).1 (.inl a :: st) L s = bb.1 (.inl (-a) :: st) L s := nrfl rfl
def f_idiv : Stk → Option Stk := fun st => match st with
  | .inl b :: .inl a :: st => if (0 ≤ a ∧ a ≤ 2147483647) ∧ 0 < b ∧ b ≤ 2147483647 then some (.inl (a / b) :: st) else none
  | _ => none
def p_idiv (dd : decode θ.cc p = .ok (.idiv, 1)) : Seg θ p (p + 1) := ⟨fun st L s => (f_idiv st).map (fun x => .inl (x, L, s)), snd_st (Nat.le_add_right _ _) (fun st x hx κ PR PT hE w sz kc ks L k => by
    unfold f_idiv at hx
    split at hx
    · split at hx
      · rename_i hg
        cases hx
        exact g_idiv hE.1 dd k hg.1 hg.2
      · cases hx
    · cases hx)⟩
theorem x_idiv {a b : Int} {dd : decode θ.cc p = .ok (.idiv, 1)} {bb : Seg θ (p + 1) q} {st : Stk} {L : Lc} {s : St} (hg : (0 ≤ a ∧ a ≤ 2147483647) ∧ 0 < b ∧ b ≤ 2147483647) : (seq (p_idiv dd) bb).1 (.inl b :: .inl a :: st) L s = bb.1 (.inl (a / b) :: st) L s := by
  show bd ((if (0 ≤ a ∧ a ≤ 2147483647) ∧ 0 < b ∧ b ≤ 2147483647 then some (.inl (a / b) :: st) else none : Option Stk).map (fun x => .inl (x, L, s))) bb.1 = _
  rw [if_pos hg]
  rfl
def f_irem : Stk → Option Stk := fun st => match st with
  | .inl b :: .inl a :: st => if (0 ≤ a ∧ a ≤ 2147483647) ∧ 0 < b ∧ b ≤ 2147483647 then some (.inl (a % b) :: st) else none
  | _ => none
def p_irem (dd : decode θ.cc p = .ok (.irem, 1)) : Seg θ p (p + 1) := ⟨fun st L s => (f_irem st).map (fun x => .inl (x, L, s)), snd_st (Nat.le_add_right _ _) (fun st x hx κ PR PT hE w sz kc ks L k => by
    unfold f_irem at hx
    split at hx
    · split at hx
      · rename_i hg
        cases hx
        exact g_irem hE.1 dd k hg.1 hg.2
      · cases hx
    · cases hx)⟩
theorem x_irem {a b : Int} {dd : decode θ.cc p = .ok (.irem, 1)} {bb : Seg θ (p + 1) q} {st : Stk} {L : Lc} {s : St} (hg : (0 ≤ a ∧ a ≤ 2147483647) ∧ 0 < b ∧ b ≤ 2147483647) : (seq (p_irem dd) bb).1 (.inl b :: .inl a :: st) L s = bb.1 (.inl (a % b) :: st) L s := by
  show bd ((if (0 ≤ a ∧ a ≤ 2147483647) ∧ 0 < b ∧ b ≤ 2147483647 then some (.inl (a % b) :: st) else none : Option Stk).map (fun x => .inl (x, L, s))) bb.1 = _
  rw [if_pos hg]
  rfl
def f_ladd : Stk → Option Stk := fun st => match st with
  | .inr (.inl b) :: .inr (.inl a) :: st => some (.inr (.inl (a + b)) :: st)
  | _ => none
def p_ladd (dd : decode θ.cc p = .ok (.ladd, 1)) : Seg θ p (p + 1) := ⟨fun st L s => (f_ladd st).map (fun x => .inl (x, L, s)), snd_st (Nat.le_add_right _ _) (fun st x hx κ PR PT hE w sz kc ks L k => by
    unfold f_ladd at hx
    split at hx
    · cases hx
      exact g_ladd hE.1 dd k
    · cases hx)⟩
theorem x_ladd {a b : Int} {dd : decode θ.cc p = .ok (.ladd, 1)} {bb : Seg θ (p + 1) q} {st : Stk} {L : Lc} {s : St} : (seq (p_ladd dd) bb).1 (.inr (.inl b) :: .inr (.inl a) :: st) L s = bb.1 (.inr (.inl (a + b)) :: st) L s := nrfl rfl
def f_lsub : Stk → Option Stk := fun st => match st with
  | .inr (.inl b) :: .inr (.inl a) :: st => some (.inr (.inl (a - b)) :: st)
  | _ => none
def p_lsub (dd : decode θ.cc p = .ok (.lsub, 1)) : Seg θ p (p + 1) := ⟨fun st L s => (f_lsub st).map (fun x => .inl (x, L, s)), snd_st (Nat.le_add_right _ _) (fun st x hx κ PR PT hE w sz kc ks L k => by
    unfold f_lsub at hx
    split at hx
    · cases hx
      exact g_lsub hE.1 dd k
    · cases hx)⟩
theorem x_lsub {a b : Int} {dd : decode θ.cc p = .ok (.lsub, 1)} {bb : Seg θ (p + 1) q} {st : Stk} {L : Lc} {s : St} : (seq (p_lsub dd) bb).1 (.inr (.inl b) :: .inr (.inl a) :: st) L s = bb.1 (.inr (.inl (a - b)) :: st) L s := nrfl rfl
def f_lor : Stk → Option Stk := fun st => match st with
  | .inr (.inl b) :: .inr (.inl a) :: st => some (.inr (.inl (lOr a b)) :: st)
  | _ => none
def p_lor (dd : decode θ.cc p = .ok (.lor, 1)) : Seg θ p (p + 1) := ⟨fun st L s => (f_lor st).map (fun x => .inl (x, L, s)), snd_st (Nat.le_add_right _ _) (fun st x hx κ PR PT hE w sz kc ks L k => by
    unfold f_lor at hx
    split at hx
    · cases hx
      exact g_lor hE.1 dd k
    · cases hx)⟩
theorem x_lor {a b : Int} {dd : decode θ.cc p = .ok (.lor, 1)} {bb : Seg θ (p + 1) q} {st : Stk} {L : Lc} {s : St} : (seq (p_lor dd) bb).1 (.inr (.inl b) :: .inr (.inl a) :: st) L s = bb.1 (.inr (.inl (lOr a b)) :: st) L s := nrfl rfl
def f_lshl : Stk → Option Stk := fun st => match st with
  | .inl b :: .inr (.inl a) :: st => some (.inr (.inl (lShl a b)) :: st)
  | _ => none
def p_lshl (dd : decode θ.cc p = .ok (.lshl, 1)) : Seg θ p (p + 1) := ⟨fun st L s => (f_lshl st).map (fun x => .inl (x, L, s)), snd_st (Nat.le_add_right _ _) (fun st x hx κ PR PT hE w sz kc ks L k => by
    unfold f_lshl at hx
    split at hx
    · cases hx
      exact g_lshl hE.1 dd k
    · cases hx)⟩
theorem x_lshl {a b : Int} {dd : decode θ.cc p = .ok (.lshl, 1)} {bb : Seg θ (p + 1) q} {st : Stk} {L : Lc} {s : St} : (seq (p_lshl dd) bb).1 (.inl b :: .inr (.inl a) :: st) L s = bb.1 (.inr (.inl (lShl a b)) :: st) L s := nrfl rfl
def f_lcmp : Stk → Option Stk := fun st => match st with
  | .inr (.inl b) :: .inr (.inl a) :: st => if (-9223372036854775808 ≤ a ∧ a ≤ 9223372036854775807) ∧ (-9223372036854775808 ≤ b ∧ b ≤ 9223372036854775807) then some (.inl (zcmp a b) :: st) else none
  | _ => none
def p_lcmp (dd : decode θ.cc p = .ok (.lcmp, 1)) : Seg θ p (p + 1) := ⟨fun st L s => (f_lcmp st).map (fun x => .inl (x, L, s)), snd_st (Nat.le_add_right _ _) (fun st x hx κ PR PT hE w sz kc ks L k => by
    unfold f_lcmp at hx
    split at hx
    · split at hx
      · rename_i hg
        cases hx
        exact g_lcmp hE.1 dd k hg.1 hg.2
      · cases hx
    · cases hx)⟩
theorem x_lcmp {a b : Int} {dd : decode θ.cc p = .ok (.lcmp, 1)} {bb : Seg θ (p + 1) q} {st : Stk} {L : Lc} {s : St} (hg : (-9223372036854775808 ≤ a ∧ a ≤ 9223372036854775807) ∧ (-9223372036854775808 ≤ b ∧ b ≤ 9223372036854775807)) : (seq (p_lcmp dd) bb).1 (.inr (.inl b) :: .inr (.inl a) :: st) L s = bb.1 (.inl (zcmp a b) :: st) L s := by
  show bd ((if (-9223372036854775808 ≤ a ∧ a ≤ 9223372036854775807) ∧ (-9223372036854775808 ≤ b ∧ b ≤ 9223372036854775807) then some (.inl (zcmp a b) :: st) else none : Option Stk).map (fun x => .inl (x, L, s))) bb.1 = _
  rw [if_pos hg]
  rfl
def f_i2b : Stk → Option Stk := fun st => match st with
  | .inl a :: st => some (.inl (zByte a) :: st)
  | _ => none
def p_i2b (dd : decode θ.cc p = .ok (.i2b, 1)) : Seg θ p (p + 1) := ⟨fun st L s => (f_i2b st).map (fun x => .inl (x, L, s)), snd_st (Nat.le_add_right _ _) (fun st x hx κ PR PT hE w sz kc ks L k => by
    unfold f_i2b at hx
    split at hx
    · cases hx
      exact g_i2b hE.1 dd k
    · cases hx)⟩
theorem x_i2b {a : Int} {dd : decode θ.cc p = .ok (.i2b, 1)} {bb : Seg θ (p + 1) q} {st : Stk} {L : Lc} {s : St} : (seq (p_i2b dd) bb).1 (.inl a :: st) L s = bb.1 (.inl (zByte a) :: st) L s := nrfl rfl
def f_i2l : Stk → Option Stk := fun st => match st with
  | .inl a :: st => if -2147483648 ≤ a ∧ a ≤ 2147483647 then some (.inr (.inl a) :: st) else none
  | _ => none
def p_i2l (dd : decode θ.cc p = .ok (.i2l, 1)) : Seg θ p (p + 1) := ⟨fun st L s => (f_i2l st).map (fun x => .inl (x, L, s)), snd_st (Nat.le_add_right _ _) (fun st x hx κ PR PT hE w sz kc ks L k => by
    unfold f_i2l at hx
    split at hx
    · split at hx
      · rename_i hg
        cases hx
        exact g_i2l hE.1 dd k hg
      · cases hx
    · cases hx)⟩
theorem x_i2l {a : Int} {dd : decode θ.cc p = .ok (.i2l, 1)} {bb : Seg θ (p + 1) q} {st : Stk} {L : Lc} {s : St} (hg : -2147483648 ≤ a ∧ a ≤ 2147483647) : (seq (p_i2l dd) bb).1 (.inl a :: st) L s = bb.1 (.inr (.inl a) :: st) L s := by
  show bd ((if -2147483648 ≤ a ∧ a ≤ 2147483647 then some (.inr (.inl a) :: st) else none : Option Stk).map (fun x => .inl (x, L, s))) bb.1 = _
  rw [if_pos hg]
  rfl
def f_i2c : Stk → Option Stk := fun st => match st with
  | .inl a :: st => if 0 ≤ a ∧ a ≤ 65535 then some (.inl a :: st) else none
  | _ => none
def p_i2c (dd : decode θ.cc p = .ok (.i2c, 1)) : Seg θ p (p + 1) := ⟨fun st L s => (f_i2c st).map (fun x => .inl (x, L, s)), snd_st (Nat.le_add_right _ _) (fun st x hx κ PR PT hE w sz kc ks L k => by
    unfold f_i2c at hx
    split at hx
    · split at hx
      · rename_i hg
        cases hx
        exact g_i2cR hE.1 dd k hg
      · cases hx
    · cases hx)⟩
theorem x_i2c {a : Int} {dd : decode θ.cc p = .ok (.i2c, 1)} {bb : Seg θ (p + 1) q} {st : Stk} {L : Lc} {s : St} (hg : 0 ≤ a ∧ a ≤ 65535) : (seq (p_i2c dd) bb).1 (.inl a :: st) L s = bb.1 (.inl a :: st) L s := by
  show bd ((if 0 ≤ a ∧ a ≤ 65535 then some (.inl a :: st) else none : Option Stk).map (fun x => .inl (x, L, s))) bb.1 = _
  rw [if_pos hg]
  rfl
theorem vc_cat {v : V} (h : vc v = 1) : (ve v).category = 1 := (ve_cat v).trans h
def f_dup : Stk → Option Stk := fun st => match st with
  | v :: st => if vc v = 1 then some (v :: v :: st) else none
  | _ => none
def p_dup (dd : decode θ.cc p = .ok (.dup, 1)) : Seg θ p (p + 1) := ⟨fun st L s => (f_dup st).map (fun x => .inl (x, L, s)), snd_st (Nat.le_add_right _ _) (fun st x hx κ PR PT hE w sz kc ks L k => by
    unfold f_dup at hx
    split at hx
    · split at hx
      · rename_i hg
        cases hx
        exact g_dup hE.1 (vc_cat hg) dd k
      · cases hx
    · cases hx)⟩
theorem x_dup {v : V} {dd : decode θ.cc p = .ok (.dup, 1)} {bb : Seg θ (p + 1) q} {st : Stk} {L : Lc} {s : St} (hg : vc v = 1) : (seq (p_dup dd) bb).1 (v :: st) L s = bb.1 (v :: v :: st) L s := by
  show bd ((if vc v = 1 then some (v :: v :: st) else none : Option Stk).map (fun x => .inl (x, L, s))) bb.1 = _
  rw [if_pos hg]
  rfl
def f_pop : Stk → Option Stk := fun st => match st with
  | v :: st => if vc v = 1 then some (st) else none
  | _ => none
def p_pop (dd : decode θ.cc p = .ok (.pop, 1)) : Seg θ p (p + 1) := ⟨fun st L s => (f_pop st).map (fun x => .inl (x, L, s)), snd_st (Nat.le_add_right _ _) (fun st x hx κ PR PT hE w sz kc ks L k => by
    unfold f_pop at hx
    split at hx
    · split at hx
      · rename_i hg
        cases hx
        exact g_pop hE.1 (vc_cat hg) dd k
      · cases hx
    · cases hx)⟩
theorem x_pop {v : V} {dd : decode θ.cc p = .ok (.pop, 1)} {bb : Seg θ (p + 1) q} {st : Stk} {L : Lc} {s : St} (hg : vc v = 1) : (seq (p_pop dd) bb).1 (v :: st) L s = bb.1 (st) L s := by
  show bd ((if vc v = 1 then some (st) else none : Option Stk).map (fun x => .inl (x, L, s))) bb.1 = _
  rw [if_pos hg]
  rfl
def f_dup_x1 : Stk → Option Stk := fun st => match st with
  | v :: u :: st => if vc v = 1 ∧ vc u = 1 then some (v :: u :: v :: st) else none
  | _ => none
def p_dup_x1 (dd : decode θ.cc p = .ok (.dup_x1, 1)) : Seg θ p (p + 1) := ⟨fun st L s => (f_dup_x1 st).map (fun x => .inl (x, L, s)), snd_st (Nat.le_add_right _ _) (fun st x hx κ PR PT hE w sz kc ks L k => by
    unfold f_dup_x1 at hx
    split at hx
    · split at hx
      · rename_i hg
        cases hx
        exact g_dup_x1 hE.1 (vc_cat hg.1) (vc_cat hg.2) dd k
      · cases hx
    · cases hx)⟩
theorem x_dup_x1 {u v : V} {dd : decode θ.cc p = .ok (.dup_x1, 1)} {bb : Seg θ (p + 1) q} {st : Stk} {L : Lc} {s : St} (hg : vc v = 1 ∧ vc u = 1) : (seq (p_dup_x1 dd) bb).1 (v :: u :: st) L s = bb.1 (v :: u :: v :: st) L s := by
  show bd ((if vc v = 1 ∧ vc u = 1 then some (v :: u :: v :: st) else none : Option Stk).map (fun x => .inl (x, L, s))) bb.1 = _
  rw [if_pos hg]
  rfl
def f_dup2 : Stk → Option Stk := fun st => match st with
  | v :: u :: st => if vc v = 1 ∧ vc u = 1 then some (v :: u :: v :: u :: st) else none
  | _ => none
def p_dup2 (dd : decode θ.cc p = .ok (.dup2, 1)) : Seg θ p (p + 1) := ⟨fun st L s => (f_dup2 st).map (fun x => .inl (x, L, s)), snd_st (Nat.le_add_right _ _) (fun st x hx κ PR PT hE w sz kc ks L k => by
    unfold f_dup2 at hx
    split at hx
    · split at hx
      · rename_i hg
        cases hx
        exact g_dup2 hE.1 (vc_cat hg.1) (vc_cat hg.2) dd k
      · cases hx
    · cases hx)⟩
theorem x_dup2 {u v : V} {dd : decode θ.cc p = .ok (.dup2, 1)} {bb : Seg θ (p + 1) q} {st : Stk} {L : Lc} {s : St} (hg : vc v = 1 ∧ vc u = 1) : (seq (p_dup2 dd) bb).1 (v :: u :: st) L s = bb.1 (v :: u :: v :: u :: st) L s := by
  show bd ((if vc v = 1 ∧ vc u = 1 then some (v :: u :: v :: u :: st) else none : Option Stk).map (fun x => .inl (x, L, s))) bb.1 = _
  rw [if_pos hg]
  rfl
theorem lcv_get {L : Lc} {i : Nat} {v : V} (h : L[i]? = some (some v)) : (lcv L)[i]? = some (some (ve v)) := by unfold lcv; rw [List.getElem?_map, h]; rfl
def kl : Option V → Option V
  | some (.inr (.inl _)) => none
  | x => x
def stL : Lc → Nat → V → Lc
  | [], _, _ => []
  | _ :: t, 0, v => some v :: t
  | x :: t, 1, v => kl x :: stL t 0 v
  | x :: t, k + 2, v => x :: stL t (k + 1) v
theorem kl_n : kl none = none := nrfl rfl
theorem kl_i {z : Int} : kl (some (.inl z)) = some (.inl z) := nrfl rfl
theorem kl_r {z : Option Nat} : kl (some (.inr (.inr z))) = some (.inr (.inr z)) := nrfl rfl
theorem kl_l {z : Int} : kl (some (.inr (.inl z))) = none := nrfl rfl
/-- a store of one word -/
theorem stL_mem : ∀ (L : Lc) (i j : Nat) (v x : V), (stL L i v)[j]? = some (some x) → (j = i ∧ x = v) ∨ (j ≠ i ∧ L[j]? = some (some x) ∧ (j + 1 = i → vc x = 1)) := by
  intro L
  induction L with
  | nil => intro i j v x h; simp [stL] at h
  | cons a t ih =>
    intro i j v x h
    match i with
    | 0 =>
      cases j with
      | zero => simp [stL] at h; exact Or.inl ⟨rfl, h.symm⟩
      | succ j => exact Or.inr ⟨by omega, by simpa [stL] using h, by omega⟩
    | 1 =>
      cases j with
      | zero =>
        have h : kl a = some x := by simpa [stL] using h
        right
        refine ⟨by omega, ?_, fun _ => ?_⟩
        · rcases a with _ | z | z | z
          · cases h
          · simpa [kl] using h
          · cases h
          · simpa [kl] using h
        · rcases a with _ | z | z | z
          · cases h
          · cases h; rfl
          · cases h
          · cases h; rfl
      | succ j =>
        have h : (stL t 0 v)[j]? = some (some x) := by simpa [stL] using h
        rcases ih 0 j v x h with ⟨h1, h2⟩ | ⟨h1, h2, h3⟩
        · exact Or.inl ⟨by omega, h2⟩
        · exact Or.inr ⟨by omega, by simpa using h2, by omega⟩
    | i + 2 =>
      cases j with
      | zero => exact Or.inr ⟨by omega, by simpa [stL] using h, by omega⟩
      | succ j =>
        have h : (stL t (i + 1) v)[j]? = some (some x) := by simpa [stL] using h
        rcases ih (i + 1) j v x h with ⟨h1, h2⟩ | ⟨h1, h2, h3⟩
        · exact Or.inl ⟨by omega, h2⟩
        · exact Or.inr ⟨by omega, by simpa using h2, fun q => h3 (by omega)⟩
theorem lcv_of {L : Lc} {i : Nat} {y : Value} (h : (lcv L)[i]? = some (some y)) : ∃ x : V, L[i]? = some (some x) ∧ y = ve x := by
  unfold lcv at h
  rw [List.getElem?_map] at h
  cases hx : L[i]? with
  | none => rw [hx] at h; cases h
  | some a =>
    cases a with
    | none => rw [hx] at h; cases h
    | some a => rw [hx] at h; cases h; exact ⟨a, rfl, rfl⟩
theorem lv_stL {ls : Array Slot} {nL : Nat} {L : Lc} {i : Nat} {v : V} (h : lv_has ls nL ((i, ve v) :: (lvs 0 (lcv L)).filter (fun q => !(q.1 == i) && !(q.1 + 1 == i && q.2.category == 2)))) : lv_has ls nL (lvs 0 (lcv (stL L i v))) := by
  refine lvs_sub h fun j y hj => ?_
  obtain ⟨x, hx, rfl⟩ := lcv_of hj
  rcases stL_mem L i j v x hx with ⟨rfl, rfl⟩ | ⟨h1, h2, h3⟩
  · exact List.mem_cons_self
  · refine List.mem_cons_of_mem _ (List.mem_filter.mpr ⟨?_, ?_⟩)
    · have := lvs_mem (k := 0) (lcv_get h2)
      rwa [Nat.zero_add] at this
    · have e1 : (j == i) = false := by simp [h1]
      by_cases h4 : j + 1 = i
      · have h5 : (ve x).category = 1 := vc_cat (h3 h4)
        simp [e1, h5]
      · simp [e1, h4]

def p_iload_n (i : Fin 4) (dd : decode θ.cc p = .ok (.iload_n i, 1)) : Seg θ p (p + 1) := ⟨fun st L s => match L[(i : Nat)]? with
  | some (some (.inl z)) => some (.inl (.inl z :: st, L, s))
  | _ => none, Nat.le_add_right _ _, fun st L s o h => by
    dsimp only at h
    split at h
    · rename_i hi
      cases h
      refine ⟨Le.rfl', fun κ PR PT C S hE hC hS hk => g_iload_n hE.1 dd (lcv_get hi) hk⟩
    · cases h⟩
theorem x_iload_n0 {z : Int} {t : Lc} {dd : decode θ.cc p = .ok (.iload_n 0, 1)} {bb : Seg θ (p + 1) q} {st : Stk} {s : St} : (seq (p_iload_n 0 dd) bb).1 st (some (.inl z) :: t) s = bb.1 (.inl z :: st) (some (.inl z) :: t) s := nrfl rfl
theorem x_iload_n1 {z : Int} {x0 : Option V} {t : Lc} {dd : decode θ.cc p = .ok (.iload_n 1, 1)} {bb : Seg θ (p + 1) q} {st : Stk} {s : St} : (seq (p_iload_n 1 dd) bb).1 st (x0 :: some (.inl z) :: t) s = bb.1 (.inl z :: st) (x0 :: some (.inl z) :: t) s := nrfl rfl
theorem x_iload_n2 {z : Int} {x0 x1 : Option V} {t : Lc} {dd : decode θ.cc p = .ok (.iload_n 2, 1)} {bb : Seg θ (p + 1) q} {st : Stk} {s : St} : (seq (p_iload_n 2 dd) bb).1 st (x0 :: x1 :: some (.inl z) :: t) s = bb.1 (.inl z :: st) (x0 :: x1 :: some (.inl z) :: t) s := nrfl rfl
theorem x_iload_n3 {z : Int} {x0 x1 x2 : Option V} {t : Lc} {dd : decode θ.cc p = .ok (.iload_n 3, 1)} {bb : Seg θ (p + 1) q} {st : Stk} {s : St} : (seq (p_iload_n 3 dd) bb).1 st (x0 :: x1 :: x2 :: some (.inl z) :: t) s = bb.1 (.inl z :: st) (x0 :: x1 :: x2 :: some (.inl z) :: t) s := nrfl rfl
def p_iload (i : Nat) (dd : decode θ.cc p = .ok (.iload i, 2)) : Seg θ p (p + 2) := ⟨fun st L s => match L[i]? with
  | some (some (.inl z)) => some (.inl (.inl z :: st, L, s))
  | _ => none, Nat.le_add_right _ _, fun st L s o h => by
    dsimp only at h
    split at h
    · rename_i hi
      cases h
      refine ⟨Le.rfl', fun κ PR PT C S hE hC hS hk => g_iload hE.1 dd (lcv_get hi) hk⟩
    · cases h⟩
theorem x_iload4 {z : Int} {x0 x1 x2 x3 : Option V} {t : Lc} {dd : decode θ.cc p = .ok (.iload 4, 2)} {bb : Seg θ (p + 2) q} {st : Stk} {s : St} : (seq (p_iload 4 dd) bb).1 st (x0 :: x1 :: x2 :: x3 :: some (.inl z) :: t) s = bb.1 (.inl z :: st) (x0 :: x1 :: x2 :: x3 :: some (.inl z) :: t) s := nrfl rfl
theorem x_iload5 {z : Int} {x0 x1 x2 x3 x4 : Option V} {t : Lc} {dd : decode θ.cc p = .ok (.iload 5, 2)} {bb : Seg θ (p + 2) q} {st : Stk} {s : St} : (seq (p_iload 5 dd) bb).1 st (x0 :: x1 :: x2 :: x3 :: x4 :: some (.inl z) :: t) s = bb.1 (.inl z :: st) (x0 :: x1 :: x2 :: x3 :: x4 :: some (.inl z) :: t) s := nrfl rfl
theorem x_iload6 {z : Int} {x0 x1 x2 x3 x4 x5 : Option V} {t : Lc} {dd : decode θ.cc p = .ok (.iload 6, 2)} {bb : Seg θ (p + 2) q} {st : Stk} {s : St} : (seq (p_iload 6 dd) bb).1 st (x0 :: x1 :: x2 :: x3 :: x4 :: x5 :: some (.inl z) :: t) s = bb.1 (.inl z :: st) (x0 :: x1 :: x2 :: x3 :: x4 :: x5 :: some (.inl z) :: t) s := nrfl rfl
theorem x_iload7 {z : Int} {x0 x1 x2 x3 x4 x5 x6 : Option V} {t : Lc} {dd : decode θ.cc p = .ok (.iload 7, 2)} {bb : Seg θ (p + 2) q} {st : Stk} {s : St} : (seq (p_iload 7 dd) bb).1 st (x0 :: x1 :: x2 :: x3 :: x4 :: x5 :: x6 :: some (.inl z) :: t) s = bb.1 (.inl z :: st) (x0 :: x1 :: x2 :: x3 :: x4 :: x5 :: x6 :: some (.inl z) :: t) s := nrfl rfl
theorem x_iload8 {z : Int} {x0 x1 x2 x3 x4 x5 x6 x7 : Option V} {t : Lc} {dd : decode θ.cc p = .ok (.iload 8, 2)} {bb : Seg θ (p + 2) q} {st : Stk} {s : St} : (seq (p_iload 8 dd) bb).1 st (x0 :: x1 :: x2 :: x3 :: x4 :: x5 :: x6 :: x7 :: some (.inl z) :: t) s = bb.1 (.inl z :: st) (x0 :: x1 :: x2 :: x3 :: x4 :: x5 :: x6 :: x7 :: some (.inl z) :: t) s := nrfl rfl
theorem x_iload9 {z : Int} {x0 x1 x2 x3 x4 x5 x6 x7 x8 : Option V} {t : Lc} {dd : decode θ.cc p = .ok (.iload 9, 2)} {bb : Seg θ (p + 2) q} {st : Stk} {s : St} : (seq (p_iload 9 dd) bb).1 st (x0 :: x1 :: x2 :: x3 :: x4 :: x5 :: x6 :: x7 :: x8 :: some (.inl z) :: t) s = bb.1 (.inl z :: st) (x0 :: x1 :: x2 :: x3 :: x4 :: x5 :: x6 :: x7 :: x8 :: some (.inl z) :: t) s := nrfl rfl
theorem x_iload10 {z : Int} {x0 x1 x2 x3 x4 x5 x6 x7 x8 x9 : Option V} {t : Lc} {dd : decode θ.cc p = .ok (.iload 10, 2)} {bb : Seg θ (p + 2) q} {st : Stk} {s : St} : (seq (p_iload 10 dd) bb).1 st (x0 :: x1 :: x2 :: x3 :: x4 :: x5 :: x6 :: x7 :: x8 :: x9 :: some (.inl z) :: t) s = bb.1 (.inl z :: st) (x0 :: x1 :: x2 :: x3 :: x4 :: x5 :: x6 :: x7 :: x8 :: x9 :: some (.inl z) :: t) s := nrfl rfl
theorem x_iload11 {z : Int} {x0 x1 x2 x3 x4 x5 x6 x7 x8 x9 x10 : Option V} {t : Lc} {dd : decode θ.cc p = .ok (.iload 11, 2)} {bb : Seg θ (p + 2) q} {st : Stk} {s : St} : (seq (p_iload 11 dd) bb).1 st (x0 :: x1 :: x2 :: x3 :: x4 :: x5 :: x6 :: x7 :: x8 :: x9 :: x10 :: some (.inl z) :: t) s = bb.1 (.inl z :: st) (x0 :: x1 :: x2 :: x3 :: x4 :: x5 :: x6 :: x7 :: x8 :: x9 :: x10 :: some (.inl z) :: t) s := nrfl rfl
theorem x_iload12 {z : Int} {x0 x1 x2 x3 x4 x5 x6 x7 x8 x9 x10 x11 : Option V} {t : Lc} {dd : decode θ.cc p = .ok (.iload 12, 2)} {bb : Seg θ (p + 2) q} {st : Stk} {s : St} : (seq (p_iload 12 dd) bb).1 st (x0 :: x1 :: x2 :: x3 :: x4 :: x5 :: x6 :: x7 :: x8 :: x9 :: x10 :: x11 :: some (.inl z) :: t) s = bb.1 (.inl z :: st) (x0 :: x1 :: x2 :: x3 :: x4 :: x5 :: x6 :: x7 :: x8 :: x9 :: x10 :: x11 :: some (.inl z) :: t) s := nrfl rfl
theorem x_iload13 {z : Int} {x0 x1 x2 x3 x4 x5 x6 x7 x8 x9 x10 x11 x12 : Option V} {t : Lc} {dd : decode θ.cc p = .ok (.iload 13, 2)} {bb : Seg θ (p + 2) q} {st : Stk} {s : St} : (seq (p_iload 13 dd) bb).1 st (x0 :: x1 :: x2 :: x3 :: x4 :: x5 :: x6 :: x7 :: x8 :: x9 :: x10 :: x11 :: x12 :: some (.inl z) :: t) s = bb.1 (.inl z :: st) (x0 :: x1 :: x2 :: x3 :: x4 :: x5 :: x6 :: x7 :: x8 :: x9 :: x10 :: x11 :: x12 :: some (.inl z) :: t) s := nrfl rfl
theorem x_iload14 {z : Int} {x0 x1 x2 x3 x4 x5 x6 x7 x8 x9 x10 x11 x12 x13 : Option V} {t : Lc} {dd : decode θ.cc p = .ok (.iload 14, 2)} {bb : Seg θ (p + 2) q} {st : Stk} {s : St} : (seq (p_iload 14 dd) bb).1 st (x0 :: x1 :: x2 :: x3 :: x4 :: x5 :: x6 :: x7 :: x8 :: x9 :: x10 :: x11 :: x12 :: x13 :: some (.inl z) :: t) s = bb.1 (.inl z :: st) (x0 :: x1 :: x2 :: x3 :: x4 :: x5 :: x6 :: x7 :: x8 :: x9 :: x10 :: x11 :: x12 :: x13 :: some (.inl z) :: t) s := nrfl rfl
theorem x_iload15 {z : Int} {x0 x1 x2 x3 x4 x5 x6 x7 x8 x9 x10 x11 x12 x13 x14 : Option V} {t : Lc} {dd : decode θ.cc p = .ok (.iload 15, 2)} {bb : Seg θ (p + 2) q} {st : Stk} {s : St} : (seq (p_iload 15 dd) bb).1 st (x0 :: x1 :: x2 :: x3 :: x4 :: x5 :: x6 :: x7 :: x8 :: x9 :: x10 :: x11 :: x12 :: x13 :: x14 :: some (.inl z) :: t) s = bb.1 (.inl z :: st) (x0 :: x1 :: x2 :: x3 :: x4 :: x5 :: x6 :: x7 :: x8 :: x9 :: x10 :: x11 :: x12 :: x13 :: x14 :: some (.inl z) :: t) s := nrfl rfl
def p_lload_n (i : Fin 4) (dd : decode θ.cc p = .ok (.lload_n i, 1)) : Seg θ p (p + 1) := ⟨fun st L s => match L[(i : Nat)]? with
  | some (some (.inr (.inl z))) => some (.inl (.inr (.inl z) :: st, L, s))
  | _ => none, Nat.le_add_right _ _, fun st L s o h => by
    dsimp only at h
    split at h
    · rename_i hi
      cases h
      refine ⟨Le.rfl', fun κ PR PT C S hE hC hS hk => g_lload_n hE.1 dd (lcv_get hi) hk⟩
    · cases h⟩
theorem x_lload_n0 {z : Int} {t : Lc} {dd : decode θ.cc p = .ok (.lload_n 0, 1)} {bb : Seg θ (p + 1) q} {st : Stk} {s : St} : (seq (p_lload_n 0 dd) bb).1 st (some (.inr (.inl z)) :: t) s = bb.1 (.inr (.inl z) :: st) (some (.inr (.inl z)) :: t) s := nrfl rfl
theorem x_lload_n1 {z : Int} {x0 : Option V} {t : Lc} {dd : decode θ.cc p = .ok (.lload_n 1, 1)} {bb : Seg θ (p + 1) q} {st : Stk} {s : St} : (seq (p_lload_n 1 dd) bb).1 st (x0 :: some (.inr (.inl z)) :: t) s = bb.1 (.inr (.inl z) :: st) (x0 :: some (.inr (.inl z)) :: t) s := nrfl rfl
theorem x_lload_n2 {z : Int} {x0 x1 : Option V} {t : Lc} {dd : decode θ.cc p = .ok (.lload_n 2, 1)} {bb : Seg θ (p + 1) q} {st : Stk} {s : St} : (seq (p_lload_n 2 dd) bb).1 st (x0 :: x1 :: some (.inr (.inl z)) :: t) s = bb.1 (.inr (.inl z) :: st) (x0 :: x1 :: some (.inr (.inl z)) :: t) s := nrfl rfl
theorem x_lload_n3 {z : Int} {x0 x1 x2 : Option V} {t : Lc} {dd : decode θ.cc p = .ok (.lload_n 3, 1)} {bb : Seg θ (p + 1) q} {st : Stk} {s : St} : (seq (p_lload_n 3 dd) bb).1 st (x0 :: x1 :: x2 :: some (.inr (.inl z)) :: t) s = bb.1 (.inr (.inl z) :: st) (x0 :: x1 :: x2 :: some (.inr (.inl z)) :: t) s := nrfl rfl
def p_lload (i : Nat) (dd : decode θ.cc p = .ok (.lload i, 2)) : Seg θ p (p + 2) := ⟨fun st L s => match L[i]? with
  | some (some (.inr (.inl z))) => some (.inl (.inr (.inl z) :: st, L, s))
  | _ => none, Nat.le_add_right _ _, fun st L s o h => by
    dsimp only at h
    split at h
    · rename_i hi
      cases h
      refine ⟨Le.rfl', fun κ PR PT C S hE hC hS hk => g_lload hE.1 dd (lcv_get hi) hk⟩
    · cases h⟩
theorem x_lload4 {z : Int} {x0 x1 x2 x3 : Option V} {t : Lc} {dd : decode θ.cc p = .ok (.lload 4, 2)} {bb : Seg θ (p + 2) q} {st : Stk} {s : St} : (seq (p_lload 4 dd) bb).1 st (x0 :: x1 :: x2 :: x3 :: some (.inr (.inl z)) :: t) s = bb.1 (.inr (.inl z) :: st) (x0 :: x1 :: x2 :: x3 :: some (.inr (.inl z)) :: t) s := nrfl rfl
theorem x_lload5 {z : Int} {x0 x1 x2 x3 x4 : Option V} {t : Lc} {dd : decode θ.cc p = .ok (.lload 5, 2)} {bb : Seg θ (p + 2) q} {st : Stk} {s : St} : (seq (p_lload 5 dd) bb).1 st (x0 :: x1 :: x2 :: x3 :: x4 :: some (.inr (.inl z)) :: t) s = bb.1 (.inr (.inl z) :: st) (x0 :: x1 :: x2 :: x3 :: x4 :: some (.inr (.inl z)) :: t) s := nrfl rfl
theorem x_lload6 {z : Int} {x0 x1 x2 x3 x4 x5 : Option V} {t : Lc} {dd : decode θ.cc p = .ok (.lload 6, 2)} {bb : Seg θ (p + 2) q} {st : Stk} {s : St} : (seq (p_lload 6 dd) bb).1 st (x0 :: x1 :: x2 :: x3 :: x4 :: x5 :: some (.inr (.inl z)) :: t) s = bb.1 (.inr (.inl z) :: st) (x0 :: x1 :: x2 :: x3 :: x4 :: x5 :: some (.inr (.inl z)) :: t) s := nrfl rfl
theorem x_lload7 {z : Int} {x0 x1 x2 x3 x4 x5 x6 : Option V} {t : Lc} {dd : decode θ.cc p = .ok (.lload 7, 2)} {bb : Seg θ (p + 2) q} {st : Stk} {s : St} : (seq (p_lload 7 dd) bb).1 st (x0 :: x1 :: x2 :: x3 :: x4 :: x5 :: x6 :: some (.inr (.inl z)) :: t) s = bb.1 (.inr (.inl z) :: st) (x0 :: x1 :: x2 :: x3 :: x4 :: x5 :: x6 :: some (.inr (.inl z)) :: t) s := nrfl rfl
theorem x_lload8 {z : Int} {x0 x1 x2 x3 x4 x5 x6 x7 : Option V} {t : Lc} {dd : decode θ.cc p = .ok (.lload 8, 2)} {bb : Seg θ (p + 2) q} {st : Stk} {s : St} : (seq (p_lload 8 dd) bb).1 st (x0 :: x1 :: x2 :: x3 :: x4 :: x5 :: x6 :: x7 :: some (.inr (.inl z)) :: t) s = bb.1 (.inr (.inl z) :: st) (x0 :: x1 :: x2 :: x3 :: x4 :: x5 :: x6 :: x7 :: some (.inr (.inl z)) :: t) s := nrfl rfl
theorem x_lload9 {z : Int} {x0 x1 x2 x3 x4 x5 x6 x7 x8 : Option V} {t : Lc} {dd : decode θ.cc p = .ok (.lload 9, 2)} {bb : Seg θ (p + 2) q} {st : Stk} {s : St} : (seq (p_lload 9 dd) bb).1 st (x0 :: x1 :: x2 :: x3 :: x4 :: x5 :: x6 :: x7 :: x8 :: some (.inr (.inl z)) :: t) s = bb.1 (.inr (.inl z) :: st) (x0 :: x1 :: x2 :: x3 :: x4 :: x5 :: x6 :: x7 :: x8 :: some (.inr (.inl z)) :: t) s := nrfl rfl
theorem x_lload10 {z : Int} {x0 x1 x2 x3 x4 x5 x6 x7 x8 x9 : Option V} {t : Lc} {dd : decode θ.cc p = .ok (.lload 10, 2)} {bb : Seg θ (p + 2) q} {st : Stk} {s : St} : (seq (p_lload 10 dd) bb).1 st (x0 :: x1 :: x2 :: x3 :: x4 :: x5 :: x6 :: x7 :: x8 :: x9 :: some (.inr (.inl z)) :: t) s = bb.1 (.inr (.inl z) :: st) (x0 :: x1 :: x2 :: x3 :: x4 :: x5 :: x6 :: x7 :: x8 :: x9 :: some (.inr (.inl z)) :: t) s := nrfl rfl
theorem x_lload11 {z : Int} {x0 x1 x2 x3 x4 x5 x6 x7 x8 x9 x10 : Option V} {t : Lc} {dd : decode θ.cc p = .ok (.lload 11, 2)} {bb : Seg θ (p + 2) q} {st : Stk} {s : St} : (seq (p_lload 11 dd) bb).1 st (x0 :: x1 :: x2 :: x3 :: x4 :: x5 :: x6 :: x7 :: x8 :: x9 :: x10 :: some (.inr (.inl z)) :: t) s = bb.1 (.inr (.inl z) :: st) (x0 :: x1 :: x2 :: x3 :: x4 :: x5 :: x6 :: x7 :: x8 :: x9 :: x10 :: some (.inr (.inl z)) :: t) s := nrfl rfl
theorem x_lload12 {z : Int} {x0 x1 x2 x3 x4 x5 x6 x7 x8 x9 x10 x11 : Option V} {t : Lc} {dd : decode θ.cc p = .ok (.lload 12, 2)} {bb : Seg θ (p + 2) q} {st : Stk} {s : St} : (seq (p_lload 12 dd) bb).1 st (x0 :: x1 :: x2 :: x3 :: x4 :: x5 :: x6 :: x7 :: x8 :: x9 :: x10 :: x11 :: some (.inr (.inl z)) :: t) s = bb.1 (.inr (.inl z) :: st) (x0 :: x1 :: x2 :: x3 :: x4 :: x5 :: x6 :: x7 :: x8 :: x9 :: x10 :: x11 :: some (.inr (.inl z)) :: t) s := nrfl rfl
theorem x_lload13 {z : Int} {x0 x1 x2 x3 x4 x5 x6 x7 x8 x9 x10 x11 x12 : Option V} {t : Lc} {dd : decode θ.cc p = .ok (.lload 13, 2)} {bb : Seg θ (p + 2) q} {st : Stk} {s : St} : (seq (p_lload 13 dd) bb).1 st (x0 :: x1 :: x2 :: x3 :: x4 :: x5 :: x6 :: x7 :: x8 :: x9 :: x10 :: x11 :: x12 :: some (.inr (.inl z)) :: t) s = bb.1 (.inr (.inl z) :: st) (x0 :: x1 :: x2 :: x3 :: x4 :: x5 :: x6 :: x7 :: x8 :: x9 :: x10 :: x11 :: x12 :: some (.inr (.inl z)) :: t) s := nrfl rfl
theorem x_lload14 {z : Int} {x0 x1 x2 x3 x4 x5 x6 x7 x8 x9 x10 x11 x12 x13 : Option V} {t : Lc} {dd : decode θ.cc p = .ok (.lload 14, 2)} {bb : Seg θ (p + 2) q} {st : Stk} {s : St} : (seq (p_lload 14 dd) bb).1 st (x0 :: x1 :: x2 :: x3 :: x4 :: x5 :: x6 :: x7 :: x8 :: x9 :: x10 :: x11 :: x12 :: x13 :: some (.inr (.inl z)) :: t) s = bb.1 (.inr (.inl z) :: st) (x0 :: x1 :: x2 :: x3 :: x4 :: x5 :: x6 :: x7 :: x8 :: x9 :: x10 :: x11 :: x12 :: x13 :: some (.inr (.inl z)) :: t) s := nrfl rfl
theorem x_lload15 {z : Int} {x0 x1 x2 x3 x4 x5 x6 x7 x8 x9 x10 x11 x12 x13 x14 : Option V} {t : Lc} {dd : decode θ.cc p = .ok (.lload 15, 2)} {bb : Seg θ (p + 2) q} {st : Stk} {s : St} : (seq (p_lload 15 dd) bb).1 st (x0 :: x1 :: x2 :: x3 :: x4 :: x5 :: x6 :: x7 :: x8 :: x9 :: x10 :: x11 :: x12 :: x13 :: x14 :: some (.inr (.inl z)) :: t) s = bb.1 (.inr (.inl z) :: st) (x0 :: x1 :: x2 :: x3 :: x4 :: x5 :: x6 :: x7 :: x8 :: x9 :: x10 :: x11 :: x12 :: x13 :: x14 :: some (.inr (.inl z)) :: t) s := nrfl rfl
def p_aload_n (i : Fin 4) (dd : decode θ.cc p = .ok (.aload_n i, 1)) : Seg θ p (p + 1) := ⟨fun st L s => match L[(i : Nat)]? with
  | some (some (.inr (.inr z))) => some (.inl (.inr (.inr z) :: st, L, s))
  | _ => none, Nat.le_add_right _ _, fun st L s o h => by
    dsimp only at h
    split at h
    · rename_i hi
      cases h
      refine ⟨Le.rfl', fun κ PR PT C S hE hC hS hk => by
        rename_i z
        cases z with
        | none => exact g_aload_nN hE.1 dd (lcv_get hi) hk
        | some a => exact g_aload_n hE.1 dd (lcv_get hi) hk⟩
    · cases h⟩
theorem x_aload_n0 {z : Option Nat} {t : Lc} {dd : decode θ.cc p = .ok (.aload_n 0, 1)} {bb : Seg θ (p + 1) q} {st : Stk} {s : St} : (seq (p_aload_n 0 dd) bb).1 st (some (.inr (.inr z)) :: t) s = bb.1 (.inr (.inr z) :: st) (some (.inr (.inr z)) :: t) s := nrfl rfl
theorem x_aload_n1 {z : Option Nat} {x0 : Option V} {t : Lc} {dd : decode θ.cc p = .ok (.aload_n 1, 1)} {bb : Seg θ (p + 1) q} {st : Stk} {s : St} : (seq (p_aload_n 1 dd) bb).1 st (x0 :: some (.inr (.inr z)) :: t) s = bb.1 (.inr (.inr z) :: st) (x0 :: some (.inr (.inr z)) :: t) s := nrfl rfl
theorem x_aload_n2 {z : Option Nat} {x0 x1 : Option V} {t : Lc} {dd : decode θ.cc p = .ok (.aload_n 2, 1)} {bb : Seg θ (p + 1) q} {st : Stk} {s : St} : (seq (p_aload_n 2 dd) bb).1 st (x0 :: x1 :: some (.inr (.inr z)) :: t) s = bb.1 (.inr (.inr z) :: st) (x0 :: x1 :: some (.inr (.inr z)) :: t) s := nrfl rfl
theorem x_aload_n3 {z : Option Nat} {x0 x1 x2 : Option V} {t : Lc} {dd : decode θ.cc p = .ok (.aload_n 3, 1)} {bb : Seg θ (p + 1) q} {st : Stk} {s : St} : (seq (p_aload_n 3 dd) bb).1 st (x0 :: x1 :: x2 :: some (.inr (.inr z)) :: t) s = bb.1 (.inr (.inr z) :: st) (x0 :: x1 :: x2 :: some (.inr (.inr z)) :: t) s := nrfl rfl
def p_aload (i : Nat) (dd : decode θ.cc p = .ok (.aload i, 2)) : Seg θ p (p + 2) := ⟨fun st L s => match L[i]? with
  | some (some (.inr (.inr z))) => some (.inl (.inr (.inr z) :: st, L, s))
  | _ => none, Nat.le_add_right _ _, fun st L s o h => by
    dsimp only at h
    split at h
    · rename_i hi
      cases h
      refine ⟨Le.rfl', fun κ PR PT C S hE hC hS hk => by
        rename_i z
        cases z with
        | none => exact g_aloadN hE.1 dd (lcv_get hi) hk
        | some a => exact g_aload hE.1 dd (lcv_get hi) hk⟩
    · cases h⟩
theorem x_aload4 {z : Option Nat} {x0 x1 x2 x3 : Option V} {t : Lc} {dd : decode θ.cc p = .ok (.aload 4, 2)} {bb : Seg θ (p + 2) q} {st : Stk} {s : St} : (seq (p_aload 4 dd) bb).1 st (x0 :: x1 :: x2 :: x3 :: some (.inr (.inr z)) :: t) s = bb.1 (.inr (.inr z) :: st) (x0 :: x1 :: x2 :: x3 :: some (.inr (.inr z)) :: t) s := nrfl rfl
theorem x_aload5 {z : Option Nat} {x0 x1 x2 x3 x4 : Option V} {t : Lc} {dd : decode θ.cc p = .ok (.aload 5, 2)} {bb : Seg θ (p + 2) q} {st : Stk} {s : St} : (seq (p_aload 5 dd) bb).1 st (x0 :: x1 :: x2 :: x3 :: x4 :: some (.inr (.inr z)) :: t) s = bb.1 (.inr (.inr z) :: st) (x0 :: x1 :: x2 :: x3 :: x4 :: some (.inr (.inr z)) :: t) s := nrfl rfl
theorem x_aload6 {z : Option Nat} {x0 x1 x2 x3 x4 x5 : Option V} {t : Lc} {dd : decode θ.cc p = .ok (.aload 6, 2)} {bb : Seg θ (p + 2) q} {st : Stk} {s : St} : (seq (p_aload 6 dd) bb).1 st (x0 :: x1 :: x2 :: x3 :: x4 :: x5 :: some (.inr (.inr z)) :: t) s = bb.1 (.inr (.inr z) :: st) (x0 :: x1 :: x2 :: x3 :: x4 :: x5 :: some (.inr (.inr z)) :: t) s := nrfl rfl
theorem x_aload7 {z : Option Nat} {x0 x1 x2 x3 x4 x5 x6 : Option V} {t : Lc} {dd : decode θ.cc p = .ok (.aload 7, 2)} {bb : Seg θ (p + 2) q} {st : Stk} {s : St} : (seq (p_aload 7 dd) bb).1 st (x0 :: x1 :: x2 :: x3 :: x4 :: x5 :: x6 :: some (.inr (.inr z)) :: t) s = bb.1 (.inr (.inr z) :: st) (x0 :: x1 :: x2 :: x3 :: x4 :: x5 :: x6 :: some (.inr (.inr z)) :: t) s := nrfl rfl
theorem x_aload8 {z : Option Nat} {x0 x1 x2 x3 x4 x5 x6 x7 : Option V} {t : Lc} {dd : decode θ.cc p = .ok (.aload 8, 2)} {bb : Seg θ (p + 2) q} {st : Stk} {s : St} : (seq (p_aload 8 dd) bb).1 st (x0 :: x1 :: x2 :: x3 :: x4 :: x5 :: x6 :: x7 :: some (.inr (.inr z)) :: t) s = bb.1 (.inr (.inr z) :: st) (x0 :: x1 :: x2 :: x3 :: x4 :: x5 :: x6 :: x7 :: some (.inr (.inr z)) :: t) s := nrfl rfl
theorem x_aload9 {z : Option Nat} {x0 x1 x2 x3 x4 x5 x6 x7 x8 : Option V} {t : Lc} {dd : decode θ.cc p = .ok (.aload 9, 2)} {bb : Seg θ (p + 2) q} {st : Stk} {s : St} : (seq (p_aload 9 dd) bb).1 st (x0 :: x1 :: x2 :: x3 :: x4 :: x5 :: x6 :: x7 :: x8 :: some (.inr (.inr z)) :: t) s = bb.1 (.inr (.inr z) :: st) (x0 :: x1 :: x2 :: x3 :: x4 :: x5 :: x6 :: x7 :: x8 :: some (.inr (.inr z)) :: t) s := nrfl rfl
theorem x_aload10 {z : Option Nat} {x0 x1 x2 x3 x4 x5 x6 x7 x8 x9 : Option V} {t : Lc} {dd : decode θ.cc p = .ok (.aload 10, 2)} {bb : Seg θ (p + 2) q} {st : Stk} {s : St} : (seq (p_aload 10 dd) bb).1 st (x0 :: x1 :: x2 :: x3 :: x4 :: x5 :: x6 :: x7 :: x8 :: x9 :: some (.inr (.inr z)) :: t) s = bb.1 (.inr (.inr z) :: st) (x0 :: x1 :: x2 :: x3 :: x4 :: x5 :: x6 :: x7 :: x8 :: x9 :: some (.inr (.inr z)) :: t) s := nrfl rfl
theorem x_aload11 {z : Option Nat} {x0 x1 x2 x3 x4 x5 x6 x7 x8 x9 x10 : Option V} {t : Lc} {dd : decode θ.cc p = .ok (.aload 11, 2)} {bb : Seg θ (p + 2) q} {st : Stk} {s : St} : (seq (p_aload 11 dd) bb).1 st (x0 :: x1 :: x2 :: x3 :: x4 :: x5 :: x6 :: x7 :: x8 :: x9 :: x10 :: some (.inr (.inr z)) :: t) s = bb.1 (.inr (.inr z) :: st) (x0 :: x1 :: x2 :: x3 :: x4 :: x5 :: x6 :: x7 :: x8 :: x9 :: x10 :: some (.inr (.inr z)) :: t) s := nrfl rfl
theorem x_aload12 {z : Option Nat} {x0 x1 x2 x3 x4 x5 x6 x7 x8 x9 x10 x11 : Option V} {t : Lc} {dd : decode θ.cc p = .ok (.aload 12, 2)} {bb : Seg θ (p + 2) q} {st : Stk} {s : St} : (seq (p_aload 12 dd) bb).1 st (x0 :: x1 :: x2 :: x3 :: x4 :: x5 :: x6 :: x7 :: x8 :: x9 :: x10 :: x11 :: some (.inr (.inr z)) :: t) s = bb.1 (.inr (.inr z) :: st) (x0 :: x1 :: x2 :: x3 :: x4 :: x5 :: x6 :: x7 :: x8 :: x9 :: x10 :: x11 :: some (.inr (.inr z)) :: t) s := nrfl rfl
theorem x_aload13 {z : Option Nat} {x0 x1 x2 x3 x4 x5 x6 x7 x8 x9 x10 x11 x12 : Option V} {t : Lc} {dd : decode θ.cc p = .ok (.aload 13, 2)} {bb : Seg θ (p + 2) q} {st : Stk} {s : St} : (seq (p_aload 13 dd) bb).1 st (x0 :: x1 :: x2 :: x3 :: x4 :: x5 :: x6 :: x7 :: x8 :: x9 :: x10 :: x11 :: x12 :: some (.inr (.inr z)) :: t) s = bb.1 (.inr (.inr z) :: st) (x0 :: x1 :: x2 :: x3 :: x4 :: x5 :: x6 :: x7 :: x8 :: x9 :: x10 :: x11 :: x12 :: some (.inr (.inr z)) :: t) s := nrfl rfl
theorem x_aload14 {z : Option Nat} {x0 x1 x2 x3 x4 x5 x6 x7 x8 x9 x10 x11 x12 x13 : Option V} {t : Lc} {dd : decode θ.cc p = .ok (.aload 14, 2)} {bb : Seg θ (p + 2) q} {st : Stk} {s : St} : (seq (p_aload 14 dd) bb).1 st (x0 :: x1 :: x2 :: x3 :: x4 :: x5 :: x6 :: x7 :: x8 :: x9 :: x10 :: x11 :: x12 :: x13 :: some (.inr (.inr z)) :: t) s = bb.1 (.inr (.inr z) :: st) (x0 :: x1 :: x2 :: x3 :: x4 :: x5 :: x6 :: x7 :: x8 :: x9 :: x10 :: x11 :: x12 :: x13 :: some (.inr (.inr z)) :: t) s := nrfl rfl
theorem x_aload15 {z : Option Nat} {x0 x1 x2 x3 x4 x5 x6 x7 x8 x9 x10 x11 x12 x13 x14 : Option V} {t : Lc} {dd : decode θ.cc p = .ok (.aload 15, 2)} {bb : Seg θ (p + 2) q} {st : Stk} {s : St} : (seq (p_aload 15 dd) bb).1 st (x0 :: x1 :: x2 :: x3 :: x4 :: x5 :: x6 :: x7 :: x8 :: x9 :: x10 :: x11 :: x12 :: x13 :: x14 :: some (.inr (.inr z)) :: t) s = bb.1 (.inr (.inr z) :: st) (x0 :: x1 :: x2 :: x3 :: x4 :: x5 :: x6 :: x7 :: x8 :: x9 :: x10 :: x11 :: x12 :: x13 :: x14 :: some (.inr (.inr z)) :: t) s := nrfl rfl
def p_istore_n (i : Fin 4) (dd : decode θ.cc p = .ok (.istore_n i, 1)) (hn : (i : Nat) < θ.nL) : Seg θ p (p + 1) := ⟨fun st L s => match st with
  | .inl z :: r => some (.inl (r, stL L (i : Nat) (.inl z), s))
  | _ => none, Nat.le_add_right _ _, fun st L s o h => by
    dsimp only at h
    split at h
    · cases h
      refine ⟨Le.rfl', fun κ PR PT C S hE hC hS hk => by
        intro H locs ls cells slots hz hH hA hW hl hc hs
        exact lv_istore_n hE.1.hx hE.1.hb dd rfl hl (by rw [hE.2.2.1]; exact hn) rfl (fun ls' hl' => hk H locs ls' cells slots hz hH hA hW (lv_stL (v := .inl _) hl') hc hs)⟩
    · cases h⟩
theorem x_istore_n0 {z : Int} {y : Option V} {t : Lc} {dd : decode θ.cc p = .ok (.istore_n 0, 1)} {hn : 0 < θ.nL} {bb : Seg θ (p + 1) q} {st : Stk} {s : St} : (seq (p_istore_n 0 dd hn) bb).1 (.inl z :: st) (y :: t) s = bb.1 st (some (.inl z) :: t) s := nrfl rfl
theorem x_istore_n1 {z : Int} {x0 y : Option V} {t : Lc} {dd : decode θ.cc p = .ok (.istore_n 1, 1)} {hn : 1 < θ.nL} {bb : Seg θ (p + 1) q} {st : Stk} {s : St} : (seq (p_istore_n 1 dd hn) bb).1 (.inl z :: st) (x0 :: y :: t) s = bb.1 st (kl x0 :: some (.inl z) :: t) s := nrfl rfl
theorem x_istore_n2 {z : Int} {x0 x1 y : Option V} {t : Lc} {dd : decode θ.cc p = .ok (.istore_n 2, 1)} {hn : 2 < θ.nL} {bb : Seg θ (p + 1) q} {st : Stk} {s : St} : (seq (p_istore_n 2 dd hn) bb).1 (.inl z :: st) (x0 :: x1 :: y :: t) s = bb.1 st (x0 :: kl x1 :: some (.inl z) :: t) s := nrfl rfl
theorem x_istore_n3 {z : Int} {x0 x1 x2 y : Option V} {t : Lc} {dd : decode θ.cc p = .ok (.istore_n 3, 1)} {hn : 3 < θ.nL} {bb : Seg θ (p + 1) q} {st : Stk} {s : St} : (seq (p_istore_n 3 dd hn) bb).1 (.inl z :: st) (x0 :: x1 :: x2 :: y :: t) s = bb.1 st (x0 :: x1 :: kl x2 :: some (.inl z) :: t) s := nrfl rfl
def p_istore (i : Nat) (dd : decode θ.cc p = .ok (.istore i, 2)) (hn : i < θ.nL) : Seg θ p (p + 2) := ⟨fun st L s => match st with
  | .inl z :: r => some (.inl (r, stL L i (.inl z), s))
  | _ => none, Nat.le_add_right _ _, fun st L s o h => by
    dsimp only at h
    split at h
    · cases h
      refine ⟨Le.rfl', fun κ PR PT C S hE hC hS hk => by
        intro H locs ls cells slots hz hH hA hW hl hc hs
        exact lv_istore hE.1.hx hE.1.hb dd hl (by rw [hE.2.2.1]; exact hn) rfl (fun ls' hl' => hk H locs ls' cells slots hz hH hA hW (lv_stL (v := .inl _) hl') hc hs)⟩
    · cases h⟩
theorem x_istore4 {z : Int} {x0 x1 x2 x3 y : Option V} {t : Lc} {dd : decode θ.cc p = .ok (.istore 4, 2)} {hn : 4 < θ.nL} {bb : Seg θ (p + 2) q} {st : Stk} {s : St} : (seq (p_istore 4 dd hn) bb).1 (.inl z :: st) (x0 :: x1 :: x2 :: x3 :: y :: t) s = bb.1 st (x0 :: x1 :: x2 :: kl x3 :: some (.inl z) :: t) s := nrfl rfl
theorem x_istore5 {z : Int} {x0 x1 x2 x3 x4 y : Option V} {t : Lc} {dd : decode θ.cc p = .ok (.istore 5, 2)} {hn : 5 < θ.nL} {bb : Seg θ (p + 2) q} {st : Stk} {s : St} : (seq (p_istore 5 dd hn) bb).1 (.inl z :: st) (x0 :: x1 :: x2 :: x3 :: x4 :: y :: t) s = bb.1 st (x0 :: x1 :: x2 :: x3 :: kl x4 :: some (.inl z) :: t) s := nrfl rfl
theorem x_istore6 {z : Int} {x0 x1 x2 x3 x4 x5 y : Option V} {t : Lc} {dd : decode θ.cc p = .ok (.istore 6, 2)} {hn : 6 < θ.nL} {bb : Seg θ (p + 2) q} {st : Stk} {s : St} : (seq (p_istore 6 dd hn) bb).1 (.inl z :: st) (x0 :: x1 :: x2 :: x3 :: x4 :: x5 :: y :: t) s = bb.1 st (x0 :: x1 :: x2 :: x3 :: x4 :: kl x5 :: some (.inl z) :: t) s := nrfl rfl
theorem x_istore7 {z : Int} {x0 x1 x2 x3 x4 x5 x6 y : Option V} {t : Lc} {dd : decode θ.cc p = .ok (.istore 7, 2)} {hn : 7 < θ.nL} {bb : Seg θ (p + 2) q} {st : Stk} {s : St} : (seq (p_istore 7 dd hn) bb).1 (.inl z :: st) (x0 :: x1 :: x2 :: x3 :: x4 :: x5 :: x6 :: y :: t) s = bb.1 st (x0 :: x1 :: x2 :: x3 :: x4 :: x5 :: kl x6 :: some (.inl z) :: t) s := nrfl rfl
theorem x_istore8 {z : Int} {x0 x1 x2 x3 x4 x5 x6 x7 y : Option V} {t : Lc} {dd : decode θ.cc p = .ok (.istore 8, 2)} {hn : 8 < θ.nL} {bb : Seg θ (p + 2) q} {st : Stk} {s : St} : (seq (p_istore 8 dd hn) bb).1 (.inl z :: st) (x0 :: x1 :: x2 :: x3 :: x4 :: x5 :: x6 :: x7 :: y :: t) s = bb.1 st (x0 :: x1 :: x2 :: x3 :: x4 :: x5 :: x6 :: kl x7 :: some (.inl z) :: t) s := nrfl rfl
theorem x_istore9 {z : Int} {x0 x1 x2 x3 x4 x5 x6 x7 x8 y : Option V} {t : Lc} {dd : decode θ.cc p = .ok (.istore 9, 2)} {hn : 9 < θ.nL} {bb : Seg θ (p + 2) q} {st : Stk} {s : St} : (seq (p_istore 9 dd hn) bb).1 (.inl z :: st) (x0 :: x1 :: x2 :: x3 :: x4 :: x5 :: x6 :: x7 :: x8 :: y :: t) s = bb.1 st (x0 :: x1 :: x2 :: x3 :: x4 :: x5 :: x6 :: x7 :: kl x8 :: some (.inl z) :: t) s := nrfl rfl
theorem x_istore10 {z : Int} {x0 x1 x2 x3 x4 x5 x6 x7 x8 x9 y : Option V} {t : Lc} {dd : decode θ.cc p = .ok (.istore 10, 2)} {hn : 10 < θ.nL} {bb : Seg θ (p + 2) q} {st : Stk} {s : St} : (seq (p_istore 10 dd hn) bb).1 (.inl z :: st) (x0 :: x1 :: x2 :: x3 :: x4 :: x5 :: x6 :: x7 :: x8 :: x9 :: y :: t) s = bb.1 st (x0 :: x1 :: x2 :: x3 :: x4 :: x5 :: x6 :: x7 :: x8 :: kl x9 :: some (.inl z) :: t) s := nrfl rfl
theorem x_istore11 {z : Int} {x0 x1 x2 x3 x4 x5 x6 x7 x8 x9 x10 y : Option V} {t : Lc} {dd : decode θ.cc p = .ok (.istore 11, 2)} {hn : 11 < θ.nL} {bb : Seg θ (p + 2) q} {st : Stk} {s : St} : (seq (p_istore 11 dd hn) bb).1 (.inl z :: st) (x0 :: x1 :: x2 :: x3 :: x4 :: x5 :: x6 :: x7 :: x8 :: x9 :: x10 :: y :: t) s = bb.1 st (x0 :: x1 :: x2 :: x3 :: x4 :: x5 :: x6 :: x7 :: x8 :: x9 :: kl x10 :: some (.inl z) :: t) s := nrfl rfl
theorem x_istore12 {z : Int} {x0 x1 x2 x3 x4 x5 x6 x7 x8 x9 x10 x11 y : Option V} {t : Lc} {dd : decode θ.cc p = .ok (.istore 12, 2)} {hn : 12 < θ.nL} {bb : Seg θ (p + 2) q} {st : Stk} {s : St} : (seq (p_istore 12 dd hn) bb).1 (.inl z :: st) (x0 :: x1 :: x2 :: x3 :: x4 :: x5 :: x6 :: x7 :: x8 :: x9 :: x10 :: x11 :: y :: t) s = bb.1 st (x0 :: x1 :: x2 :: x3 :: x4 :: x5 :: x6 :: x7 :: x8 :: x9 :: x10 :: kl x11 :: some (.inl z) :: t) s := nrfl rfl
theorem x_istore13 {z : Int} {x0 x1 x2 x3 x4 x5 x6 x7 x8 x9 x10 x11 x12 y : Option V} {t : Lc} {dd : decode θ.cc p = .ok (.istore 13, 2)} {hn : 13 < θ.nL} {bb : Seg θ (p + 2) q} {st : Stk} {s : St} : (seq (p_istore 13 dd hn) bb).1 (.inl z :: st) (x0 :: x1 :: x2 :: x3 :: x4 :: x5 :: x6 :: x7 :: x8 :: x9 :: x10 :: x11 :: x12 :: y :: t) s = bb.1 st (x0 :: x1 :: x2 :: x3 :: x4 :: x5 :: x6 :: x7 :: x8 :: x9 :: x10 :: x11 :: kl x12 :: some (.inl z) :: t) s := nrfl rfl
theorem x_istore14 {z : Int} {x0 x1 x2 x3 x4 x5 x6 x7 x8 x9 x10 x11 x12 x13 y : Option V} {t : Lc} {dd : decode θ.cc p = .ok (.istore 14, 2)} {hn : 14 < θ.nL} {bb : Seg θ (p + 2) q} {st : Stk} {s : St} : (seq (p_istore 14 dd hn) bb).1 (.inl z :: st) (x0 :: x1 :: x2 :: x3 :: x4 :: x5 :: x6 :: x7 :: x8 :: x9 :: x10 :: x11 :: x12 :: x13 :: y :: t) s = bb.1 st (x0 :: x1 :: x2 :: x3 :: x4 :: x5 :: x6 :: x7 :: x8 :: x9 :: x10 :: x11 :: x12 :: kl x13 :: some (.inl z) :: t) s := nrfl rfl
theorem x_istore15 {z : Int} {x0 x1 x2 x3 x4 x5 x6 x7 x8 x9 x10 x11 x12 x13 x14 y : Option V} {t : Lc} {dd : decode θ.cc p = .ok (.istore 15, 2)} {hn : 15 < θ.nL} {bb : Seg θ (p + 2) q} {st : Stk} {s : St} : (seq (p_istore 15 dd hn) bb).1 (.inl z :: st) (x0 :: x1 :: x2 :: x3 :: x4 :: x5 :: x6 :: x7 :: x8 :: x9 :: x10 :: x11 :: x12 :: x13 :: x14 :: y :: t) s = bb.1 st (x0 :: x1 :: x2 :: x3 :: x4 :: x5 :: x6 :: x7 :: x8 :: x9 :: x10 :: x11 :: x12 :: x13 :: kl x14 :: some (.inl z) :: t) s := nrfl rfl
def p_astore_n (i : Fin 4) (dd : decode θ.cc p = .ok (.astore_n i, 1)) (hn : (i : Nat) < θ.nL) : Seg θ p (p + 1) := ⟨fun st L s => match st with
  | .inr (.inr z) :: r => some (.inl (r, stL L (i : Nat) (.inr (.inr z)), s))
  | _ => none, Nat.le_add_right _ _, fun st L s o h => by
    dsimp only at h
    split at h
    · cases h
      refine ⟨Le.rfl', fun κ PR PT C S hE hC hS hk => by
        rename_i z _
        cases z with
        | none =>
          intro H locs ls cells slots hz hH hA hW hl hc hs
          exact lv_astore_nN hE.1.hx hE.1.hb dd rfl hl (by rw [hE.2.2.1]; exact hn) rfl (fun ls' hl' => hk H locs ls' cells slots hz hH hA hW (lv_stL (v := .inr (.inr none)) hl') hc hs)
        | some a =>
          intro H locs ls cells slots hz hH hA hW hl hc hs
          exact lv_astore_n hE.1.hx hE.1.hb dd rfl hl (by rw [hE.2.2.1]; exact hn) rfl (fun ls' hl' => hk H locs ls' cells slots hz hH hA hW (lv_stL (v := .inr (.inr (some a))) hl') hc hs)⟩
    · cases h⟩
theorem x_astore_n0 {z : Option Nat} {y : Option V} {t : Lc} {dd : decode θ.cc p = .ok (.astore_n 0, 1)} {hn : 0 < θ.nL} {bb : Seg θ (p + 1) q} {st : Stk} {s : St} : (seq (p_astore_n 0 dd hn) bb).1 (.inr (.inr z) :: st) (y :: t) s = bb.1 st (some (.inr (.inr z)) :: t) s := nrfl rfl
theorem x_astore_n1 {z : Option Nat} {x0 y : Option V} {t : Lc} {dd : decode θ.cc p = .ok (.astore_n 1, 1)} {hn : 1 < θ.nL} {bb : Seg θ (p + 1) q} {st : Stk} {s : St} : (seq (p_astore_n 1 dd hn) bb).1 (.inr (.inr z) :: st) (x0 :: y :: t) s = bb.1 st (kl x0 :: some (.inr (.inr z)) :: t) s := nrfl rfl
theorem x_astore_n2 {z : Option Nat} {x0 x1 y : Option V} {t : Lc} {dd : decode θ.cc p = .ok (.astore_n 2, 1)} {hn : 2 < θ.nL} {bb : Seg θ (p + 1) q} {st : Stk} {s : St} : (seq (p_astore_n 2 dd hn) bb).1 (.inr (.inr z) :: st) (x0 :: x1 :: y :: t) s = bb.1 st (x0 :: kl x1 :: some (.inr (.inr z)) :: t) s := nrfl rfl
theorem x_astore_n3 {z : Option Nat} {x0 x1 x2 y : Option V} {t : Lc} {dd : decode θ.cc p = .ok (.astore_n 3, 1)} {hn : 3 < θ.nL} {bb : Seg θ (p + 1) q} {st : Stk} {s : St} : (seq (p_astore_n 3 dd hn) bb).1 (.inr (.inr z) :: st) (x0 :: x1 :: x2 :: y :: t) s = bb.1 st (x0 :: x1 :: kl x2 :: some (.inr (.inr z)) :: t) s := nrfl rfl
def p_astore (i : Nat) (dd : decode θ.cc p = .ok (.astore i, 2)) (hn : i < θ.nL) : Seg θ p (p + 2) := ⟨fun st L s => match st with
  | .inr (.inr z) :: r => some (.inl (r, stL L i (.inr (.inr z)), s))
  | _ => none, Nat.le_add_right _ _, fun st L s o h => by
    dsimp only at h
    split at h
    · cases h
      refine ⟨Le.rfl', fun κ PR PT C S hE hC hS hk => by
        rename_i z _
        cases z with
        | none =>
          intro H locs ls cells slots hz hH hA hW hl hc hs
          exact lv_astoreN hE.1.hx hE.1.hb dd hl (by rw [hE.2.2.1]; exact hn) rfl (fun ls' hl' => hk H locs ls' cells slots hz hH hA hW (lv_stL (v := .inr (.inr none)) hl') hc hs)
        | some a =>
          intro H locs ls cells slots hz hH hA hW hl hc hs
          exact lv_astore hE.1.hx hE.1.hb dd hl (by rw [hE.2.2.1]; exact hn) rfl (fun ls' hl' => hk H locs ls' cells slots hz hH hA hW (lv_stL (v := .inr (.inr (some a))) hl') hc hs)⟩
    · cases h⟩
theorem x_astore4 {z : Option Nat} {x0 x1 x2 x3 y : Option V} {t : Lc} {dd : decode θ.cc p = .ok (.astore 4, 2)} {hn : 4 < θ.nL} {bb : Seg θ (p + 2) q} {st : Stk} {s : St} : (seq (p_astore 4 dd hn) bb).1 (.inr (.inr z) :: st) (x0 :: x1 :: x2 :: x3 :: y :: t) s = bb.1 st (x0 :: x1 :: x2 :: kl x3 :: some (.inr (.inr z)) :: t) s := nrfl rfl
theorem x_astore5 {z : Option Nat} {x0 x1 x2 x3 x4 y : Option V} {t : Lc} {dd : decode θ.cc p = .ok (.astore 5, 2)} {hn : 5 < θ.nL} {bb : Seg θ (p + 2) q} {st : Stk} {s : St} : (seq (p_astore 5 dd hn) bb).1 (.inr (.inr z) :: st) (x0 :: x1 :: x2 :: x3 :: x4 :: y :: t) s = bb.1 st (x0 :: x1 :: x2 :: x3 :: kl x4 :: some (.inr (.inr z)) :: t) s := nrfl rfl
theorem x_astore6 {z : Option Nat} {x0 x1 x2 x3 x4 x5 y : Option V} {t : Lc} {dd : decode θ.cc p = .ok (.astore 6, 2)} {hn : 6 < θ.nL} {bb : Seg θ (p + 2) q} {st : Stk} {s : St} : (seq (p_astore 6 dd hn) bb).1 (.inr (.inr z) :: st) (x0 :: x1 :: x2 :: x3 :: x4 :: x5 :: y :: t) s = bb.1 st (x0 :: x1 :: x2 :: x3 :: x4 :: kl x5 :: some (.inr (.inr z)) :: t) s := nrfl rfl
theorem x_astore7 {z : Option Nat} {x0 x1 x2 x3 x4 x5 x6 y : Option V} {t : Lc} {dd : decode θ.cc p = .ok (.astore 7, 2)} {hn : 7 < θ.nL} {bb : Seg θ (p + 2) q} {st : Stk} {s : St} : (seq (p_astore 7 dd hn) bb).1 (.inr (.inr z) :: st) (x0 :: x1 :: x2 :: x3 :: x4 :: x5 :: x6 :: y :: t) s = bb.1 st (x0 :: x1 :: x2 :: x3 :: x4 :: x5 :: kl x6 :: some (.inr (.inr z)) :: t) s := nrfl rfl
theorem x_astore8 {z : Option Nat} {x0 x1 x2 x3 x4 x5 x6 x7 y : Option V} {t : Lc} {dd : decode θ.cc p = .ok (.astore 8, 2)} {hn : 8 < θ.nL} {bb : Seg θ (p + 2) q} {st : Stk} {s : St} : (seq (p_astore 8 dd hn) bb).1 (.inr (.inr z) :: st) (x0 :: x1 :: x2 :: x3 :: x4 :: x5 :: x6 :: x7 :: y :: t) s = bb.1 st (x0 :: x1 :: x2 :: x3 :: x4 :: x5 :: x6 :: kl x7 :: some (.inr (.inr z)) :: t) s := nrfl rfl
theorem x_astore9 {z : Option Nat} {x0 x1 x2 x3 x4 x5 x6 x7 x8 y : Option V} {t : Lc} {dd : decode θ.cc p = .ok (.astore 9, 2)} {hn : 9 < θ.nL} {bb : Seg θ (p + 2) q} {st : Stk} {s : St} : (seq (p_astore 9 dd hn) bb).1 (.inr (.inr z) :: st) (x0 :: x1 :: x2 :: x3 :: x4 :: x5 :: x6 :: x7 :: x8 :: y :: t) s = bb.1 st (x0 :: x1 :: x2 :: x3 :: x4 :: x5 :: x6 :: x7 :: kl x8 :: some (.inr (.inr z)) :: t) s := nrfl rfl
theorem x_astore10 {z : Option Nat} {x0 x1 x2 x3 x4 x5 x6 x7 x8 x9 y : Option V} {t : Lc} {dd : decode θ.cc p = .ok (.astore 10, 2)} {hn : 10 < θ.nL} {bb : Seg θ (p + 2) q} {st : Stk} {s : St} : (seq (p_astore 10 dd hn) bb).1 (.inr (.inr z) :: st) (x0 :: x1 :: x2 :: x3 :: x4 :: x5 :: x6 :: x7 :: x8 :: x9 :: y :: t) s = bb.1 st (x0 :: x1 :: x2 :: x3 :: x4 :: x5 :: x6 :: x7 :: x8 :: kl x9 :: some (.inr (.inr z)) :: t) s := nrfl rfl
theorem x_astore11 {z : Option Nat} {x0 x1 x2 x3 x4 x5 x6 x7 x8 x9 x10 y : Option V} {t : Lc} {dd : decode θ.cc p = .ok (.astore 11, 2)} {hn : 11 < θ.nL} {bb : Seg θ (p + 2) q} {st : Stk} {s : St} : (seq (p_astore 11 dd hn) bb).1 (.inr (.inr z) :: st) (x0 :: x1 :: x2 :: x3 :: x4 :: x5 :: x6 :: x7 :: x8 :: x9 :: x10 :: y :: t) s = bb.1 st (x0 :: x1 :: x2 :: x3 :: x4 :: x5 :: x6 :: x7 :: x8 :: x9 :: kl x10 :: some (.inr (.inr z)) :: t) s := nrfl rfl
theorem x_astore12 {z : Option Nat} {x0 x1 x2 x3 x4 x5 x6 x7 x8 x9 x10 x11 y : Option V} {t : Lc} {dd : decode θ.cc p = .ok (.astore 12, 2)} {hn : 12 < θ.nL} {bb : Seg θ (p + 2) q} {st : Stk} {s : St} : (seq (p_astore 12 dd hn) bb).1 (.inr (.inr z) :: st) (x0 :: x1 :: x2 :: x3 :: x4 :: x5 :: x6 :: x7 :: x8 :: x9 :: x10 :: x11 :: y :: t) s = bb.1 st (x0 :: x1 :: x2 :: x3 :: x4 :: x5 :: x6 :: x7 :: x8 :: x9 :: x10 :: kl x11 :: some (.inr (.inr z)) :: t) s := nrfl rfl
theorem x_astore13 {z : Option Nat} {x0 x1 x2 x3 x4 x5 x6 x7 x8 x9 x10 x11 x12 y : Option V} {t : Lc} {dd : decode θ.cc p = .ok (.astore 13, 2)} {hn : 13 < θ.nL} {bb : Seg θ (p + 2) q} {st : Stk} {s : St} : (seq (p_astore 13 dd hn) bb).1 (.inr (.inr z) :: st) (x0 :: x1 :: x2 :: x3 :: x4 :: x5 :: x6 :: x7 :: x8 :: x9 :: x10 :: x11 :: x12 :: y :: t) s = bb.1 st (x0 :: x1 :: x2 :: x3 :: x4 :: x5 :: x6 :: x7 :: x8 :: x9 :: x10 :: x11 :: kl x12 :: some (.inr (.inr z)) :: t) s := nrfl rfl
theorem x_astore14 {z : Option Nat} {x0 x1 x2 x3 x4 x5 x6 x7 x8 x9 x10 x11 x12 x13 y : Option V} {t : Lc} {dd : decode θ.cc p = .ok (.astore 14, 2)} {hn : 14 < θ.nL} {bb : Seg θ (p + 2) q} {st : Stk} {s : St} : (seq (p_astore 14 dd hn) bb).1 (.inr (.inr z) :: st) (x0 :: x1 :: x2 :: x3 :: x4 :: x5 :: x6 :: x7 :: x8 :: x9 :: x10 :: x11 :: x12 :: x13 :: y :: t) s = bb.1 st (x0 :: x1 :: x2 :: x3 :: x4 :: x5 :: x6 :: x7 :: x8 :: x9 :: x10 :: x11 :: x12 :: kl x13 :: some (.inr (.inr z)) :: t) s := nrfl rfl
theorem x_astore15 {z : Option Nat} {x0 x1 x2 x3 x4 x5 x6 x7 x8 x9 x10 x11 x12 x13 x14 y : Option V} {t : Lc} {dd : decode θ.cc p = .ok (.astore 15, 2)} {hn : 15 < θ.nL} {bb : Seg θ (p + 2) q} {st : Stk} {s : St} : (seq (p_astore 15 dd hn) bb).1 (.inr (.inr z) :: st) (x0 :: x1 :: x2 :: x3 :: x4 :: x5 :: x6 :: x7 :: x8 :: x9 :: x10 :: x11 :: x12 :: x13 :: x14 :: y :: t) s = bb.1 st (x0 :: x1 :: x2 :: x3 :: x4 :: x5 :: x6 :: x7 :: x8 :: x9 :: x10 :: x11 :: x12 :: x13 :: kl x14 :: some (.inr (.inr z)) :: t) s := nrfl rfl
def p_iinc (i : Nat) (n : Int) (dd : decode θ.cc p = .ok (.iinc i n, 3)) (hn : i < θ.nL) : Seg θ p (p + 3) := ⟨fun st L s => match L[i]? with
  | some (some (.inl z)) => some (.inl (st, stL L i (.inl (z + n)), s))
  | _ => none, Nat.le_add_right _ _, fun st L s o h => by
    dsimp only at h
    split at h
    · rename_i z hi
      cases h
      refine ⟨Le.rfl', fun κ PR PT C S hE hC hS hk => ?_⟩
      intro H locs ls cells slots hz hH hA hW hl hc hs
      obtain ⟨q, hq⟩ := List.getElem?_of_mem (lvs_mem (k := 0) (lcv_get hi))
      rw [Nat.zero_add] at hq
      exact lv_iinc hE.1.hx hE.1.hb dd hl hq (by rw [← Int32.ofInt_add]) (by rw [hE.2.2.1]; exact hn) rfl (fun ls' hl' => hk H locs ls' cells slots hz hH hA hW (lv_stL (v := .inl (z + n)) hl') hc hs)
    · cases h⟩
theorem x_iinc0 {z n : Int} {t : Lc} {dd : decode θ.cc p = .ok (.iinc 0 n, 3)} {hn : 0 < θ.nL} {bb : Seg θ (p + 3) q} {st : Stk} {s : St} : (seq (p_iinc 0 n dd hn) bb).1 st (some (.inl z) :: t) s = bb.1 st (some (.inl (z + n)) :: t) s := nrfl rfl
theorem x_iinc1 {z n : Int} {x0 : Option V} {t : Lc} {dd : decode θ.cc p = .ok (.iinc 1 n, 3)} {hn : 1 < θ.nL} {bb : Seg θ (p + 3) q} {st : Stk} {s : St} : (seq (p_iinc 1 n dd hn) bb).1 st (x0 :: some (.inl z) :: t) s = bb.1 st (kl x0 :: some (.inl (z + n)) :: t) s := nrfl rfl
theorem x_iinc2 {z n : Int} {x0 x1 : Option V} {t : Lc} {dd : decode θ.cc p = .ok (.iinc 2 n, 3)} {hn : 2 < θ.nL} {bb : Seg θ (p + 3) q} {st : Stk} {s : St} : (seq (p_iinc 2 n dd hn) bb).1 st (x0 :: x1 :: some (.inl z) :: t) s = bb.1 st (x0 :: kl x1 :: some (.inl (z + n)) :: t) s := nrfl rfl
theorem x_iinc3 {z n : Int} {x0 x1 x2 : Option V} {t : Lc} {dd : decode θ.cc p = .ok (.iinc 3 n, 3)} {hn : 3 < θ.nL} {bb : Seg θ (p + 3) q} {st : Stk} {s : St} : (seq (p_iinc 3 n dd hn) bb).1 st (x0 :: x1 :: x2 :: some (.inl z) :: t) s = bb.1 st (x0 :: x1 :: kl x2 :: some (.inl (z + n)) :: t) s := nrfl rfl
theorem x_iinc4 {z n : Int} {x0 x1 x2 x3 : Option V} {t : Lc} {dd : decode θ.cc p = .ok (.iinc 4 n, 3)} {hn : 4 < θ.nL} {bb : Seg θ (p + 3) q} {st : Stk} {s : St} : (seq (p_iinc 4 n dd hn) bb).1 st (x0 :: x1 :: x2 :: x3 :: some (.inl z) :: t) s = bb.1 st (x0 :: x1 :: x2 :: kl x3 :: some (.inl (z + n)) :: t) s := nrfl rfl
theorem x_iinc5 {z n : Int} {x0 x1 x2 x3 x4 : Option V} {t : Lc} {dd : decode θ.cc p = .ok (.iinc 5 n, 3)} {hn : 5 < θ.nL} {bb : Seg θ (p + 3) q} {st : Stk} {s : St} : (seq (p_iinc 5 n dd hn) bb).1 st (x0 :: x1 :: x2 :: x3 :: x4 :: some (.inl z) :: t) s = bb.1 st (x0 :: x1 :: x2 :: x3 :: kl x4 :: some (.inl (z + n)) :: t) s := nrfl rfl
theorem x_iinc6 {z n : Int} {x0 x1 x2 x3 x4 x5 : Option V} {t : Lc} {dd : decode θ.cc p = .ok (.iinc 6 n, 3)} {hn : 6 < θ.nL} {bb : Seg θ (p + 3) q} {st : Stk} {s : St} : (seq (p_iinc 6 n dd hn) bb).1 st (x0 :: x1 :: x2 :: x3 :: x4 :: x5 :: some (.inl z) :: t) s = bb.1 st (x0 :: x1 :: x2 :: x3 :: x4 :: kl x5 :: some (.inl (z + n)) :: t) s := nrfl rfl
theorem x_iinc7 {z n : Int} {x0 x1 x2 x3 x4 x5 x6 : Option V} {t : Lc} {dd : decode θ.cc p = .ok (.iinc 7 n, 3)} {hn : 7 < θ.nL} {bb : Seg θ (p + 3) q} {st : Stk} {s : St} : (seq (p_iinc 7 n dd hn) bb).1 st (x0 :: x1 :: x2 :: x3 :: x4 :: x5 :: x6 :: some (.inl z) :: t) s = bb.1 st (x0 :: x1 :: x2 :: x3 :: x4 :: x5 :: kl x6 :: some (.inl (z + n)) :: t) s := nrfl rfl
theorem x_iinc8 {z n : Int} {x0 x1 x2 x3 x4 x5 x6 x7 : Option V} {t : Lc} {dd : decode θ.cc p = .ok (.iinc 8 n, 3)} {hn : 8 < θ.nL} {bb : Seg θ (p + 3) q} {st : Stk} {s : St} : (seq (p_iinc 8 n dd hn) bb).1 st (x0 :: x1 :: x2 :: x3 :: x4 :: x5 :: x6 :: x7 :: some (.inl z) :: t) s = bb.1 st (x0 :: x1 :: x2 :: x3 :: x4 :: x5 :: x6 :: kl x7 :: some (.inl (z + n)) :: t) s := nrfl rfl
theorem x_iinc9 {z n : Int} {x0 x1 x2 x3 x4 x5 x6 x7 x8 : Option V} {t : Lc} {dd : decode θ.cc p = .ok (.iinc 9 n, 3)} {hn : 9 < θ.nL} {bb : Seg θ (p + 3) q} {st : Stk} {s : St} : (seq (p_iinc 9 n dd hn) bb).1 st (x0 :: x1 :: x2 :: x3 :: x4 :: x5 :: x6 :: x7 :: x8 :: some (.inl z) :: t) s = bb.1 st (x0 :: x1 :: x2 :: x3 :: x4 :: x5 :: x6 :: x7 :: kl x8 :: some (.inl (z + n)) :: t) s := nrfl rfl
theorem x_iinc10 {z n : Int} {x0 x1 x2 x3 x4 x5 x6 x7 x8 x9 : Option V} {t : Lc} {dd : decode θ.cc p = .ok (.iinc 10 n, 3)} {hn : 10 < θ.nL} {bb : Seg θ (p + 3) q} {st : Stk} {s : St} : (seq (p_iinc 10 n dd hn) bb).1 st (x0 :: x1 :: x2 :: x3 :: x4 :: x5 :: x6 :: x7 :: x8 :: x9 :: some (.inl z) :: t) s = bb.1 st (x0 :: x1 :: x2 :: x3 :: x4 :: x5 :: x6 :: x7 :: x8 :: kl x9 :: some (.inl (z + n)) :: t) s := nrfl rfl
theorem x_iinc11 {z n : Int} {x0 x1 x2 x3 x4 x5 x6 x7 x8 x9 x10 : Option V} {t : Lc} {dd : decode θ.cc p = .ok (.iinc 11 n, 3)} {hn : 11 < θ.nL} {bb : Seg θ (p + 3) q} {st : Stk} {s : St} : (seq (p_iinc 11 n dd hn) bb).1 st (x0 :: x1 :: x2 :: x3 :: x4 :: x5 :: x6 :: x7 :: x8 :: x9 :: x10 :: some (.inl z) :: t) s = bb.1 st (x0 :: x1 :: x2 :: x3 :: x4 :: x5 :: x6 :: x7 :: x8 :: x9 :: kl x10 :: some (.inl (z + n)) :: t) s := nrfl rfl
theorem x_iinc12 {z n : Int} {x0 x1 x2 x3 x4 x5 x6 x7 x8 x9 x10 x11 : Option V} {t : Lc} {dd : decode θ.cc p = .ok (.iinc 12 n, 3)} {hn : 12 < θ.nL} {bb : Seg θ (p + 3) q} {st : Stk} {s : St} : (seq (p_iinc 12 n dd hn) bb).1 st (x0 :: x1 :: x2 :: x3 :: x4 :: x5 :: x6 :: x7 :: x8 :: x9 :: x10 :: x11 :: some (.inl z) :: t) s = bb.1 st (x0 :: x1 :: x2 :: x3 :: x4 :: x5 :: x6 :: x7 :: x8 :: x9 :: x10 :: kl x11 :: some (.inl (z + n)) :: t) s := nrfl rfl
theorem x_iinc13 {z n : Int} {x0 x1 x2 x3 x4 x5 x6 x7 x8 x9 x10 x11 x12 : Option V} {t : Lc} {dd : decode θ.cc p = .ok (.iinc 13 n, 3)} {hn : 13 < θ.nL} {bb : Seg θ (p + 3) q} {st : Stk} {s : St} : (seq (p_iinc 13 n dd hn) bb).1 st (x0 :: x1 :: x2 :: x3 :: x4 :: x5 :: x6 :: x7 :: x8 :: x9 :: x10 :: x11 :: x12 :: some (.inl z) :: t) s = bb.1 st (x0 :: x1 :: x2 :: x3 :: x4 :: x5 :: x6 :: x7 :: x8 :: x9 :: x10 :: x11 :: kl x12 :: some (.inl (z + n)) :: t) s := nrfl rfl
theorem x_iinc14 {z n : Int} {x0 x1 x2 x3 x4 x5 x6 x7 x8 x9 x10 x11 x12 x13 : Option V} {t : Lc} {dd : decode θ.cc p = .ok (.iinc 14 n, 3)} {hn : 14 < θ.nL} {bb : Seg θ (p + 3) q} {st : Stk} {s : St} : (seq (p_iinc 14 n dd hn) bb).1 st (x0 :: x1 :: x2 :: x3 :: x4 :: x5 :: x6 :: x7 :: x8 :: x9 :: x10 :: x11 :: x12 :: x13 :: some (.inl z) :: t) s = bb.1 st (x0 :: x1 :: x2 :: x3 :: x4 :: x5 :: x6 :: x7 :: x8 :: x9 :: x10 :: x11 :: x12 :: kl x13 :: some (.inl (z + n)) :: t) s := nrfl rfl
theorem x_iinc15 {z n : Int} {x0 x1 x2 x3 x4 x5 x6 x7 x8 x9 x10 x11 x12 x13 x14 : Option V} {t : Lc} {dd : decode θ.cc p = .ok (.iinc 15 n, 3)} {hn : 15 < θ.nL} {bb : Seg θ (p + 3) q} {st : Stk} {s : St} : (seq (p_iinc 15 n dd hn) bb).1 st (x0 :: x1 :: x2 :: x3 :: x4 :: x5 :: x6 :: x7 :: x8 :: x9 :: x10 :: x11 :: x12 :: x13 :: x14 :: some (.inl z) :: t) s = bb.1 st (x0 :: x1 :: x2 :: x3 :: x4 :: x5 :: x6 :: x7 :: x8 :: x9 :: x10 :: x11 :: x12 :: x13 :: kl x14 :: some (.inl (z + n)) :: t) s := nrfl rfl
def erL : List Bool → Lc → Lc
  | [], L => L
  | _ :: _, [] => []
  | true :: m, x :: t => x :: erL m t
  | false :: m, _ :: t => none :: erL m t
theorem erL_mem : ∀ (m : List Bool) (L : Lc) (i : Nat) (v : V), (erL m L)[i]? = some (some v) → L[i]? = some (some v)
  | [], L, i, v, h => h
  | _ :: _, [], i, v, h => by simp [erL] at h
  | true :: m, x :: t, 0, v, h => h
  | true :: m, x :: t, i + 1, v, h => by
    have h1 : (erL m t)[i]? = some (some v) := by simpa [erL] using h
    simpa using erL_mem m t i v h1
  | false :: m, x :: t, 0, v, h => by simp [erL] at h
  | false :: m, x :: t, i + 1, v, h => by
    have h1 : (erL m t)[i]? = some (some v) := by simpa [erL] using h
    simpa using erL_mem m t i v h1
def er (m : List Bool) : Seg θ p p := ⟨fun st L s => some (.inl (st, erL m L, s)), Nat.le_refl _, fun st L s o h => by
  cases h
  refine ⟨Le.rfl', fun κ PR PT C S hE hC hS hk => ?_⟩
  intro H locs ls cells slots hz hH hA hW hl hc hs
  refine hk H locs ls cells slots hz hH hA hW (lvs_sub hl (fun i y hy => ?_)) hc hs
  obtain ⟨x, hx, rfl⟩ := lcv_of hy
  have := lvs_mem (k := 0) (lcv_get (erL_mem m L i x hx))
  rwa [Nat.zero_add] at this⟩
theorem x_er {m : List Bool} {bb : Seg θ p q} {st : Stk} {L : Lc} {s : St} : (seq (er m) bb).1 st L s = bb.1 st (erL m L) s := nrfl rfl
theorem erL_0 {L : Lc} : erL [] L = L := by cases L <;> rfl
theorem erL_t {m : List Bool} {x : Option V} {L : Lc} : erL (true :: m) (x :: L) = x :: erL m L := nrfl rfl
theorem erL_f {m : List Bool} {x : Option V} {L : Lc} : erL (false :: m) (x :: L) = none :: erL m L := nrfl rfl

def p_icmp_eq {off : Int} (t : Nat) (dd : decode θ.cc p = .ok (.if_icmp .eq off, 3)) (ht : (p : Int) + off = (t : Int)) : Seg θ p (p + 3) := ⟨fun st L s => match st with
  | .inl b :: .inl a :: r => if (-2147483648 ≤ a ∧ a ≤ 2147483647) ∧ (-2147483648 ≤ b ∧ b ≤ 2147483647) then some (if a = b then .inr (.inl (t, r, L, s)) else .inl (r, L, s)) else none
  | _ => none, Nat.le_add_right _ _, fun st L s o h => by
    dsimp only at h
    split at h
    · split at h
      · rename_i a b r hg
        cases h
        refine ⟨by split <;> exact Le.rfl', fun κ PR PT C S hE hC hS hk => ?_⟩
        exact g_icmp_eq hE.1 dd ht (fun c_ => by
        rw [if_pos c_] at hk
        exact hk) (fun c_ => by
        rw [if_neg c_] at hk
        exact hk) hg.1 hg.2
      · cases h
    · cases h⟩
theorem x_icmp_eq {off a b : Int} {t : Nat} {dd : decode θ.cc p = .ok (.if_icmp .eq off, 3)} {ht : (p : Int) + off = (t : Int)} {bb : Seg θ (p + 3) q} {st : Stk} {L : Lc} {s : St} (ha : -2147483648 ≤ a ∧ a ≤ 2147483647) (hb : -2147483648 ≤ b ∧ b ≤ 2147483647) : (seq (p_icmp_eq t dd ht) bb).1 (.inl b :: .inl a :: st) L s = if a = b then some (.inr (.inl (t, st, L, s))) else bb.1 st L s := by
  show bd (if (-2147483648 ≤ a ∧ a ≤ 2147483647) ∧ (-2147483648 ≤ b ∧ b ≤ 2147483647) then some (if a = b then .inr (.inl (t, st, L, s)) else .inl (st, L, s)) else none) bb.1 = _
  rw [if_pos ⟨ha, hb⟩]
  split <;> rfl
def p_if_eq {off : Int} (t : Nat) (dd : decode θ.cc p = .ok (.ifCond .eq off, 3)) (ht : (p : Int) + off = (t : Int)) : Seg θ p (p + 3) := ⟨fun st L s => match st with
  | .inl a :: r => if -2147483648 ≤ a ∧ a ≤ 2147483647 then some (if a = 0 then .inr (.inl (t, r, L, s)) else .inl (r, L, s)) else none
  | _ => none, Nat.le_add_right _ _, fun st L s o h => by
    dsimp only at h
    split at h
    · split at h
      · rename_i a r hg
        cases h
        refine ⟨by split <;> exact Le.rfl', fun κ PR PT C S hE hC hS hk => ?_⟩
        exact g_if_eq hE.1 dd ht (fun c_ => by
        rw [if_pos c_] at hk
        exact hk) (fun c_ => by
        rw [if_neg c_] at hk
        exact hk) hg
      · cases h
    · cases h⟩
theorem x_if_eq {off a : Int} {t : Nat} {dd : decode θ.cc p = .ok (.ifCond .eq off, 3)} {ht : (p : Int) + off = (t : Int)} {bb : Seg θ (p + 3) q} {st : Stk} {L : Lc} {s : St} (ha : -2147483648 ≤ a ∧ a ≤ 2147483647) : (seq (p_if_eq t dd ht) bb).1 (.inl a :: st) L s = if a = 0 then some (.inr (.inl (t, st, L, s))) else bb.1 st L s := by
  show bd (if -2147483648 ≤ a ∧ a ≤ 2147483647 then some (if a = 0 then .inr (.inl (t, st, L, s)) else .inl (st, L, s)) else none) bb.1 = _
  rw [if_pos ha]
  split <;> rfl
def p_icmp_ne {off : Int} (t : Nat) (dd : decode θ.cc p = .ok (.if_icmp .ne off, 3)) (ht : (p : Int) + off = (t : Int)) : Seg θ p (p + 3) := ⟨fun st L s => match st with
  | .inl b :: .inl a :: r => if (-2147483648 ≤ a ∧ a ≤ 2147483647) ∧ (-2147483648 ≤ b ∧ b ≤ 2147483647) then some (if ¬ a = b then .inr (.inl (t, r, L, s)) else .inl (r, L, s)) else none
  | _ => none, Nat.le_add_right _ _, fun st L s o h => by
    dsimp only at h
    split at h
    · split at h
      · rename_i a b r hg
        cases h
        refine ⟨by split <;> exact Le.rfl', fun κ PR PT C S hE hC hS hk => ?_⟩
        exact g_icmp_ne hE.1 dd ht (fun c_ => by
        rw [if_pos c_] at hk
        exact hk) (fun c_ => by
        rw [if_neg (fun z => z c_)] at hk
        exact hk) hg.1 hg.2
      · cases h
    · cases h⟩
theorem x_icmp_ne {off a b : Int} {t : Nat} {dd : decode θ.cc p = .ok (.if_icmp .ne off, 3)} {ht : (p : Int) + off = (t : Int)} {bb : Seg θ (p + 3) q} {st : Stk} {L : Lc} {s : St} (ha : -2147483648 ≤ a ∧ a ≤ 2147483647) (hb : -2147483648 ≤ b ∧ b ≤ 2147483647) : (seq (p_icmp_ne t dd ht) bb).1 (.inl b :: .inl a :: st) L s = if ¬ a = b then some (.inr (.inl (t, st, L, s))) else bb.1 st L s := by
  show bd (if (-2147483648 ≤ a ∧ a ≤ 2147483647) ∧ (-2147483648 ≤ b ∧ b ≤ 2147483647) then some (if ¬ a = b then .inr (.inl (t, st, L, s)) else .inl (st, L, s)) else none) bb.1 = _
  rw [if_pos ⟨ha, hb⟩]
  split <;> rfl
def p_if_ne {off : Int} (t : Nat) (dd : decode θ.cc p = .ok (.ifCond .ne off, 3)) (ht : (p : Int) + off = (t : Int)) : Seg θ p (p + 3) := ⟨fun st L s => match st with
  | .inl a :: r => if -2147483648 ≤ a ∧ a ≤ 2147483647 then some (if ¬ a = 0 then .inr (.inl (t, r, L, s)) else .inl (r, L, s)) else none
  | _ => none, Nat.le_add_right _ _, fun st L s o h => by
    dsimp only at h
    split at h
    · split at h
      · rename_i a r hg
        cases h
        refine ⟨by split <;> exact Le.rfl', fun κ PR PT C S hE hC hS hk => ?_⟩
        exact g_if_ne hE.1 dd ht (fun c_ => by
        rw [if_pos c_] at hk
        exact hk) (fun c_ => by
        rw [if_neg (fun z => z c_)] at hk
        exact hk) hg
      · cases h
    · cases h⟩
theorem x_if_ne {off a : Int} {t : Nat} {dd : decode θ.cc p = .ok (.ifCond .ne off, 3)} {ht : (p : Int) + off = (t : Int)} {bb : Seg θ (p + 3) q} {st : Stk} {L : Lc} {s : St} (ha : -2147483648 ≤ a ∧ a ≤ 2147483647) : (seq (p_if_ne t dd ht) bb).1 (.inl a :: st) L s = if ¬ a = 0 then some (.inr (.inl (t, st, L, s))) else bb.1 st L s := by
  show bd (if -2147483648 ≤ a ∧ a ≤ 2147483647 then some (if ¬ a = 0 then .inr (.inl (t, st, L, s)) else .inl (st, L, s)) else none) bb.1 = _
  rw [if_pos ha]
  split <;> rfl
def p_icmp_lt {off : Int} (t : Nat) (dd : decode θ.cc p = .ok (.if_icmp .lt off, 3)) (ht : (p : Int) + off = (t : Int)) : Seg θ p (p + 3) := ⟨fun st L s => match st with
  | .inl b :: .inl a :: r => if (-2147483648 ≤ a ∧ a ≤ 2147483647) ∧ (-2147483648 ≤ b ∧ b ≤ 2147483647) then some (if a < b then .inr (.inl (t, r, L, s)) else .inl (r, L, s)) else none
  | _ => none, Nat.le_add_right _ _, fun st L s o h => by
    dsimp only at h
    split at h
    · split at h
      · rename_i a b r hg
        cases h
        refine ⟨by split <;> exact Le.rfl', fun κ PR PT C S hE hC hS hk => ?_⟩
        exact g_icmp_lt hE.1 dd ht (fun c_ => by
        rw [if_pos c_] at hk
        exact hk) (fun c_ => by
        rw [if_neg c_] at hk
        exact hk) hg.1 hg.2
      · cases h
    · cases h⟩
theorem x_icmp_lt {off a b : Int} {t : Nat} {dd : decode θ.cc p = .ok (.if_icmp .lt off, 3)} {ht : (p : Int) + off = (t : Int)} {bb : Seg θ (p + 3) q} {st : Stk} {L : Lc} {s : St} (ha : -2147483648 ≤ a ∧ a ≤ 2147483647) (hb : -2147483648 ≤ b ∧ b ≤ 2147483647) : (seq (p_icmp_lt t dd ht) bb).1 (.inl b :: .inl a :: st) L s = if a < b then some (.inr (.inl (t, st, L, s))) else bb.1 st L s := by
  show bd (if (-2147483648 ≤ a ∧ a ≤ 2147483647) ∧ (-2147483648 ≤ b ∧ b ≤ 2147483647) then some (if a < b then .inr (.inl (t, st, L, s)) else .inl (st, L, s)) else none) bb.1 = _
  rw [if_pos ⟨ha, hb⟩]
  split <;> rfl
def p_if_lt {off : Int} (t : Nat) (dd : decode θ.cc p = .ok (.ifCond .lt off, 3)) (ht : (p : Int) + off = (t : Int)) : Seg θ p (p + 3) := ⟨fun st L s => match st with
  | .inl a :: r => if -2147483648 ≤ a ∧ a ≤ 2147483647 then some (if a < 0 then .inr (.inl (t, r, L, s)) else .inl (r, L, s)) else none
  | _ => none, Nat.le_add_right _ _, fun st L s o h => by
    dsimp only at h
    split at h
    · split at h
      · rename_i a r hg
        cases h
        refine ⟨by split <;> exact Le.rfl', fun κ PR PT C S hE hC hS hk => ?_⟩
        exact g_if_lt hE.1 dd ht (fun c_ => by
        rw [if_pos c_] at hk
        exact hk) (fun c_ => by
        rw [if_neg c_] at hk
        exact hk) hg
      · cases h
    · cases h⟩
theorem x_if_lt {off a : Int} {t : Nat} {dd : decode θ.cc p = .ok (.ifCond .lt off, 3)} {ht : (p : Int) + off = (t : Int)} {bb : Seg θ (p + 3) q} {st : Stk} {L : Lc} {s : St} (ha : -2147483648 ≤ a ∧ a ≤ 2147483647) : (seq (p_if_lt t dd ht) bb).1 (.inl a :: st) L s = if a < 0 then some (.inr (.inl (t, st, L, s))) else bb.1 st L s := by
  show bd (if -2147483648 ≤ a ∧ a ≤ 2147483647 then some (if a < 0 then .inr (.inl (t, st, L, s)) else .inl (st, L, s)) else none) bb.1 = _
  rw [if_pos ha]
  split <;> rfl
def p_icmp_ge {off : Int} (t : Nat) (dd : decode θ.cc p = .ok (.if_icmp .ge off, 3)) (ht : (p : Int) + off = (t : Int)) : Seg θ p (p + 3) := ⟨fun st L s => match st with
  | .inl b :: .inl a :: r => if (-2147483648 ≤ a ∧ a ≤ 2147483647) ∧ (-2147483648 ≤ b ∧ b ≤ 2147483647) then some (if b ≤ a then .inr (.inl (t, r, L, s)) else .inl (r, L, s)) else none
  | _ => none, Nat.le_add_right _ _, fun st L s o h => by
    dsimp only at h
    split at h
    · split at h
      · rename_i a b r hg
        cases h
        refine ⟨by split <;> exact Le.rfl', fun κ PR PT C S hE hC hS hk => ?_⟩
        exact g_icmp_ge hE.1 dd ht (fun c_ => by
        rw [if_pos c_] at hk
        exact hk) (fun c_ => by
        rw [if_neg c_] at hk
        exact hk) hg.1 hg.2
      · cases h
    · cases h⟩
theorem x_icmp_ge {off a b : Int} {t : Nat} {dd : decode θ.cc p = .ok (.if_icmp .ge off, 3)} {ht : (p : Int) + off = (t : Int)} {bb : Seg θ (p + 3) q} {st : Stk} {L : Lc} {s : St} (ha : -2147483648 ≤ a ∧ a ≤ 2147483647) (hb : -2147483648 ≤ b ∧ b ≤ 2147483647) : (seq (p_icmp_ge t dd ht) bb).1 (.inl b :: .inl a :: st) L s = if b ≤ a then some (.inr (.inl (t, st, L, s))) else bb.1 st L s := by
  show bd (if (-2147483648 ≤ a ∧ a ≤ 2147483647) ∧ (-2147483648 ≤ b ∧ b ≤ 2147483647) then some (if b ≤ a then .inr (.inl (t, st, L, s)) else .inl (st, L, s)) else none) bb.1 = _
  rw [if_pos ⟨ha, hb⟩]
  split <;> rfl
def p_if_ge {off : Int} (t : Nat) (dd : decode θ.cc p = .ok (.ifCond .ge off, 3)) (ht : (p : Int) + off = (t : Int)) : Seg θ p (p + 3) := ⟨fun st L s => match st with
  | .inl a :: r => if -2147483648 ≤ a ∧ a ≤ 2147483647 then some (if 0 ≤ a then .inr (.inl (t, r, L, s)) else .inl (r, L, s)) else none
  | _ => none, Nat.le_add_right _ _, fun st L s o h => by
    dsimp only at h
    split at h
    · split at h
      · rename_i a r hg
        cases h
        refine ⟨by split <;> exact Le.rfl', fun κ PR PT C S hE hC hS hk => ?_⟩
        exact g_if_ge hE.1 dd ht (fun c_ => by
        rw [if_pos c_] at hk
        exact hk) (fun c_ => by
        rw [if_neg c_] at hk
        exact hk) hg
      · cases h
    · cases h⟩
theorem x_if_ge {off a : Int} {t : Nat} {dd : decode θ.cc p = .ok (.ifCond .ge off, 3)} {ht : (p : Int) + off = (t : Int)} {bb : Seg θ (p + 3) q} {st : Stk} {L : Lc} {s : St} (ha : -2147483648 ≤ a ∧ a ≤ 2147483647) : (seq (p_if_ge t dd ht) bb).1 (.inl a :: st) L s = if 0 ≤ a then some (.inr (.inl (t, st, L, s))) else bb.1 st L s := by
  show bd (if -2147483648 ≤ a ∧ a ≤ 2147483647 then some (if 0 ≤ a then .inr (.inl (t, st, L, s)) else .inl (st, L, s)) else none) bb.1 = _
  rw [if_pos ha]
  split <;> rfl
def p_icmp_gt {off : Int} (t : Nat) (dd : decode θ.cc p = .ok (.if_icmp .gt off, 3)) (ht : (p : Int) + off = (t : Int)) : Seg θ p (p + 3) := ⟨fun st L s => match st with
  | .inl b :: .inl a :: r => if (-2147483648 ≤ a ∧ a ≤ 2147483647) ∧ (-2147483648 ≤ b ∧ b ≤ 2147483647) then some (if b < a then .inr (.inl (t, r, L, s)) else .inl (r, L, s)) else none
  | _ => none, Nat.le_add_right _ _, fun st L s o h => by
    dsimp only at h
    split at h
    · split at h
      · rename_i a b r hg
        cases h
        refine ⟨by split <;> exact Le.rfl', fun κ PR PT C S hE hC hS hk => ?_⟩
        exact g_icmp_gt hE.1 dd ht (fun c_ => by
        rw [if_pos c_] at hk
        exact hk) (fun c_ => by
        rw [if_neg c_] at hk
        exact hk) hg.1 hg.2
      · cases h
    · cases h⟩
theorem x_icmp_gt {off a b : Int} {t : Nat} {dd : decode θ.cc p = .ok (.if_icmp .gt off, 3)} {ht : (p : Int) + off = (t : Int)} {bb : Seg θ (p + 3) q} {st : Stk} {L : Lc} {s : St} (ha : -2147483648 ≤ a ∧ a ≤ 2147483647) (hb : -2147483648 ≤ b ∧ b ≤ 2147483647) : (seq (p_icmp_gt t dd ht) bb).1 (.inl b :: .inl a :: st) L s = if b < a then some (.inr (.inl (t, st, L, s))) else bb.1 st L s := by
  show bd (if (-2147483648 ≤ a ∧ a ≤ 2147483647) ∧ (-2147483648 ≤ b ∧ b ≤ 2147483647) then some (if b < a then .inr (.inl (t, st, L, s)) else .inl (st, L, s)) else none) bb.1 = _
  rw [if_pos ⟨ha, hb⟩]
  split <;> rfl
def p_if_gt {off : Int} (t : Nat) (dd : decode θ.cc p = .ok (.ifCond .gt off, 3)) (ht : (p : Int) + off = (t : Int)) : Seg θ p (p + 3) := ⟨fun st L s => match st with
  | .inl a :: r => if -2147483648 ≤ a ∧ a ≤ 2147483647 then some (if 0 < a then .inr (.inl (t, r, L, s)) else .inl (r, L, s)) else none
  | _ => none, Nat.le_add_right _ _, fun st L s o h => by
    dsimp only at h
    split at h
    · split at h
      · rename_i a r hg
        cases h
        refine ⟨by split <;> exact Le.rfl', fun κ PR PT C S hE hC hS hk => ?_⟩
        exact g_if_gt hE.1 dd ht (fun c_ => by
        rw [if_pos c_] at hk
        exact hk) (fun c_ => by
        rw [if_neg c_] at hk
        exact hk) hg
      · cases h
    · cases h⟩
theorem x_if_gt {off a : Int} {t : Nat} {dd : decode θ.cc p = .ok (.ifCond .gt off, 3)} {ht : (p : Int) + off = (t : Int)} {bb : Seg θ (p + 3) q} {st : Stk} {L : Lc} {s : St} (ha : -2147483648 ≤ a ∧ a ≤ 2147483647) : (seq (p_if_gt t dd ht) bb).1 (.inl a :: st) L s = if 0 < a then some (.inr (.inl (t, st, L, s))) else bb.1 st L s := by
  show bd (if -2147483648 ≤ a ∧ a ≤ 2147483647 then some (if 0 < a then .inr (.inl (t, st, L, s)) else .inl (st, L, s)) else none) bb.1 = _
  rw [if_pos ha]
  split <;> rfl
def p_icmp_le {off : Int} (t : Nat) (dd : decode θ.cc p = .ok (.if_icmp .le off, 3)) (ht : (p : Int) + off = (t : Int)) : Seg θ p (p + 3) := ⟨fun st L s => match st with
  | .inl b :: .inl a :: r => if (-2147483648 ≤ a ∧ a ≤ 2147483647) ∧ (-2147483648 ≤ b ∧ b ≤ 2147483647) then some (if a ≤ b then .inr (.inl (t, r, L, s)) else .inl (r, L, s)) else none
  | _ => none, Nat.le_add_right _ _, fun st L s o h => by
    dsimp only at h
    split at h
    · split at h
      · rename_i a b r hg
        cases h
        refine ⟨by split <;> exact Le.rfl', fun κ PR PT C S hE hC hS hk => ?_⟩
        exact g_icmp_le hE.1 dd ht (fun c_ => by
        rw [if_pos c_] at hk
        exact hk) (fun c_ => by
        rw [if_neg c_] at hk
        exact hk) hg.1 hg.2
      · cases h
    · cases h⟩
theorem x_icmp_le {off a b : Int} {t : Nat} {dd : decode θ.cc p = .ok (.if_icmp .le off, 3)} {ht : (p : Int) + off = (t : Int)} {bb : Seg θ (p + 3) q} {st : Stk} {L : Lc} {s : St} (ha : -2147483648 ≤ a ∧ a ≤ 2147483647) (hb : -2147483648 ≤ b ∧ b ≤ 2147483647) : (seq (p_icmp_le t dd ht) bb).1 (.inl b :: .inl a :: st) L s = if a ≤ b then some (.inr (.inl (t, st, L, s))) else bb.1 st L s := by
  show bd (if (-2147483648 ≤ a ∧ a ≤ 2147483647) ∧ (-2147483648 ≤ b ∧ b ≤ 2147483647) then some (if a ≤ b then .inr (.inl (t, st, L, s)) else .inl (st, L, s)) else none) bb.1 = _
  rw [if_pos ⟨ha, hb⟩]
  split <;> rfl
def p_if_le {off : Int} (t : Nat) (dd : decode θ.cc p = .ok (.ifCond .le off, 3)) (ht : (p : Int) + off = (t : Int)) : Seg θ p (p + 3) := ⟨fun st L s => match st with
  | .inl a :: r => if -2147483648 ≤ a ∧ a ≤ 2147483647 then some (if a ≤ 0 then .inr (.inl (t, r, L, s)) else .inl (r, L, s)) else none
  | _ => none, Nat.le_add_right _ _, fun st L s o h => by
    dsimp only at h
    split at h
    · split at h
      · rename_i a r hg
        cases h
        refine ⟨by split <;> exact Le.rfl', fun κ PR PT C S hE hC hS hk => ?_⟩
        exact g_if_le hE.1 dd ht (fun c_ => by
        rw [if_pos c_] at hk
        exact hk) (fun c_ => by
        rw [if_neg c_] at hk
        exact hk) hg
      · cases h
    · cases h⟩
theorem x_if_le {off a : Int} {t : Nat} {dd : decode θ.cc p = .ok (.ifCond .le off, 3)} {ht : (p : Int) + off = (t : Int)} {bb : Seg θ (p + 3) q} {st : Stk} {L : Lc} {s : St} (ha : -2147483648 ≤ a ∧ a ≤ 2147483647) : (seq (p_if_le t dd ht) bb).1 (.inl a :: st) L s = if a ≤ 0 then some (.inr (.inl (t, st, L, s))) else bb.1 st L s := by
  show bd (if -2147483648 ≤ a ∧ a ≤ 2147483647 then some (if a ≤ 0 then .inr (.inl (t, st, L, s)) else .inl (st, L, s)) else none) bb.1 = _
  rw [if_pos ha]
  split <;> rfl
def p_goto {off : Int} (t : Nat) (dd : decode θ.cc p = .ok (.goto off, 3)) (ht : (p : Int) + off = (t : Int)) : Seg θ p (p + 3) := ⟨fun st L s => some (.inr (.inl (t, st, L, s))), Nat.le_add_right _ _, fun st L s o h => by
    cases h
    exact ⟨Le.rfl', fun κ PR PT C S hE hC hS hk => g_goto hE.1 dd ht hk⟩⟩
theorem x_goto {off : Int} {t : Nat} {dd : decode θ.cc p = .ok (.goto off, 3)} {ht : (p : Int) + off = (t : Int)} {bb : Seg θ (p + 3) q} {st : Stk} {L : Lc} {s : St} : (seq (p_goto t dd ht) bb).1 st L s = some (.inr (.inl (t, st, L, s))) := nrfl rfl
def p_ifnonnull {off : Int} (t : Nat) (dd : decode θ.cc p = .ok (.ifnonnull off, 3)) (ht : (p : Int) + off = (t : Int)) : Seg θ p (p + 3) := ⟨fun st L s => match st with
  | .inr (.inr (some _)) :: r => some (.inr (.inl (t, r, L, s)))
  | .inr (.inr none) :: r => some (.inl (r, L, s))
  | _ => none, Nat.le_add_right _ _, fun st L s o h => by
    dsimp only at h
    split at h
    · cases h
      exact ⟨Le.rfl', fun κ PR PT C S hE hC hS hk => g_ifnonnull hE.1 dd ht hk⟩
    · cases h
      exact ⟨Le.rfl', fun κ PR PT C S hE hC hS hk => g_ifnonnullN hE.1 dd hk⟩
    · cases h⟩
theorem x_ifnonnull {off : Int} {t a : Nat} {dd : decode θ.cc p = .ok (.ifnonnull off, 3)} {ht : (p : Int) + off = (t : Int)} {bb : Seg θ (p + 3) q} {st : Stk} {L : Lc} {s : St} : (seq (p_ifnonnull t dd ht) bb).1 (.inr (.inr (some a)) :: st) L s = some (.inr (.inl (t, st, L, s))) := nrfl rfl
theorem x_ifnonnullN {off : Int} {t : Nat} {dd : decode θ.cc p = .ok (.ifnonnull off, 3)} {ht : (p : Int) + off = (t : Int)} {bb : Seg θ (p + 3) q} {st : Stk} {L : Lc} {s : St} : (seq (p_ifnonnull t dd ht) bb).1 (.inr (.inr none) :: st) L s = bb.1 st L s := nrfl rfl
def p_ifnull {off : Int} (t : Nat) (dd : decode θ.cc p = .ok (.ifnull off, 3)) (ht : (p : Int) + off = (t : Int)) : Seg θ p (p + 3) := ⟨fun st L s => match st with
  | .inr (.inr none) :: r => some (.inr (.inl (t, r, L, s)))
  | .inr (.inr (some _)) :: r => some (.inl (r, L, s))
  | _ => none, Nat.le_add_right _ _, fun st L s o h => by
    dsimp only at h
    split at h
    · cases h
      exact ⟨Le.rfl', fun κ PR PT C S hE hC hS hk => g_ifnullN hE.1 dd ht hk⟩
    · cases h
      exact ⟨Le.rfl', fun κ PR PT C S hE hC hS hk => g_ifnull hE.1 dd hk⟩
    · cases h⟩
theorem x_ifnullN {off : Int} {t : Nat} {dd : decode θ.cc p = .ok (.ifnull off, 3)} {ht : (p : Int) + off = (t : Int)} {bb : Seg θ (p + 3) q} {st : Stk} {L : Lc} {s : St} : (seq (p_ifnull t dd ht) bb).1 (.inr (.inr none) :: st) L s = some (.inr (.inl (t, st, L, s))) := nrfl rfl
theorem x_ifnull {off : Int} {t a : Nat} {dd : decode θ.cc p = .ok (.ifnull off, 3)} {ht : (p : Int) + off = (t : Int)} {bb : Seg θ (p + 3) q} {st : Stk} {L : Lc} {s : St} : (seq (p_ifnull t dd ht) bb).1 (.inr (.inr (some a)) :: st) L s = bb.1 st L s := nrfl rfl

def p_ireturn (dd : decode θ.cc p = .ok (.ireturn, 1)) (hr : θ.ret = some .int) : Seg θ p (p + 1) := ⟨fun st L s => match st with
  | [.inl z] => some (.inr (.inr (.inl (some (.inl z), s))))
  | _ => none, Nat.le_add_right _ _, fun st L s o h => by
    dsimp only at h
    split at h
    · cases h
      exact ⟨Le.rfl', fun κ PR PT C S hE hC hS hk => g_ireturn hE.1 (hr ▸ hE.2.1) dd hk⟩
    · cases h⟩
theorem x_ireturn {z : Int} {dd : decode θ.cc p = .ok (.ireturn, 1)} {hr : θ.ret = some .int} {bb : Seg θ (p + 1) q} {L : Lc} {s : St} : (seq (p_ireturn dd hr) bb).1 [.inl z] L s = some (.inr (.inr (.inl (some (.inl z), s)))) := nrfl rfl
def p_zreturn (dd : decode θ.cc p = .ok (.ireturn, 1)) (hr : θ.ret = some .boolean) : Seg θ p (p + 1) := ⟨fun st L s => match st with
  | [.inl z] => if z = 0 ∨ z = 1 then some (.inr (.inr (.inl (some (.inl z), s)))) else none
  | _ => none, Nat.le_add_right _ _, fun st L s o h => by
    dsimp only at h
    split at h
    · split at h
      · rename_i hg
        cases h
        exact ⟨Le.rfl', fun κ PR PT C S hE hC hS hk => g_zreturn hE.1 (hr ▸ hE.2.1) dd hk hg⟩
      · cases h
    · cases h⟩
theorem x_zreturn {z : Int} {dd : decode θ.cc p = .ok (.ireturn, 1)} {hr : θ.ret = some .boolean} {bb : Seg θ (p + 1) q} {L : Lc} {s : St} (hg : z = 0 ∨ z = 1) : (seq (p_zreturn dd hr) bb).1 [.inl z] L s = some (.inr (.inr (.inl (some (.inl z), s)))) := by
  show bd (if z = 0 ∨ z = 1 then some (.inr (.inr (.inl (some (.inl z), s)))) else none) bb.1 = _
  rw [if_pos hg]
  rfl
def p_return (dd : decode θ.cc p = .ok (.return_, 1)) (hr : θ.ret = none) : Seg θ p (p + 1) := ⟨fun st L s => match st with
  | [] => some (.inr (.inr (.inl (none, s))))
  | _ => none, Nat.le_add_right _ _, fun st L s o h => by
    dsimp only at h
    split at h
    · cases h
      exact ⟨Le.rfl', fun κ PR PT C S hE hC hS hk => g_vreturn hE.1 (hr ▸ hE.2.1) dd hk⟩
    · cases h⟩
theorem x_return {dd : decode θ.cc p = .ok (.return_, 1)} {hr : θ.ret = none} {bb : Seg θ (p + 1) q} {L : Lc} {s : St} : (seq (p_return dd hr) bb).1 [] L s = some (.inr (.inr (.inl (none, s)))) := nrfl rfl
def p_areturn {rt : FieldType} (dd : decode θ.cc p = .ok (.areturn, 1)) (hr : θ.ret = some rt) (hrt : (∃ n, rt = .object n) ∨ ∃ t, rt = .array t) : Seg θ p (p + 1) := ⟨fun st L s => match st with
  | [.inr (.inr z)] => some (.inr (.inr (.inl (some (.inr (.inr z)), s))))
  | _ => none, Nat.le_add_right _ _, fun st L s o h => by
    dsimp only at h
    split at h
    · rename_i z
      cases h
      refine ⟨Le.rfl', fun κ PR PT C S hE hC hS hk => ?_⟩
      refine g_areturn hE.1 (hr ▸ hE.2.1) hrt (v := ve (.inr (.inr z))) ?_ dd hk
      cases z with
      | none => exact Or.inl rfl
      | some a => exact Or.inr ⟨a, rfl⟩
    · cases h⟩
theorem x_areturn {z : Option Nat} {rt : FieldType} {dd : decode θ.cc p = .ok (.areturn, 1)} {hr : θ.ret = some rt} {hrt : (∃ n, rt = .object n) ∨ ∃ t, rt = .array t} {bb : Seg θ (p + 1) q} {L : Lc} {s : St} : (seq (p_areturn dd hr hrt) bb).1 [.inr (.inr z)] L s = some (.inr (.inr (.inl (some (.inr (.inr z)), s)))) := nrfl rfl

end PRM
