/-! ===== code as functions: a segment of bytecode is a function on (operand stack, locals, abstract state), with the proof that the machine does what it says ===== -/
set_option maxRecDepth 100000
theorem nrfl {α : Sort _} {a b : α} (h : a = b) : a = b := by cases h; exact rfl
abbrev V : Type := Int ⊕ (Int ⊕ Option Nat)
def ve : V → Value
  | .inl z => vI z
  | .inr (.inl z) => vL z
  | .inr (.inr none) => .null
  | .inr (.inr (some a)) => .ref a
/-- how many words -/
def vc : V → Nat
  | .inr (.inl _) => 2
  | _ => 1
theorem ve_cat (v : V) : (ve v).category = vc v := by
  rcases v with z | z | (_ | a) <;> rfl
/-- a cell: an array (kind, length, contents), or an object (number of its class, fields) -/
abbrev En2 : Type := (Nat × Nat × (Int → V)) ⊕ (Nat × (Nat → V))
def ev : En2 → En
  | .inl q => .inl (q.1, q.2.1, fun i => ve (q.2.2 i))
  | .inr q => .inr (q.1, fun k => ve (q.2 k))
abbrev Hp : Type := Nat → Option En2
def hv (w : Hp) : Hw := fun a => (w a).map ev
theorem hv_some {w : Hp} {a : Nat} {e : En2} (h : w a = some e) : hv w a = some (ev e) := by unfold hv; rw [h]; rfl
theorem hv_up (w : Hp) (a : Nat) (e : En2) : hv (wup w a e) = wup (hv w) a (ev e) := by
  funext b
  unfold hv wup
  by_cases h : b = a
  · rw [if_pos h, if_pos h]; rfl
  · rw [if_neg h, if_neg h]
/-- heap, its size, slots made so far -/
abbrev St : Type := Hp × Nat × Nat
abbrev Stk : Type := List V
abbrev Lc : Type := List (Option V)
/-- how a segment ends: it falls through; it jumps; it returns; it throws -/
abbrev Ou : Type := (Stk × Lc × St) ⊕ (Nat × Stk × Lc × St) ⊕ (Option V × St) ⊕ (Nat × Lc × St)
abbrev Den : Type := Stk → Lc → St → Option Ou
/-- launch, numbers, method, depth, answer's type, code, locals -/
abbrev Ix : Type := Launch × Dl × MethodName × Nat × Option FieldType × ByteArray × Nat
abbrev Ix.l (θ : Ix) : Launch := θ.1
abbrev Ix.δ (θ : Ix) : Dl := θ.2.1
abbrev Ix.y (θ : Ix) : MethodName := θ.2.2.1
abbrev Ix.d (θ : Ix) : Nat := θ.2.2.2.1
abbrev Ix.ret (θ : Ix) : Option FieldType := θ.2.2.2.2.1
abbrev Ix.cc (θ : Ix) : ByteArray := θ.2.2.2.2.2.1
abbrev Ix.nL (θ : Ix) : Nat := θ.2.2.2.2.2.2
def lcv (L : Lc) : List (Option Value) := L.map (Option.map ve)
def stv (st : Stk) : List Value := st.map ve
def J (κ : Cx) (C S pc : Nat) (st : Stk) (L : Lc) (s : St) : Prop := G κ (hv s.1) s.2.1 (C - s.2.1) (S - s.2.2) (lcv L) pc (stv st)
def JT (κ : Cx) (C S pc : Nat) (L : Lc) (s : St) (x : Nat) : Prop := GT κ (hv s.1) s.2.1 (C - s.2.1) (S - s.2.2) (lcv L) pc x
def Le (s t : St) : Prop := s.2.1 ≤ t.2.1 ∧ s.2.2 ≤ t.2.2
theorem Le.rfl' {s : St} : Le s s := ⟨Nat.le_refl _, Nat.le_refl _⟩
theorem Le.tr {s t u : St} (h : Le s t) (k : Le t u) : Le s u := ⟨Nat.le_trans h.1 k.1, Nat.le_trans h.2 k.2⟩
def ouS : Ou → St
  | .inl q => q.2.2
  | .inr (.inl q) => q.2.2.2
  | .inr (.inr (.inl q)) => q.2
  | .inr (.inr (.inr q)) => q.2.2
abbrev PRt : Type := Option Value → Hw → Nat → Prop
abbrev PTt : Type := Nat → Hw → Nat → Prop
def Cont (κ : Cx) (C S : Nat) (PR : PRt) (PT : PTt) (p q : Nat) : Ou → Prop
  | .inl x => J κ C S q x.1 x.2.1 x.2.2
  | .inr (.inl x) => J κ C S x.1 x.2.1 x.2.2.1 x.2.2.2
  | .inr (.inr (.inl x)) => PR (x.1.map ve) (hv x.2.1) x.2.2.1
  | .inr (.inr (.inr x)) => ∀ r, p ≤ r → r < q → JT κ C S r x.2.1 x.2.2 x.1
def Ev (θ : Ix) (κ : Cx) (PR : PRt) (PT : PTt) : Prop := Ok κ θ.y.cls θ.cc θ.d ∧ Rt κ θ.ret PR PT ∧ κ.nL = θ.nL ∧ κ.δ = θ.δ ∧ κ.l = θ.l ∧ κ.me.name = θ.y.name
def Snd (θ : Ix) (p q : Nat) (f : Den) : Prop := p ≤ q ∧ ∀ st L s o, f st L s = some o → Le s (ouS o) ∧ ∀ κ PR PT C S, Ev θ κ PR PT → (ouS o).2.1 ≤ C → (ouS o).2.2 ≤ S → Cont κ C S PR PT p q o → J κ C S p st L s
def Seg (θ : Ix) (p q : Nat) : Type := { f : Den // Snd θ p q f }
def bd (o : Option Ou) (g : Den) : Option Ou := match o with
  | some (.inl x) => g x.1 x.2.1 x.2.2
  | some (.inr x) => some (.inr x)
  | none => none
theorem bd_i {x : Stk × Lc × St} {g : Den} : bd (some (.inl x)) g = g x.1 x.2.1 x.2.2 := nrfl rfl
theorem bd_r {x : (Nat × Stk × Lc × St) ⊕ (Option V × St) ⊕ (Nat × Lc × St)} {g : Den} : bd (some (.inr x)) g = some (.inr x) := nrfl rfl
theorem bd_ite {c : Prop} [Decidable c] {x y : Option Ou} {g : Den} : bd (if c then x else y) g = if c then bd x g else bd y g := by split <;> rfl
theorem snd_seq {θ : Ix} {p q r : Nat} {a b : Den} (ha : Snd θ p q a) (hb : Snd θ q r b) : Snd θ p r (fun st L s => bd (a st L s) b) := by
  refine ⟨Nat.le_trans ha.1 hb.1, fun st L s o h => ?_⟩
  have h : bd (a st L s) b = some o := h
  cases hx : a st L s with
  | none => rw [hx] at h; cases h
  | some x =>
    rw [hx] at h
    obtain ⟨h1, k1⟩ := ha.2 _ _ _ _ hx
    rcases x with x | x
    · obtain ⟨h2, k2⟩ := hb.2 _ _ _ _ h
      refine ⟨h1.tr h2, fun κ PR PT C S hE hC hS hk => k1 κ PR PT C S hE (Nat.le_trans h2.1 hC) (Nat.le_trans h2.2 hS) (k2 κ PR PT C S hE hC hS ?_)⟩
      rcases o with o | o | o | o
      · exact hk
      · exact hk
      · exact hk
      · exact fun t h1 h2 => hk t (Nat.le_trans ha.1 h1) h2
    · cases h
      refine ⟨h1, fun κ PR PT C S hE hC hS hk => k1 κ PR PT C S hE hC hS ?_⟩
      rcases x with x | x | x
      · exact hk
      · exact hk
      · exact fun t h1 h2 => hk t h1 (Nat.lt_of_lt_of_le h2 hb.1)
def seq {θ : Ix} {p q r : Nat} (a : Seg θ p q) (b : Seg θ q r) : Seg θ p r := ⟨fun st L s => bd (a.1 st L s) b.1, snd_seq a.2 b.2⟩
def done {θ : Ix} {p : Nat} : Seg θ p p := ⟨fun st L s => some (.inl (st, L, s)), Nat.le_refl _, fun st L s o h => by
  cases h
  exact ⟨Le.rfl', fun κ PR PT C S hE hC hS hk => hk⟩⟩
theorem x_done {θ : Ix} {p : Nat} {st : Stk} {L : Lc} {s : St} : (done (θ := θ) (p := p)).1 st L s = some (.inl (st, L, s)) := nrfl rfl
/-- a block: a jump to its end falls through -/
def bk (e : Nat) (o : Option Ou) : Option Ou := match o with
  | some (.inr (.inl x)) => if x.1 = e then some (.inl x.2) else some (.inr (.inl x))
  | y => y
theorem bk_i {e : Nat} {x : Stk × Lc × St} : bk e (some (.inl x)) = some (.inl x) := nrfl rfl
theorem bk_e {e : Nat} {x : Stk × Lc × St} : bk e (some (.inr (.inl (e, x)))) = some (.inl x) := if_pos rfl
theorem bk_n {e q : Nat} {x : Stk × Lc × St} (h : q ≠ e) : bk e (some (.inr (.inl (q, x)))) = some (.inr (.inl (q, x))) := if_neg h
theorem bk_r {e : Nat} {x : (Option V × St) ⊕ (Nat × Lc × St)} : bk e (some (.inr (.inr x))) = some (.inr (.inr x)) := nrfl rfl
theorem bk_ite {c : Prop} [Decidable c] {e : Nat} {x y : Option Ou} : bk e (if c then x else y) = if c then bk e x else bk e y := by split <;> rfl
theorem snd_blk {θ : Ix} {p q : Nat} {a : Den} (ha : Snd θ p q a) : Snd θ p q (fun st L s => bk q (a st L s)) := by
  refine ⟨ha.1, fun st L s o h => ?_⟩
  have h : bk q (a st L s) = some o := h
  cases hx : a st L s with
  | none => rw [hx] at h; cases h
  | some x =>
    rw [hx] at h
    obtain ⟨h1, k1⟩ := ha.2 _ _ _ _ hx
    rcases x with x | x | x
    · cases h
      exact ⟨h1, k1⟩
    · by_cases hq : x.1 = q
      · rw [bk, if_pos hq] at h
        cases h
        refine ⟨h1, fun κ PR PT C S hE hC hS hk => k1 κ PR PT C S hE hC hS ?_⟩
        have hk : J κ C S q x.2.1 x.2.2.1 x.2.2.2 := hk
        rw [← hq] at hk
        exact hk
      · rw [bk, if_neg hq] at h
        cases h
        exact ⟨h1, k1⟩
    · cases h
      exact ⟨h1, k1⟩
def blk {θ : Ix} {p q : Nat} (a : Seg θ p q) : Seg θ p q := ⟨fun st L s => bk q (a.1 st L s), snd_blk a.2⟩
/-- a loop: a jump to its head begins it again -/
def lpN (p : Nat) (f : Den) : Nat → Stk → Lc → St → Option Ou
  | 0, _, _, _ => none
  | n + 1, st, L, s => match f st L s with
    | some (.inr (.inl x)) => if x.1 = p then lpN p f n x.2.1 x.2.2.1 x.2.2.2 else some (.inr (.inl x))
    | y => y
theorem lpN_s {p : Nat} {f : Den} : ∀ {n : Nat} {st : Stk} {L : Lc} {s : St} {o : Ou}, lpN p f n st L s = some o → lpN p f (n + 1) st L s = some o := by
  intro n
  induction n with
  | zero => intro st L s o h; cases h
  | succ n ih =>
    intro st L s o h
    rw [lpN] at h ⊢
    split at h
    · split at h
      · rename_i hx hq
        rw [if_pos hq]
        exact ih h
      · rename_i hx hq
        rw [if_neg hq]
        exact h
    · rename_i hx
      exact h
theorem lpN_m {p : Nat} {f : Den} {n m : Nat} (h : n ≤ m) {st : Stk} {L : Lc} {s : St} {o : Ou} (k : lpN p f n st L s = some o) : lpN p f m st L s = some o := by
  induction h with
  | refl => exact k
  | step _ ih => exact lpN_s ih
noncomputable def lpD (p : Nat) (f : Den) : Den := fun st L s => @dite _ (∃ n, (lpN p f n st L s).isSome = true) (Classical.propDecidable _) (fun h => lpN p f h.choose st L s) (fun _ => none)
theorem lpD_of {p : Nat} {f : Den} {n : Nat} {st : Stk} {L : Lc} {s : St} {o : Ou} (h : lpN p f n st L s = some o) : lpD p f st L s = some o := by
  unfold lpD
  have hx : ∃ n, (lpN p f n st L s).isSome = true := ⟨n, by rw [h]; rfl⟩
  rw [dif_pos hx]
  obtain ⟨o', ho⟩ := Option.isSome_iff_exists.mp hx.choose_spec
  have h1 := lpN_m (Nat.le_max_left n hx.choose) h
  have h2 := lpN_m (Nat.le_max_right n hx.choose) ho
  rw [ho, ← h1, h2]
theorem lpD_some {p : Nat} {f : Den} {st : Stk} {L : Lc} {s : St} {o : Ou} (h : lpD p f st L s = some o) : ∃ n, lpN p f n st L s = some o := by
  unfold lpD at h
  split at h
  · rename_i hx
    exact ⟨_, h⟩
  · cases h
/-- a loop unrolls -/
noncomputable def lk (p : Nat) (f : Den) (o : Option Ou) : Option Ou := match o with
  | some (.inr (.inl x)) => if x.1 = p then lpD p f x.2.1 x.2.2.1 x.2.2.2 else some (.inr (.inl x))
  | y => y
theorem lk_i {p : Nat} {f : Den} {x : Stk × Lc × St} : lk p f (some (.inl x)) = some (.inl x) := nrfl rfl
theorem lk_e {p : Nat} {f : Den} {st : Stk} {L : Lc} {s : St} : lk p f (some (.inr (.inl (p, st, L, s)))) = lpD p f st L s := if_pos rfl
theorem lk_n {p q : Nat} {f : Den} {x : Stk × Lc × St} (h : q ≠ p) : lk p f (some (.inr (.inl (q, x)))) = some (.inr (.inl (q, x))) := if_neg h
theorem lk_r {p : Nat} {f : Den} {x : (Option V × St) ⊕ (Nat × Lc × St)} : lk p f (some (.inr (.inr x))) = some (.inr (.inr x)) := nrfl rfl
theorem lk_ite {c : Prop} [Decidable c] {p : Nat} {f : Den} {x y : Option Ou} : lk p f (if c then x else y) = if c then lk p f x else lk p f y := by split <;> rfl
theorem lpD_eq (p : Nat) (f : Den) (st : Stk) (L : Lc) (s : St) : lpD p f st L s = lk p f (f st L s) := by
  cases ho : lk p f (f st L s) with
  | some o =>
    unfold lk at ho
    split at ho
    · rename_i x hx
      split at ho
      · rename_i hq
        obtain ⟨n, hn⟩ := lpD_some ho
        refine lpD_of (n := n + 1) ?_
        rw [lpN, hx]
        simp only [hq, if_true]
        exact hn
      · rename_i hq
        refine lpD_of (n := 1) ?_
        rw [lpN, hx]
        simp only [hq, if_false]
        exact ho
    · rename_i hx
      refine lpD_of (n := 1) ?_
      rw [lpN]
      split
      · rename_i x hx2
        exact absurd hx2 (hx x)
      · exact ho
  | none =>
    cases hl : lpD p f st L s with
    | none => rfl
    | some o =>
      exfalso
      obtain ⟨n, hn⟩ := lpD_some hl
      cases n with
      | zero => cases hn
      | succ n =>
        rw [lpN] at hn
        unfold lk at ho
        split at hn
        · rename_i x hx
          rw [hx] at ho
          split at hn
          · rename_i hq
            simp only [hq, if_true] at ho
            rw [lpD_of hn] at ho
            cases ho
          · rename_i hq
            cases hn
            simp only [hq, if_false] at ho
            cases ho
        · rename_i hx
          rw [hn] at ho
          split at ho
          · rename_i x hx2
            exact hx x (hn.trans hx2)
          · cases ho
theorem snd_lp {θ : Ix} {p q : Nat} {a : Den} (ha : Snd θ p q a) : Snd θ p q (lpD p a) := by
  refine ⟨ha.1, fun st L s o h => ?_⟩
  obtain ⟨n, hn⟩ := lpD_some h
  clear h
  induction n generalizing st L s with
  | zero => cases hn
  | succ n ih =>
    rw [lpN] at hn
    split at hn
    · rename_i x hx
      obtain ⟨h1, k1⟩ := ha.2 _ _ _ _ hx
      split at hn
      · rename_i hq
        obtain ⟨h2, k2⟩ := ih _ _ _ hn
        refine ⟨h1.tr h2, fun κ PR PT C S hE hC hS hk => k1 κ PR PT C S hE (Nat.le_trans h2.1 hC) (Nat.le_trans h2.2 hS) ?_⟩
        have := k2 κ PR PT C S hE hC hS hk
        rw [← hq] at this
        exact this
      · cases hn
        exact ⟨h1, k1⟩
    · exact ha.2 _ _ _ _ hn
noncomputable def lp {θ : Ix} {p q : Nat} (a : Seg θ p q) : Seg θ p q := ⟨lpD p a.1, snd_lp a.2⟩
theorem x_blk {θ : Ix} {p q r : Nat} {a : Seg θ p q} {b : Seg θ q r} {st : Stk} {L : Lc} {s : St} : (seq (blk a) b).1 st L s = bd (bk q (a.1 st L s)) b.1 := nrfl rfl
theorem x_lp {θ : Ix} {p q r : Nat} {a : Seg θ p q} {b : Seg θ q r} {st : Stk} {L : Lc} {s : St} : (seq (lp a) b).1 st L s = bd (lpD p a.1 st L s) b.1 := nrfl rfl
/-- one instruction that falls through -/
theorem snd_pr {θ : Ix} {p q : Nat} {f : Stk → Lc → St → Option (Stk × Lc × St)} (hpq : p ≤ q) (hf : ∀ st L s x, f st L s = some x → Le s x.2.2 ∧ ∀ κ PR PT C S, Ev θ κ PR PT → x.2.2.2.1 ≤ C → x.2.2.2.2 ≤ S → J κ C S q x.1 x.2.1 x.2.2 → J κ C S p st L s) : Snd θ p q (fun st L s => (f st L s).map .inl) := by
  refine ⟨hpq, fun st L s o h => ?_⟩
  have h : (f st L s).map .inl = some o := h
  cases hx : f st L s with
  | none => rw [hx] at h; cases h
  | some x =>
    rw [hx] at h
    cases h
    exact hf st L s x hx
/-- one that changes neither heap nor locals: on the stack alone -/
theorem snd_st {θ : Ix} {p q : Nat} {f : Stk → Option Stk} (hpq : p ≤ q) (hf : ∀ st x, f st = some x → ∀ κ PR PT, Ev θ κ PR PT → ∀ w sz kc ks L, G κ w sz kc ks L q (stv x) → G κ w sz kc ks L p (stv st)) : Snd θ p q (fun st L s => (f st).map (fun x => .inl (x, L, s))) := by
  refine ⟨hpq, fun st L s o h => ?_⟩
  have h : (f st).map (fun x => Sum.inl (x, L, s)) = some o := h
  cases hx : f st with
  | none => rw [hx] at h; cases h
  | some x =>
    rw [hx] at h
    cases h
    exact ⟨Le.rfl', fun κ PR PT C S hE hC hS hk => hf st x hx κ PR PT hE _ _ _ _ _ hk⟩
/-! methods -/
abbrev Rs : Type := Option V ⊕ Nat
abbrev MDen : Type := List V → St → Option (Rs × St)
def MSn (l : Launch) (δ : Dl) (y : MethodName) (ws : List Cond) (d : Nat) (f : MDen) : Prop := ∀ av s r s', f av s = some (r, s') → Le s s' ∧
  (∀ v, r = .inl v → MC l δ y ws d (s'.2.1 - s.2.1) (s'.2.2 - s.2.2) (av.map ve) (hv s.1) s.2.1 (v.map ve) (hv s'.1) s'.2.1) ∧ (∀ x, r = .inr x → MT l δ y ws d (s'.2.1 - s.2.1) (s'.2.2 - s.2.2) (av.map ve) (hv s.1) s.2.1 x (hv s'.1) s'.2.1)
def Mth (l : Launch) (δ : Dl) (y : MethodName) (b : ByteArray) (n : Nat) (ret : Option FieldType) (d : Nat) : Type := { f : MDen // MSn l δ y (ws_ y b n ret) d f }
/-- locals at a method's start -/
def lcs : List V → Lc
  | [] => []
  | .inr (.inl z) :: t => some (.inr (.inl z)) :: none :: lcs t
  | v :: t => some v :: lcs t
def pad : Nat → Lc → Lc
  | 0, L => L
  | n + 1, [] => none :: pad n []
  | n + 1, x :: t => x :: pad n t
theorem lvs_pad : ∀ (n k : Nat) (L : Lc), lvs k (lcv (pad n L)) = lvs k (lcv L) := by
  intro n
  induction n with
  | zero => intro k L; rfl
  | succ n ih =>
    intro k L
    cases L with
    | nil => exact ih (k + 1) []
    | cons x t =>
      cases x with
      | none => exact ih (k + 1) t
      | some v => exact congrArg (List.cons _) (ih (k + 1) t)
