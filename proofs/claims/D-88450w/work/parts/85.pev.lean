/-! ===== formulas that are asked of a world, plain ===== -/
set_option maxRecDepth 100000
/-- what variables stand for; how much was asked -/
abbrev ES : Type := (Int → Int) × Int
def askF (F : ES → Option (Bool × ES)) (s : ES) : Option (Bool × ES) := if 100000 < s.2 + 1 then none else F (s.1, s.2 + 1)
def itrF (a : Bool) (F : Int → ES → Option (Bool × ES)) : Nat → Int → ES → Option (Bool × ES)
  | 0, _, s => some (a, s)
  | k + 1, t, s => match F t s with
    | none => none
    | some x => if x.1 = a then itrF a F k (t + 1) x.2 else some x
def atV (A : Wd) (e : Int → Int) (k m n : Int) : Bool := if k = 6 then decide (zAnd (A.2.1 (e m)) 1 = 1) else if k = 7 then decide (zAnd (A.2.1 (e m)) 2 = 2) else if k = 8 then A.2.2 (e m) (e n) else if k = 9 then decide (e m = e n) else decide (k = 10)
def rowF (c : Bool) (x : Option (Bool × ES)) (K : ES → Option (Bool × ES)) : Option (Bool × ES) := match x with
  | none => none
  | some y => if y.1 = c then K y.2 else some y
def notF (x : Option (Bool × ES)) : Option (Bool × ES) := match x with
  | none => none
  | some y => some (!y.1, y.2)
def Fo.hd (A : Wd) : Fo → Bool → ES → Option (Bool × ES)
  | .leaf x, c, s => if x.1 = 0 then some (c, s) else some (atV A s.1 x.1 x.2.1 x.2.2, s)
  | .branch p a g, c, s => if p = 0 then rowF c (askF (fun s => Fo.hd A a false s) s) (fun s => Fo.hd A g c s) else if (Fo.lab a).1 = 1 then notF (askF (fun s => Fo.hd A g false s) s) else if (Fo.lab a).1 < 4 then itrF (decide ((Fo.lab a).1 = 2)) (fun t s => askF (fun s => Fo.hd A g false s) (iup s.1 (Fo.lab a).2.1 t, s.2)) A.1.toNat 0 s else Fo.hd A g (decide ((Fo.lab a).1 = 4)) s
section HDL
variable {A : Wd} {c : Bool} {s : ES}
theorem hd_atom {q k m n : Int} (h : Fo.okA q k m n) : Fo.hd A (Fo.atom k m n) c s = some (atV A s.1 k m n, s) := by
  have := okA_r h
  show (if k = 0 then _ else _) = _
  rw [if_neg (by omega)]
theorem hd_not {g : Fo} : Fo.hd A (Fo.not g) c s = notF (askF (fun s => Fo.hd A g false s) s) := rfl
theorem hd_each {g : Fo} {a : Bool} {m : Int} : Fo.hd A (Fo.each a m g) c s = itrF a (fun t s => askF (fun s => Fo.hd A g false s) (iup s.1 m t, s.2)) A.1.toNat 0 s := by cases a <;> rfl
theorem hd_many {g : Fo} {a : Bool} : Fo.hd A (Fo.many a g) c s = Fo.hd A g a s := by cases a <;> rfl
theorem hd_nil : Fo.hd A Fo.nil c s = some (c, s) := rfl
theorem hd_cons {g t : Fo} : Fo.hd A (Fo.cons g t) c s = rowF c (askF (fun s => Fo.hd A g false s) s) (fun s => Fo.hd A t c s) := rfl
end HDL
/-- variables up to q are as they were, more was asked -/
def esL (q : Int) (s s' : ES) : Prop := (∀ m, m ≤ q → s'.1 m = s.1 m) ∧ s.2 ≤ s'.2 ∧ s'.2 ≤ 100000
theorem esL.tr {q : Int} {s t u : ES} (h : esL q s t) (k : esL q t u) : esL q s u := ⟨fun m hm => (k.1 m hm).trans (h.1 m hm), by have := h.2; have := k.2; omega, k.2.2⟩
theorem ask_l {q : Int} {F : ES → Option (Bool × ES)} (hF : ∀ s x, s.2 ≤ 100000 → F s = some x → esL q s x.2) {s : ES} {x : Bool × ES} (h : askF F s = some x) : esL q s x.2 := by
  unfold askF at h
  split at h
  · cases h
  · have := hF _ _ (by show s.2 + 1 ≤ 100000; omega) h
    exact ⟨this.1, by have := this.2.1; have e : (s.1, s.2 + 1).2 = s.2 + 1 := rfl; rw [e] at this; omega, this.2.2⟩
theorem itr_l {q : Int} {a : Bool} {F : Int → ES → Option (Bool × ES)} (hF : ∀ t s x, s.2 ≤ 100000 → F t s = some x → esL q s x.2) : ∀ (k : Nat) (t : Int) (s : ES) (x : Bool × ES), s.2 ≤ 100000 → itrF a F k t s = some x → esL q s x.2
  | 0, t, s, x, hs, h => by cases h; exact ⟨fun _ _ => rfl, Int.le_refl _, hs⟩
  | k + 1, t, s, x, hs, h => by
    unfold itrF at h
    cases hx : F t s with
    | none => rw [hx] at h; cases h
    | some y =>
      rw [hx] at h
      dsimp only at h
      have h1 := hF t s y hs hx
      split at h
      · exact h1.tr (itr_l hF k (t + 1) y.2 x h1.2.2 h)
      · cases h; exact h1
theorem hd_l {A : Wd} {f : Fo} {b : Bool} {q : Int} (hf : Fo.wf f b q) : ∀ (c : Bool) (s : ES) (x : Bool × ES), s.2 ≤ 100000 → Fo.hd A f c s = some x → esL q s x.2 := by
  induction f, b, q, hf using wf_ind with
  | atom k m n q h => intro c s x hs e; rw [hd_atom h] at e; cases e; exact ⟨fun _ _ => rfl, Int.le_refl _, hs⟩
  | not f q h ih =>
    intro c s x hs e
    rw [hd_not] at e
    cases hy : askF (fun s => Fo.hd A f false s) s with
    | none => rw [hy] at e; cases e
    | some y =>
      rw [hy] at e
      cases e
      have := ask_l (fun s x hs h => ih false s x hs h) hy
      exact this
  | each a f q hq h ih =>
    intro c s x hs e
    rw [hd_each] at e
    refine itr_l (fun t s x hs h => ?_) _ _ _ _ hs e
    have := ask_l (q := q + 1) (fun s x hs h => ih false s x hs h) h
    exact ⟨fun m hm => by rw [this.1 m (by omega)]; exact iup_n (by omega), this.2⟩
  | many a t q h2 h ih => intro c s x hs e; rw [hd_many] at e; exact ih a s x hs e
  | nil q => intro c s x hs e; rw [hd_nil] at e; cases e; exact ⟨fun _ _ => rfl, Int.le_refl _, hs⟩
  | cons g t q h1 h2 i1 i2 =>
    intro c s x hs e
    rw [hd_cons] at e
    cases hy : askF (fun s => Fo.hd A g false s) s with
    | none => rw [hy] at e; cases e
    | some y =>
      rw [hy] at e
      unfold rowF at e
      dsimp only at e
      have k1 := ask_l (q := q) (fun s x hs h => i1 false s x hs h) hy
      split at e
      · exact k1.tr (i2 c y.2 x k1.2.2 e)
      · cases e; exact k1
