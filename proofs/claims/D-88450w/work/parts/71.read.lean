/-! ===== how a text is read ===== -/
set_option maxRecDepth 100000
/-- what is at a place; -1 the end -/
def chr (T : Int → Int) (n a : Int) : Int := if a < n then T a else -1
def skF (T : Int → Int) (n : Int) : Nat → Int → Int
  | 0, a => a
  | k + 1, a => if a < n ∧ (T a = 32 ∨ T a = 10) then skF T n k (a + 1) else a
/-- the place of the next sign -/
def skp (T : Int → Int) (n a : Int) : Int := skF T n (n - a).toNat a
theorem skp_s {T : Int → Int} {n a : Int} (h : a < n) (hb : T a = 32 ∨ T a = 10) : skp T n a = skp T n (a + 1) := by
  unfold skp
  rw [show (n - a).toNat = (n - (a + 1)).toNat + 1 by omega]
  show (if a < n ∧ (T a = 32 ∨ T a = 10) then _ else _) = _
  rw [if_pos ⟨h, hb⟩]
theorem skp_n {T : Int → Int} {n a : Int} (h : ¬ (a < n ∧ (T a = 32 ∨ T a = 10))) : skp T n a = a := by
  unfold skp
  cases (n - a).toNat with
  | zero => rfl
  | succ k =>
    show (if a < n ∧ (T a = 32 ∨ T a = 10) then _ else _) = _
    rw [if_neg h]
theorem skp_r {T : Int → Int} {n : Int} : ∀ (k : Nat) (a : Int), a ≤ n → (n - a).toNat = k → a ≤ skp T n a ∧ skp T n a ≤ n ∧ ¬ (skp T n a < n ∧ (T (skp T n a) = 32 ∨ T (skp T n a) = 10)) := by
  intro k
  induction k with
  | zero =>
    intro a h hk
    rw [skp_n (by omega)]
    omega
  | succ k ih =>
    intro a h hk
    by_cases hb : a < n ∧ (T a = 32 ∨ T a = 10)
    · rw [skp_s hb.1 hb.2]
      have := ih (a + 1) (by omega) (by omega)
      omega
    · rw [skp_n hb]
      exact ⟨by omega, by omega, hb⟩
theorem skp_b {T : Int → Int} {n a : Int} (h : a ≤ n) : a ≤ skp T n a ∧ skp T n a ≤ n := by have := skp_r (T := T) _ a h rfl; omega
theorem skp_2 {T : Int → Int} {n a : Int} (h : a ≤ n) : skp T n (skp T n a) = skp T n a := skp_n (skp_r (T := T) _ a h rfl).2.2
/-- the innermost variable with a letter; 0 none -/
def fnd (L : Int → Int) (c : Int) : Nat → Int
  | 0 => 0
  | k + 1 => if L ((k : Int) + 1) = c then (k : Int) + 1 else fnd L c k
theorem fnd_r {L : Int → Int} {c : Int} : ∀ k : Nat, 0 ≤ fnd L c k ∧ fnd L c k ≤ k
  | 0 => by simp [fnd]
  | k + 1 => by
    have := fnd_r (L := L) (c := c) k
    unfold fnd
    split <;> omega
abbrev PR : Type := Int ⊕ (Fo × Int)
/-- what is closed under the rules of reading: a part (0), a formula (1), the parts behind a first one (2) -/
def PPC (T : Int → Int) (n : Int) (R : Nat → Bool → Int → Int → Int → (Int → Int) → PR → Prop) : Prop := (∀ (s : Bool) (p : Int) (d : Int) (q : Int) (L : Int → Int), (¬ (chr T n (skp T n p) = 84 ∨ chr T n (skp T n p) = 70 ∨ chr T n (skp T n p) = 65 ∨ chr T n (skp T n p) = 66 ∨ chr T n (skp T n p) = 69 ∨ chr T n (skp T n p) = 61 ∨ chr T n (skp T n p) = 45 ∨ chr T n (skp T n p) = 40 ∨ chr T n (skp T n p) = 64 ∨ chr T n (skp T n p) = 63)) → R 0 s p d q L (.inl (skp T n p))) ∧ (∀ (s : Bool) (p : Int) (d : Int) (q : Int) (L : Int → Int) (k : Int), (chr T n (skp T n p) = Fo.sgA k) → (k = 10 ∨ k = 11) → R 0 s p d q L (.inr (Fo.atom k 0 0, skp T n p + 1))) ∧ (∀ (s : Bool) (p : Int) (d : Int) (q : Int) (L : Int → Int) (k : Int), (chr T n (skp T n p) = Fo.sgA k) → (k = 6 ∨ k = 7) → (fnd L (chr T n (skp T n (skp T n p + 1))) q.toNat = 0) → R 0 s p d q L (.inl (skp T n (skp T n p + 1)))) ∧ (∀ (s : Bool) (p : Int) (d : Int) (q : Int) (L : Int → Int) (k : Int) (m : Int), (chr T n (skp T n p) = Fo.sgA k) → (k = 6 ∨ k = 7) → (fnd L (chr T n (skp T n (skp T n p + 1))) q.toNat = m) → (1 ≤ m) → R 0 s p d q L (.inr (Fo.atom k m 0, skp T n (skp T n p + 1) + 1))) ∧ (∀ (s : Bool) (p : Int) (d : Int) (q : Int) (L : Int → Int) (k : Int), (chr T n (skp T n p) = Fo.sgA k) → (k = 8 ∨ k = 9) → (fnd L (chr T n (skp T n (skp T n p + 1))) q.toNat = 0) → R 0 s p d q L (.inl (skp T n (skp T n p + 1)))) ∧ (∀ (s : Bool) (p : Int) (d : Int) (q : Int) (L : Int → Int) (k : Int) (m : Int), (chr T n (skp T n p) = Fo.sgA k) → (k = 8 ∨ k = 9) → (fnd L (chr T n (skp T n (skp T n p + 1))) q.toNat = m) → (1 ≤ m) → (fnd L (chr T n (skp T n (skp T n (skp T n p + 1) + 1))) q.toNat = 0) → R 0 s p d q L (.inl (skp T n (skp T n (skp T n p + 1) + 1)))) ∧ (∀ (s : Bool) (p : Int) (d : Int) (q : Int) (L : Int → Int) (k : Int) (m : Int) (m' : Int), (chr T n (skp T n p) = Fo.sgA k) → (k = 8 ∨ k = 9) → (fnd L (chr T n (skp T n (skp T n p + 1))) q.toNat = m) → (1 ≤ m) → (fnd L (chr T n (skp T n (skp T n (skp T n p + 1) + 1))) q.toNat = m') → (1 ≤ m') → R 0 s p d q L (.inr (Fo.atom k m m', skp T n (skp T n (skp T n p + 1) + 1) + 1))) ∧ (∀ (s : Bool) (p : Int) (d : Int) (q : Int) (L : Int → Int), (chr T n (skp T n p) = 45) → (¬ d < 12) → R 0 s p d q L (.inl (skp T n p))) ∧ (∀ (s : Bool) (p : Int) (d : Int) (q : Int) (L : Int → Int) (e : Int), (chr T n (skp T n p) = 45) → (d < 12) → (R 0 false (skp T n p + 1) (d + 1) q L (.inl e)) → R 0 s p d q L (.inl e)) ∧ (∀ (s : Bool) (p : Int) (d : Int) (q : Int) (L : Int → Int) (f : Fo) (x : Int), (chr T n (skp T n p) = 45) → (d < 12) → (R 0 false (skp T n p + 1) (d + 1) q L (.inr (f, x))) → R 0 s p d q L (.inr (Fo.not f, x))) ∧ (∀ (s : Bool) (p : Int) (d : Int) (q : Int) (L : Int → Int), (chr T n (skp T n p) = 40) → (¬ d < 12) → R 0 s p d q L (.inl (skp T n p))) ∧ (∀ (s : Bool) (p : Int) (d : Int) (q : Int) (L : Int → Int) (e : Int), (chr T n (skp T n p) = 40) → (d < 12) → (R 1 false (skp T n p + 1) (d + 1) q L (.inl e)) → R 0 s p d q L (.inl e)) ∧ (∀ (s : Bool) (p : Int) (d : Int) (q : Int) (L : Int → Int) (f : Fo) (x : Int), (chr T n (skp T n p) = 40) → (d < 12) → (R 1 false (skp T n p + 1) (d + 1) q L (.inr (f, x))) → (chr T n x ≠ 41) → R 0 s p d q L (.inl x)) ∧ (∀ (s : Bool) (p : Int) (d : Int) (q : Int) (L : Int → Int) (f : Fo) (x : Int), (chr T n (skp T n p) = 40) → (d < 12) → (R 1 false (skp T n p + 1) (d + 1) q L (.inr (f, x))) → (chr T n x = 41) → R 0 s p d q L (.inr (f, x + 1))) ∧ (∀ (s : Bool) (p : Int) (d : Int) (q : Int) (L : Int → Int) (a : Bool), (chr T n (skp T n p) = Fo.sgQ a) → (¬ (q < 8 ∧ d < 12)) → R 0 s p d q L (.inl (skp T n p))) ∧ (∀ (s : Bool) (p : Int) (d : Int) (q : Int) (L : Int → Int) (a : Bool), (chr T n (skp T n p) = Fo.sgQ a) → (q < 8 ∧ d < 12) → (¬ (97 ≤ chr T n (skp T n (skp T n p + 1)) ∧ chr T n (skp T n (skp T n p + 1)) ≤ 104)) → R 0 s p d q L (.inl (skp T n (skp T n p + 1)))) ∧ (∀ (s : Bool) (p : Int) (d : Int) (q : Int) (L : Int → Int) (a : Bool) (e : Int), (chr T n (skp T n p) = Fo.sgQ a) → (q < 8 ∧ d < 12) → (97 ≤ chr T n (skp T n (skp T n p + 1)) ∧ chr T n (skp T n (skp T n p + 1)) ≤ 104) → (R 0 false (skp T n (skp T n p + 1) + 1) (d + 1) (q + 1) (iup L (q + 1) (chr T n (skp T n (skp T n p + 1)))) (.inl e)) → R 0 s p d q L (.inl e)) ∧ (∀ (s : Bool) (p : Int) (d : Int) (q : Int) (L : Int → Int) (a : Bool) (f : Fo) (x : Int), (chr T n (skp T n p) = Fo.sgQ a) → (q < 8 ∧ d < 12) → (97 ≤ chr T n (skp T n (skp T n p + 1)) ∧ chr T n (skp T n (skp T n p + 1)) ≤ 104) → (R 0 false (skp T n (skp T n p + 1) + 1) (d + 1) (q + 1) (iup L (q + 1) (chr T n (skp T n (skp T n p + 1)))) (.inr (f, x))) → R 0 s p d q L (.inr (Fo.each a (q + 1) f, x))) ∧ (∀ (s : Bool) (p : Int) (d : Int) (q : Int) (L : Int → Int) (e : Int), (R 0 false p d q L (.inl e)) → R 1 s p d q L (.inl e)) ∧ (∀ (s : Bool) (p : Int) (d : Int) (q : Int) (L : Int → Int) (f : Fo) (x : Int), (R 0 false p d q L (.inr (f, x))) → (chr T n (skp T n x) ≠ 38) → (chr T n (skp T n x) ≠ 124) → R 1 s p d q L (.inr (f, skp T n x))) ∧ (∀ (s : Bool) (a : Bool) (p : Int) (d : Int) (q : Int) (L : Int → Int) (f : Fo) (x : Int) (e : Int), (R 0 false p d q L (.inr (f, x))) → (chr T n (skp T n x) = Fo.sgM a) → (R 2 a (skp T n x) d q L (.inl e)) → R 1 s p d q L (.inl e)) ∧ (∀ (s : Bool) (a : Bool) (p : Int) (d : Int) (q : Int) (L : Int → Int) (f : Fo) (x : Int) (l : Fo) (y : Int), (R 0 false p d q L (.inr (f, x))) → (chr T n (skp T n x) = Fo.sgM a) → (R 2 a (skp T n x) d q L (.inr (l, y))) → R 1 s p d q L (.inr (Fo.many a (Fo.cons f l), y))) ∧ (∀ (s : Bool) (p : Int) (d : Int) (q : Int) (L : Int → Int) (e : Int), (chr T n p = Fo.sgM s) → (R 0 false (p + 1) d q L (.inl e)) → R 2 s p d q L (.inl e)) ∧ (∀ (s : Bool) (p : Int) (d : Int) (q : Int) (L : Int → Int) (f : Fo) (x : Int) (e : Int), (chr T n p = Fo.sgM s) → (R 0 false (p + 1) d q L (.inr (f, x))) → (R 2 s (skp T n x) d q L (.inl e)) → R 2 s p d q L (.inl e)) ∧ (∀ (s : Bool) (p : Int) (d : Int) (q : Int) (L : Int → Int) (f : Fo) (x : Int) (l : Fo) (y : Int), (chr T n p = Fo.sgM s) → (R 0 false (p + 1) d q L (.inr (f, x))) → (R 2 s (skp T n x) d q L (.inr (l, y))) → R 2 s p d q L (.inr (Fo.cons f l, y))) ∧ (∀ (s : Bool) (p : Int) (d : Int) (q : Int) (L : Int → Int), (chr T n p ≠ Fo.sgM s) → R 2 s p d q L (.inr (Fo.nil, p)))
/-- the least such relation -/
def PP (T : Int → Int) (n : Int) (m : Nat) (s : Bool) (p d q : Int) (L : Int → Int) (r : PR) : Prop := ∀ R, PPC T n R → R m s p d q L r
theorem PP.bad {T : Int → Int} {n : Int} {s : Bool} {p : Int} {d : Int} {q : Int} {L : Int → Int} (h : ¬ (chr T n (skp T n p) = 84 ∨ chr T n (skp T n p) = 70 ∨ chr T n (skp T n p) = 65 ∨ chr T n (skp T n p) = 66 ∨ chr T n (skp T n p) = 69 ∨ chr T n (skp T n p) = 61 ∨ chr T n (skp T n p) = 45 ∨ chr T n (skp T n p) = 40 ∨ chr T n (skp T n p) = 64 ∨ chr T n (skp T n p) = 63)) : PP T n 0 s p d q L (.inl (skp T n p)) := fun R hR => hR.1 s p d q L h
theorem PP.con {T : Int → Int} {n : Int} {s : Bool} {p : Int} {d : Int} {q : Int} {L : Int → Int} {k : Int} (hc : chr T n (skp T n p) = Fo.sgA k) (hk : k = 10 ∨ k = 11) : PP T n 0 s p d q L (.inr (Fo.atom k 0 0, skp T n p + 1)) := fun R hR => hR.2.1 s p d q L k hc hk
theorem PP.un0 {T : Int → Int} {n : Int} {s : Bool} {p : Int} {d : Int} {q : Int} {L : Int → Int} {k : Int} (hc : chr T n (skp T n p) = Fo.sgA k) (hk : k = 6 ∨ k = 7) (hf : fnd L (chr T n (skp T n (skp T n p + 1))) q.toNat = 0) : PP T n 0 s p d q L (.inl (skp T n (skp T n p + 1))) := fun R hR => hR.2.2.1 s p d q L k hc hk hf
theorem PP.un1 {T : Int → Int} {n : Int} {s : Bool} {p : Int} {d : Int} {q : Int} {L : Int → Int} {k : Int} {m : Int} (hc : chr T n (skp T n p) = Fo.sgA k) (hk : k = 6 ∨ k = 7) (hf : fnd L (chr T n (skp T n (skp T n p + 1))) q.toNat = m) (hm : 1 ≤ m) : PP T n 0 s p d q L (.inr (Fo.atom k m 0, skp T n (skp T n p + 1) + 1)) := fun R hR => hR.2.2.2.1 s p d q L k m hc hk hf hm
theorem PP.bi0 {T : Int → Int} {n : Int} {s : Bool} {p : Int} {d : Int} {q : Int} {L : Int → Int} {k : Int} (hc : chr T n (skp T n p) = Fo.sgA k) (hk : k = 8 ∨ k = 9) (hf : fnd L (chr T n (skp T n (skp T n p + 1))) q.toNat = 0) : PP T n 0 s p d q L (.inl (skp T n (skp T n p + 1))) := fun R hR => hR.2.2.2.2.1 s p d q L k hc hk hf
theorem PP.bi1 {T : Int → Int} {n : Int} {s : Bool} {p : Int} {d : Int} {q : Int} {L : Int → Int} {k : Int} {m : Int} (hc : chr T n (skp T n p) = Fo.sgA k) (hk : k = 8 ∨ k = 9) (hf : fnd L (chr T n (skp T n (skp T n p + 1))) q.toNat = m) (hm : 1 ≤ m) (hg : fnd L (chr T n (skp T n (skp T n (skp T n p + 1) + 1))) q.toNat = 0) : PP T n 0 s p d q L (.inl (skp T n (skp T n (skp T n p + 1) + 1))) := fun R hR => hR.2.2.2.2.2.1 s p d q L k m hc hk hf hm hg
theorem PP.bi2 {T : Int → Int} {n : Int} {s : Bool} {p : Int} {d : Int} {q : Int} {L : Int → Int} {k : Int} {m : Int} {m' : Int} (hc : chr T n (skp T n p) = Fo.sgA k) (hk : k = 8 ∨ k = 9) (hf : fnd L (chr T n (skp T n (skp T n p + 1))) q.toNat = m) (hm : 1 ≤ m) (hg : fnd L (chr T n (skp T n (skp T n (skp T n p + 1) + 1))) q.toNat = m') (hm' : 1 ≤ m') : PP T n 0 s p d q L (.inr (Fo.atom k m m', skp T n (skp T n (skp T n p + 1) + 1) + 1)) := fun R hR => hR.2.2.2.2.2.2.1 s p d q L k m m' hc hk hf hm hg hm'
theorem PP.notD {T : Int → Int} {n : Int} {s : Bool} {p : Int} {d : Int} {q : Int} {L : Int → Int} (hc : chr T n (skp T n p) = 45) (hd : ¬ d < 12) : PP T n 0 s p d q L (.inl (skp T n p)) := fun R hR => hR.2.2.2.2.2.2.2.1 s p d q L hc hd
theorem PP.notE {T : Int → Int} {n : Int} {s : Bool} {p : Int} {d : Int} {q : Int} {L : Int → Int} {e : Int} (hc : chr T n (skp T n p) = 45) (hd : d < 12) (h : PP T n 0 false (skp T n p + 1) (d + 1) q L (.inl e)) : PP T n 0 s p d q L (.inl e) := fun R hR => hR.2.2.2.2.2.2.2.2.1 s p d q L e hc hd (h R hR)
theorem PP.notF {T : Int → Int} {n : Int} {s : Bool} {p : Int} {d : Int} {q : Int} {L : Int → Int} {f : Fo} {x : Int} (hc : chr T n (skp T n p) = 45) (hd : d < 12) (h : PP T n 0 false (skp T n p + 1) (d + 1) q L (.inr (f, x))) : PP T n 0 s p d q L (.inr (Fo.not f, x)) := fun R hR => hR.2.2.2.2.2.2.2.2.2.1 s p d q L f x hc hd (h R hR)
theorem PP.parD {T : Int → Int} {n : Int} {s : Bool} {p : Int} {d : Int} {q : Int} {L : Int → Int} (hc : chr T n (skp T n p) = 40) (hd : ¬ d < 12) : PP T n 0 s p d q L (.inl (skp T n p)) := fun R hR => hR.2.2.2.2.2.2.2.2.2.2.1 s p d q L hc hd
theorem PP.parE {T : Int → Int} {n : Int} {s : Bool} {p : Int} {d : Int} {q : Int} {L : Int → Int} {e : Int} (hc : chr T n (skp T n p) = 40) (hd : d < 12) (h : PP T n 1 false (skp T n p + 1) (d + 1) q L (.inl e)) : PP T n 0 s p d q L (.inl e) := fun R hR => hR.2.2.2.2.2.2.2.2.2.2.2.1 s p d q L e hc hd (h R hR)
theorem PP.parB {T : Int → Int} {n : Int} {s : Bool} {p : Int} {d : Int} {q : Int} {L : Int → Int} {f : Fo} {x : Int} (hc : chr T n (skp T n p) = 40) (hd : d < 12) (h : PP T n 1 false (skp T n p + 1) (d + 1) q L (.inr (f, x))) (hx : chr T n x ≠ 41) : PP T n 0 s p d q L (.inl x) := fun R hR => hR.2.2.2.2.2.2.2.2.2.2.2.2.1 s p d q L f x hc hd (h R hR) hx
theorem PP.parF {T : Int → Int} {n : Int} {s : Bool} {p : Int} {d : Int} {q : Int} {L : Int → Int} {f : Fo} {x : Int} (hc : chr T n (skp T n p) = 40) (hd : d < 12) (h : PP T n 1 false (skp T n p + 1) (d + 1) q L (.inr (f, x))) (hx : chr T n x = 41) : PP T n 0 s p d q L (.inr (f, x + 1)) := fun R hR => hR.2.2.2.2.2.2.2.2.2.2.2.2.2.1 s p d q L f x hc hd (h R hR) hx
theorem PP.eacD {T : Int → Int} {n : Int} {s : Bool} {p : Int} {d : Int} {q : Int} {L : Int → Int} {a : Bool} (hc : chr T n (skp T n p) = Fo.sgQ a) (hd : ¬ (q < 8 ∧ d < 12)) : PP T n 0 s p d q L (.inl (skp T n p)) := fun R hR => hR.2.2.2.2.2.2.2.2.2.2.2.2.2.2.1 s p d q L a hc hd
theorem PP.eacL {T : Int → Int} {n : Int} {s : Bool} {p : Int} {d : Int} {q : Int} {L : Int → Int} {a : Bool} (hc : chr T n (skp T n p) = Fo.sgQ a) (hd : q < 8 ∧ d < 12) (hl : ¬ (97 ≤ chr T n (skp T n (skp T n p + 1)) ∧ chr T n (skp T n (skp T n p + 1)) ≤ 104)) : PP T n 0 s p d q L (.inl (skp T n (skp T n p + 1))) := fun R hR => hR.2.2.2.2.2.2.2.2.2.2.2.2.2.2.2.1 s p d q L a hc hd hl
theorem PP.eacE {T : Int → Int} {n : Int} {s : Bool} {p : Int} {d : Int} {q : Int} {L : Int → Int} {a : Bool} {e : Int} (hc : chr T n (skp T n p) = Fo.sgQ a) (hd : q < 8 ∧ d < 12) (hl : 97 ≤ chr T n (skp T n (skp T n p + 1)) ∧ chr T n (skp T n (skp T n p + 1)) ≤ 104) (h : PP T n 0 false (skp T n (skp T n p + 1) + 1) (d + 1) (q + 1) (iup L (q + 1) (chr T n (skp T n (skp T n p + 1)))) (.inl e)) : PP T n 0 s p d q L (.inl e) := fun R hR => hR.2.2.2.2.2.2.2.2.2.2.2.2.2.2.2.2.1 s p d q L a e hc hd hl (h R hR)
theorem PP.eacF {T : Int → Int} {n : Int} {s : Bool} {p : Int} {d : Int} {q : Int} {L : Int → Int} {a : Bool} {f : Fo} {x : Int} (hc : chr T n (skp T n p) = Fo.sgQ a) (hd : q < 8 ∧ d < 12) (hl : 97 ≤ chr T n (skp T n (skp T n p + 1)) ∧ chr T n (skp T n (skp T n p + 1)) ≤ 104) (h : PP T n 0 false (skp T n (skp T n p + 1) + 1) (d + 1) (q + 1) (iup L (q + 1) (chr T n (skp T n (skp T n p + 1)))) (.inr (f, x))) : PP T n 0 s p d q L (.inr (Fo.each a (q + 1) f, x)) := fun R hR => hR.2.2.2.2.2.2.2.2.2.2.2.2.2.2.2.2.2.1 s p d q L a f x hc hd hl (h R hR)
theorem PP.forE {T : Int → Int} {n : Int} {s : Bool} {p : Int} {d : Int} {q : Int} {L : Int → Int} {e : Int} (h : PP T n 0 false p d q L (.inl e)) : PP T n 1 s p d q L (.inl e) := fun R hR => hR.2.2.2.2.2.2.2.2.2.2.2.2.2.2.2.2.2.2.1 s p d q L e (h R hR)
theorem PP.for1 {T : Int → Int} {n : Int} {s : Bool} {p : Int} {d : Int} {q : Int} {L : Int → Int} {f : Fo} {x : Int} (h : PP T n 0 false p d q L (.inr (f, x))) (hc : chr T n (skp T n x) ≠ 38) (hc' : chr T n (skp T n x) ≠ 124) : PP T n 1 s p d q L (.inr (f, skp T n x)) := fun R hR => hR.2.2.2.2.2.2.2.2.2.2.2.2.2.2.2.2.2.2.2.1 s p d q L f x (h R hR) hc hc'
theorem PP.forS {T : Int → Int} {n : Int} {s : Bool} {a : Bool} {p : Int} {d : Int} {q : Int} {L : Int → Int} {f : Fo} {x : Int} {e : Int} (h : PP T n 0 false p d q L (.inr (f, x))) (hc : chr T n (skp T n x) = Fo.sgM a) (h2 : PP T n 2 a (skp T n x) d q L (.inl e)) : PP T n 1 s p d q L (.inl e) := fun R hR => hR.2.2.2.2.2.2.2.2.2.2.2.2.2.2.2.2.2.2.2.2.1 s a p d q L f x e (h R hR) hc (h2 R hR)
theorem PP.forM {T : Int → Int} {n : Int} {s : Bool} {a : Bool} {p : Int} {d : Int} {q : Int} {L : Int → Int} {f : Fo} {x : Int} {l : Fo} {y : Int} (h : PP T n 0 false p d q L (.inr (f, x))) (hc : chr T n (skp T n x) = Fo.sgM a) (h2 : PP T n 2 a (skp T n x) d q L (.inr (l, y))) : PP T n 1 s p d q L (.inr (Fo.many a (Fo.cons f l), y)) := fun R hR => hR.2.2.2.2.2.2.2.2.2.2.2.2.2.2.2.2.2.2.2.2.2.1 s a p d q L f x l y (h R hR) hc (h2 R hR)
theorem PP.lpE {T : Int → Int} {n : Int} {s : Bool} {p : Int} {d : Int} {q : Int} {L : Int → Int} {e : Int} (hc : chr T n p = Fo.sgM s) (h : PP T n 0 false (p + 1) d q L (.inl e)) : PP T n 2 s p d q L (.inl e) := fun R hR => hR.2.2.2.2.2.2.2.2.2.2.2.2.2.2.2.2.2.2.2.2.2.2.1 s p d q L e hc (h R hR)
theorem PP.lpS {T : Int → Int} {n : Int} {s : Bool} {p : Int} {d : Int} {q : Int} {L : Int → Int} {f : Fo} {x : Int} {e : Int} (hc : chr T n p = Fo.sgM s) (h : PP T n 0 false (p + 1) d q L (.inr (f, x))) (h2 : PP T n 2 s (skp T n x) d q L (.inl e)) : PP T n 2 s p d q L (.inl e) := fun R hR => hR.2.2.2.2.2.2.2.2.2.2.2.2.2.2.2.2.2.2.2.2.2.2.2.1 s p d q L f x e hc (h R hR) (h2 R hR)
theorem PP.lpF {T : Int → Int} {n : Int} {s : Bool} {p : Int} {d : Int} {q : Int} {L : Int → Int} {f : Fo} {x : Int} {l : Fo} {y : Int} (hc : chr T n p = Fo.sgM s) (h : PP T n 0 false (p + 1) d q L (.inr (f, x))) (h2 : PP T n 2 s (skp T n x) d q L (.inr (l, y))) : PP T n 2 s p d q L (.inr (Fo.cons f l, y)) := fun R hR => hR.2.2.2.2.2.2.2.2.2.2.2.2.2.2.2.2.2.2.2.2.2.2.2.2.1 s p d q L f x l y hc (h R hR) (h2 R hR)
theorem PP.lpN {T : Int → Int} {n : Int} {s : Bool} {p : Int} {d : Int} {q : Int} {L : Int → Int} (hc : chr T n p ≠ Fo.sgM s) : PP T n 2 s p d q L (.inr (Fo.nil, p)) := fun R hR => hR.2.2.2.2.2.2.2.2.2.2.2.2.2.2.2.2.2.2.2.2.2.2.2.2.2 s p d q L hc
theorem PP.ind {T : Int → Int} {n : Int} {P : ∀ (m : Nat) (s : Bool) (p d q : Int) (L : Int → Int) (r : PR), PP T n m s p d q L r → Prop} (bad : ∀ {s : Bool} {p : Int} {d : Int} {q : Int} {L : Int → Int} (h : ¬ (chr T n (skp T n p) = 84 ∨ chr T n (skp T n p) = 70 ∨ chr T n (skp T n p) = 65 ∨ chr T n (skp T n p) = 66 ∨ chr T n (skp T n p) = 69 ∨ chr T n (skp T n p) = 61 ∨ chr T n (skp T n p) = 45 ∨ chr T n (skp T n p) = 40 ∨ chr T n (skp T n p) = 64 ∨ chr T n (skp T n p) = 63)), P 0 s p d q L (.inl (skp T n p)) (PP.bad h))
    (con : ∀ {s : Bool} {p : Int} {d : Int} {q : Int} {L : Int → Int} {k : Int} (hc : chr T n (skp T n p) = Fo.sgA k) (hk : k = 10 ∨ k = 11), P 0 s p d q L (.inr (Fo.atom k 0 0, skp T n p + 1)) (PP.con hc hk))
    (un0 : ∀ {s : Bool} {p : Int} {d : Int} {q : Int} {L : Int → Int} {k : Int} (hc : chr T n (skp T n p) = Fo.sgA k) (hk : k = 6 ∨ k = 7) (hf : fnd L (chr T n (skp T n (skp T n p + 1))) q.toNat = 0), P 0 s p d q L (.inl (skp T n (skp T n p + 1))) (PP.un0 hc hk hf))
    (un1 : ∀ {s : Bool} {p : Int} {d : Int} {q : Int} {L : Int → Int} {k : Int} {m : Int} (hc : chr T n (skp T n p) = Fo.sgA k) (hk : k = 6 ∨ k = 7) (hf : fnd L (chr T n (skp T n (skp T n p + 1))) q.toNat = m) (hm : 1 ≤ m), P 0 s p d q L (.inr (Fo.atom k m 0, skp T n (skp T n p + 1) + 1)) (PP.un1 hc hk hf hm))
    (bi0 : ∀ {s : Bool} {p : Int} {d : Int} {q : Int} {L : Int → Int} {k : Int} (hc : chr T n (skp T n p) = Fo.sgA k) (hk : k = 8 ∨ k = 9) (hf : fnd L (chr T n (skp T n (skp T n p + 1))) q.toNat = 0), P 0 s p d q L (.inl (skp T n (skp T n p + 1))) (PP.bi0 hc hk hf))
    (bi1 : ∀ {s : Bool} {p : Int} {d : Int} {q : Int} {L : Int → Int} {k : Int} {m : Int} (hc : chr T n (skp T n p) = Fo.sgA k) (hk : k = 8 ∨ k = 9) (hf : fnd L (chr T n (skp T n (skp T n p + 1))) q.toNat = m) (hm : 1 ≤ m) (hg : fnd L (chr T n (skp T n (skp T n (skp T n p + 1) + 1))) q.toNat = 0), P 0 s p d q L (.inl (skp T n (skp T n (skp T n p + 1) + 1))) (PP.bi1 hc hk hf hm hg))
    (bi2 : ∀ {s : Bool} {p : Int} {d : Int} {q : Int} {L : Int → Int} {k : Int} {m : Int} {m' : Int} (hc : chr T n (skp T n p) = Fo.sgA k) (hk : k = 8 ∨ k = 9) (hf : fnd L (chr T n (skp T n (skp T n p + 1))) q.toNat = m) (hm : 1 ≤ m) (hg : fnd L (chr T n (skp T n (skp T n (skp T n p + 1) + 1))) q.toNat = m') (hm' : 1 ≤ m'), P 0 s p d q L (.inr (Fo.atom k m m', skp T n (skp T n (skp T n p + 1) + 1) + 1)) (PP.bi2 hc hk hf hm hg hm'))
    (notD : ∀ {s : Bool} {p : Int} {d : Int} {q : Int} {L : Int → Int} (hc : chr T n (skp T n p) = 45) (hd : ¬ d < 12), P 0 s p d q L (.inl (skp T n p)) (PP.notD hc hd))
    (notE : ∀ {s : Bool} {p : Int} {d : Int} {q : Int} {L : Int → Int} {e : Int} (hc : chr T n (skp T n p) = 45) (hd : d < 12) (h : PP T n 0 false (skp T n p + 1) (d + 1) q L (.inl e)), P 0 false (skp T n p + 1) (d + 1) q L (.inl e) h → P 0 s p d q L (.inl e) (PP.notE hc hd h))
    (notF : ∀ {s : Bool} {p : Int} {d : Int} {q : Int} {L : Int → Int} {f : Fo} {x : Int} (hc : chr T n (skp T n p) = 45) (hd : d < 12) (h : PP T n 0 false (skp T n p + 1) (d + 1) q L (.inr (f, x))), P 0 false (skp T n p + 1) (d + 1) q L (.inr (f, x)) h → P 0 s p d q L (.inr (Fo.not f, x)) (PP.notF hc hd h))
    (parD : ∀ {s : Bool} {p : Int} {d : Int} {q : Int} {L : Int → Int} (hc : chr T n (skp T n p) = 40) (hd : ¬ d < 12), P 0 s p d q L (.inl (skp T n p)) (PP.parD hc hd))
    (parE : ∀ {s : Bool} {p : Int} {d : Int} {q : Int} {L : Int → Int} {e : Int} (hc : chr T n (skp T n p) = 40) (hd : d < 12) (h : PP T n 1 false (skp T n p + 1) (d + 1) q L (.inl e)), P 1 false (skp T n p + 1) (d + 1) q L (.inl e) h → P 0 s p d q L (.inl e) (PP.parE hc hd h))
    (parB : ∀ {s : Bool} {p : Int} {d : Int} {q : Int} {L : Int → Int} {f : Fo} {x : Int} (hc : chr T n (skp T n p) = 40) (hd : d < 12) (h : PP T n 1 false (skp T n p + 1) (d + 1) q L (.inr (f, x))) (hx : chr T n x ≠ 41), P 1 false (skp T n p + 1) (d + 1) q L (.inr (f, x)) h → P 0 s p d q L (.inl x) (PP.parB hc hd h hx))
    (parF : ∀ {s : Bool} {p : Int} {d : Int} {q : Int} {L : Int → Int} {f : Fo} {x : Int} (hc : chr T n (skp T n p) = 40) (hd : d < 12) (h : PP T n 1 false (skp T n p + 1) (d + 1) q L (.inr (f, x))) (hx : chr T n x = 41), P 1 false (skp T n p + 1) (d + 1) q L (.inr (f, x)) h → P 0 s p d q L (.inr (f, x + 1)) (PP.parF hc hd h hx))
    (eacD : ∀ {s : Bool} {p : Int} {d : Int} {q : Int} {L : Int → Int} {a : Bool} (hc : chr T n (skp T n p) = Fo.sgQ a) (hd : ¬ (q < 8 ∧ d < 12)), P 0 s p d q L (.inl (skp T n p)) (PP.eacD hc hd))
    (eacL : ∀ {s : Bool} {p : Int} {d : Int} {q : Int} {L : Int → Int} {a : Bool} (hc : chr T n (skp T n p) = Fo.sgQ a) (hd : q < 8 ∧ d < 12) (hl : ¬ (97 ≤ chr T n (skp T n (skp T n p + 1)) ∧ chr T n (skp T n (skp T n p + 1)) ≤ 104)), P 0 s p d q L (.inl (skp T n (skp T n p + 1))) (PP.eacL hc hd hl))
    (eacE : ∀ {s : Bool} {p : Int} {d : Int} {q : Int} {L : Int → Int} {a : Bool} {e : Int} (hc : chr T n (skp T n p) = Fo.sgQ a) (hd : q < 8 ∧ d < 12) (hl : 97 ≤ chr T n (skp T n (skp T n p + 1)) ∧ chr T n (skp T n (skp T n p + 1)) ≤ 104) (h : PP T n 0 false (skp T n (skp T n p + 1) + 1) (d + 1) (q + 1) (iup L (q + 1) (chr T n (skp T n (skp T n p + 1)))) (.inl e)), P 0 false (skp T n (skp T n p + 1) + 1) (d + 1) (q + 1) (iup L (q + 1) (chr T n (skp T n (skp T n p + 1)))) (.inl e) h → P 0 s p d q L (.inl e) (PP.eacE hc hd hl h))
    (eacF : ∀ {s : Bool} {p : Int} {d : Int} {q : Int} {L : Int → Int} {a : Bool} {f : Fo} {x : Int} (hc : chr T n (skp T n p) = Fo.sgQ a) (hd : q < 8 ∧ d < 12) (hl : 97 ≤ chr T n (skp T n (skp T n p + 1)) ∧ chr T n (skp T n (skp T n p + 1)) ≤ 104) (h : PP T n 0 false (skp T n (skp T n p + 1) + 1) (d + 1) (q + 1) (iup L (q + 1) (chr T n (skp T n (skp T n p + 1)))) (.inr (f, x))), P 0 false (skp T n (skp T n p + 1) + 1) (d + 1) (q + 1) (iup L (q + 1) (chr T n (skp T n (skp T n p + 1)))) (.inr (f, x)) h → P 0 s p d q L (.inr (Fo.each a (q + 1) f, x)) (PP.eacF hc hd hl h))
    (forE : ∀ {s : Bool} {p : Int} {d : Int} {q : Int} {L : Int → Int} {e : Int} (h : PP T n 0 false p d q L (.inl e)), P 0 false p d q L (.inl e) h → P 1 s p d q L (.inl e) (PP.forE h))
    (for1 : ∀ {s : Bool} {p : Int} {d : Int} {q : Int} {L : Int → Int} {f : Fo} {x : Int} (h : PP T n 0 false p d q L (.inr (f, x))) (hc : chr T n (skp T n x) ≠ 38) (hc' : chr T n (skp T n x) ≠ 124), P 0 false p d q L (.inr (f, x)) h → P 1 s p d q L (.inr (f, skp T n x)) (PP.for1 h hc hc'))
    (forS : ∀ {s : Bool} {a : Bool} {p : Int} {d : Int} {q : Int} {L : Int → Int} {f : Fo} {x : Int} {e : Int} (h : PP T n 0 false p d q L (.inr (f, x))) (hc : chr T n (skp T n x) = Fo.sgM a) (h2 : PP T n 2 a (skp T n x) d q L (.inl e)), P 0 false p d q L (.inr (f, x)) h → P 2 a (skp T n x) d q L (.inl e) h2 → P 1 s p d q L (.inl e) (PP.forS h hc h2))
    (forM : ∀ {s : Bool} {a : Bool} {p : Int} {d : Int} {q : Int} {L : Int → Int} {f : Fo} {x : Int} {l : Fo} {y : Int} (h : PP T n 0 false p d q L (.inr (f, x))) (hc : chr T n (skp T n x) = Fo.sgM a) (h2 : PP T n 2 a (skp T n x) d q L (.inr (l, y))), P 0 false p d q L (.inr (f, x)) h → P 2 a (skp T n x) d q L (.inr (l, y)) h2 → P 1 s p d q L (.inr (Fo.many a (Fo.cons f l), y)) (PP.forM h hc h2))
    (lpE : ∀ {s : Bool} {p : Int} {d : Int} {q : Int} {L : Int → Int} {e : Int} (hc : chr T n p = Fo.sgM s) (h : PP T n 0 false (p + 1) d q L (.inl e)), P 0 false (p + 1) d q L (.inl e) h → P 2 s p d q L (.inl e) (PP.lpE hc h))
    (lpS : ∀ {s : Bool} {p : Int} {d : Int} {q : Int} {L : Int → Int} {f : Fo} {x : Int} {e : Int} (hc : chr T n p = Fo.sgM s) (h : PP T n 0 false (p + 1) d q L (.inr (f, x))) (h2 : PP T n 2 s (skp T n x) d q L (.inl e)), P 0 false (p + 1) d q L (.inr (f, x)) h → P 2 s (skp T n x) d q L (.inl e) h2 → P 2 s p d q L (.inl e) (PP.lpS hc h h2))
    (lpF : ∀ {s : Bool} {p : Int} {d : Int} {q : Int} {L : Int → Int} {f : Fo} {x : Int} {l : Fo} {y : Int} (hc : chr T n p = Fo.sgM s) (h : PP T n 0 false (p + 1) d q L (.inr (f, x))) (h2 : PP T n 2 s (skp T n x) d q L (.inr (l, y))), P 0 false (p + 1) d q L (.inr (f, x)) h → P 2 s (skp T n x) d q L (.inr (l, y)) h2 → P 2 s p d q L (.inr (Fo.cons f l, y)) (PP.lpF hc h h2))
    (lpN : ∀ {s : Bool} {p : Int} {d : Int} {q : Int} {L : Int → Int} (hc : chr T n p ≠ Fo.sgM s), P 2 s p d q L (.inr (Fo.nil, p)) (PP.lpN hc)) {m : Nat} {s : Bool} {p d q : Int} {L : Int → Int} {r : PR} (h : PP T n m s p d q L r) : P m s p d q L r h := by
  have key : ∃ h : PP T n m s p d q L r, P m s p d q L r h := h (fun m s p d q L r => ∃ h : PP T n m s p d q L r, P m s p d q L r h) ⟨fun s p d q L h => ⟨PP.bad h, bad h ⟩,
    fun s p d q L k hc hk => ⟨PP.con hc hk, con hc hk ⟩,
    fun s p d q L k hc hk hf => ⟨PP.un0 hc hk hf, un0 hc hk hf ⟩,
    fun s p d q L k m hc hk hf hm => ⟨PP.un1 hc hk hf hm, un1 hc hk hf hm ⟩,
    fun s p d q L k hc hk hf => ⟨PP.bi0 hc hk hf, bi0 hc hk hf ⟩,
    fun s p d q L k m hc hk hf hm hg => ⟨PP.bi1 hc hk hf hm hg, bi1 hc hk hf hm hg ⟩,
    fun s p d q L k m m' hc hk hf hm hg hm' => ⟨PP.bi2 hc hk hf hm hg hm', bi2 hc hk hf hm hg hm' ⟩,
    fun s p d q L hc hd => ⟨PP.notD hc hd, notD hc hd ⟩,
    fun s p d q L e hc hd ⟨h, ih⟩ => ⟨PP.notE hc hd h, notE hc hd h ih⟩,
    fun s p d q L f x hc hd ⟨h, ih⟩ => ⟨PP.notF hc hd h, notF hc hd h ih⟩,
    fun s p d q L hc hd => ⟨PP.parD hc hd, parD hc hd ⟩,
    fun s p d q L e hc hd ⟨h, ih⟩ => ⟨PP.parE hc hd h, parE hc hd h ih⟩,
    fun s p d q L f x hc hd ⟨h, ih⟩ hx => ⟨PP.parB hc hd h hx, parB hc hd h hx ih⟩,
    fun s p d q L f x hc hd ⟨h, ih⟩ hx => ⟨PP.parF hc hd h hx, parF hc hd h hx ih⟩,
    fun s p d q L a hc hd => ⟨PP.eacD hc hd, eacD hc hd ⟩,
    fun s p d q L a hc hd hl => ⟨PP.eacL hc hd hl, eacL hc hd hl ⟩,
    fun s p d q L a e hc hd hl ⟨h, ih⟩ => ⟨PP.eacE hc hd hl h, eacE hc hd hl h ih⟩,
    fun s p d q L a f x hc hd hl ⟨h, ih⟩ => ⟨PP.eacF hc hd hl h, eacF hc hd hl h ih⟩,
    fun s p d q L e ⟨h, ih⟩ => ⟨PP.forE h, forE h ih⟩,
    fun s p d q L f x ⟨h, ih⟩ hc hc' => ⟨PP.for1 h hc hc', for1 h hc hc' ih⟩,
    fun s a p d q L f x e ⟨h, ih⟩ hc ⟨h2, ih2⟩ => ⟨PP.forS h hc h2, forS h hc h2 ih ih2⟩,
    fun s a p d q L f x l y ⟨h, ih⟩ hc ⟨h2, ih2⟩ => ⟨PP.forM h hc h2, forM h hc h2 ih ih2⟩,
    fun s p d q L e hc ⟨h, ih⟩ => ⟨PP.lpE hc h, lpE hc h ih⟩,
    fun s p d q L f x e hc ⟨h, ih⟩ ⟨h2, ih2⟩ => ⟨PP.lpS hc h h2, lpS hc h h2 ih ih2⟩,
    fun s p d q L f x l y hc ⟨h, ih⟩ ⟨h2, ih2⟩ => ⟨PP.lpF hc h h2, lpF hc h h2 ih ih2⟩,
    fun s p d q L hc => ⟨PP.lpN hc, lpN hc ⟩⟩
  obtain ⟨_, h⟩ := key
  exact h
theorem chr_lt {T : Int → Int} {n a : Int} (h : 0 < chr T n a) : a < n := by
  unfold chr at h
  split at h <;> omega
theorem sgA_p {k : Int} : 0 < Fo.sgA k := by have := sgA_r (k := k); omega
theorem sgQ_p {a : Bool} : 0 < Fo.sgQ a := by cases a <;> decide
theorem sgM_p {a : Bool} : 0 < Fo.sgM a := by cases a <;> decide
/-- where it ends, how large it is, how high -/
def PPb (T : Int → Int) (n : Int) (m : Nat) (s : Bool) (p d q : Int) : PR → Prop
  | .inl e => p ≤ e ∧ e ≤ n
  | .inr (f, x) => p ≤ x ∧ x ≤ n ∧ Fo.wf f (decide (m = 2)) q ∧ (m = 0 → p < x ∧ (Fo.ht f : Int) ≤ 12 - d ∧ (Fo.sz f : Int) ≤ x - p) ∧ (m = 1 → p < x ∧ skp T n x = x ∧ (Fo.ht f : Int) ≤ 13 - d ∧ (Fo.sz f : Int) ≤ x - p) ∧ (m = 2 → (skp T n p = p → skp T n x = x) ∧ (Fo.ht f : Int) ≤ 12 - d ∧ (Fo.sz f : Int) + Fo.len f ≤ x - p ∧ (chr T n p = Fo.sgM s → 1 ≤ Fo.len f))
def Lok (L : Int → Int) (q : Int) : Prop := ∀ m, 1 ≤ m → m ≤ q → 97 ≤ L m ∧ L m ≤ 104
theorem fnd_s {L : Int → Int} {c : Int} : ∀ k : Nat, 1 ≤ fnd L c k → L (fnd L c k) = c
  | 0, h => by simp [fnd] at h
  | k + 1, h => by
    unfold fnd at h ⊢
    split
    · assumption
    · rename_i h2
      rw [if_neg h2] at h
      exact fnd_s k h
theorem fnd_n {L : Int → Int} {T : Int → Int} {n a q : Int} (hL : Lok L q) (h : 1 ≤ fnd L (chr T n a) q.toNat) : a < n ∧ fnd L (chr T n a) q.toNat ≤ q := by
  have h1 := fnd_s _ h
  have h2 := fnd_r (L := L) (c := chr T n a) q.toNat
  have h3 := hL _ h (by omega)
  exact ⟨chr_lt (T := T) (by omega), by omega⟩
theorem Lok.up {L : Int → Int} {q c : Int} (h : Lok L q) (hc : 97 ≤ c ∧ c ≤ 104) : Lok (iup L (q + 1) c) (q + 1) := by
  intro m h1 h2
  unfold iup
  split
  · exact hc
  · exact h m h1 (by omega)
theorem PP.b {T : Int → Int} {n : Int} {m : Nat} {s : Bool} {p d q : Int} {L : Int → Int} {r : PR} (h : PP T n m s p d q L r) : p ≤ n → 0 ≤ q → q ≤ 8 → d ≤ 12 → Lok L q → PPb T n m s p d q r := by
  induction h using PP.ind with
  | bad h => intro hp hq h8 hd hL; exact skp_b hp
  | @con s p d q L k hc hk =>
    intro hp hq h8 hd hL
    have h1 := skp_b (T := T) hp
    have h2 := chr_lt (T := T) (n := n) (a := skp T n p) (by rw [hc]; exact sgA_p)
    refine ⟨by omega, by omega, wf_atom (Or.inl ⟨hk, rfl, rfl⟩), fun _ => ⟨by omega, by rw [ht_atom]; omega, by rw [sz_atom (q := q) (Or.inl ⟨hk, rfl, rfl⟩)]; omega⟩, fun z => by omega, fun z => by omega⟩
  | @un0 s p d q L k hc hk hf =>
    intro hp hq h8 hd hL
    have h1 := skp_b (T := T) hp
    have h2 := chr_lt (T := T) (n := n) (a := skp T n p) (by rw [hc]; exact sgA_p)
    have h3 := skp_b (T := T) (n := n) (a := skp T n p + 1) (by omega)
    exact ⟨by omega, by omega⟩
  | @un1 s p d q L k m hc hk hf hm =>
    intro hp hq h8 hd hL
    have h1 := skp_b (T := T) hp
    have h2 := chr_lt (T := T) (n := n) (a := skp T n p) (by rw [hc]; exact sgA_p)
    have h3 := skp_b (T := T) (n := n) (a := skp T n p + 1) (by omega)
    have h4 := fnd_n hL (show 1 ≤ fnd L (chr T n (skp T n (skp T n p + 1))) q.toNat by omega)
    refine ⟨by omega, by omega, wf_atom (Or.inr (Or.inl ⟨hk, ⟨hm, by omega⟩, rfl⟩)), fun _ => ⟨by omega, by rw [ht_atom]; omega, by rw [sz_atom (q := q) (Or.inr (Or.inl ⟨hk, ⟨hm, by omega⟩, rfl⟩))]; omega⟩, fun z => by omega, fun z => by omega⟩
  | @bi0 s p d q L k hc hk hf =>
    intro hp hq h8 hd hL
    have h1 := skp_b (T := T) hp
    have h2 := chr_lt (T := T) (n := n) (a := skp T n p) (by rw [hc]; exact sgA_p)
    have h3 := skp_b (T := T) (n := n) (a := skp T n p + 1) (by omega)
    exact ⟨by omega, by omega⟩
  | @bi1 s p d q L k m hc hk hf hm hg =>
    intro hp hq h8 hd hL
    have h1 := skp_b (T := T) hp
    have h2 := chr_lt (T := T) (n := n) (a := skp T n p) (by rw [hc]; exact sgA_p)
    have h3 := skp_b (T := T) (n := n) (a := skp T n p + 1) (by omega)
    have h4 := fnd_n hL (show 1 ≤ fnd L (chr T n (skp T n (skp T n p + 1))) q.toNat by omega)
    have h5 := skp_b (T := T) (n := n) (a := skp T n (skp T n p + 1) + 1) (by omega)
    exact ⟨by omega, by omega⟩
  | @bi2 s p d q L k m m' hc hk hf hm hg hm' =>
    intro hp hq h8 hd hL
    have h1 := skp_b (T := T) hp
    have h2 := chr_lt (T := T) (n := n) (a := skp T n p) (by rw [hc]; exact sgA_p)
    have h3 := skp_b (T := T) (n := n) (a := skp T n p + 1) (by omega)
    have h4 := fnd_n hL (show 1 ≤ fnd L (chr T n (skp T n (skp T n p + 1))) q.toNat by omega)
    have h5 := skp_b (T := T) (n := n) (a := skp T n (skp T n p + 1) + 1) (by omega)
    have h6 := fnd_n hL (show 1 ≤ fnd L (chr T n (skp T n (skp T n (skp T n p + 1) + 1))) q.toNat by omega)
    refine ⟨by omega, by omega, wf_atom (Or.inr (Or.inr ⟨hk, ⟨hm, by omega⟩, ⟨hm', by omega⟩⟩)), fun _ => ⟨by omega, by rw [ht_atom]; omega, by rw [sz_atom (q := q) (Or.inr (Or.inr ⟨hk, ⟨hm, by omega⟩, ⟨hm', by omega⟩⟩))]; omega⟩, fun z => by omega, fun z => by omega⟩
  | @notD s p d q L hc hd' =>
    intro hp hq h8 hd hL
    have h1 := skp_b (T := T) hp
    exact ⟨by omega, by omega⟩
  | @notE s p d q L e hc hd' h ih =>
    intro hp hq h8 hd hL
    have h1 := skp_b (T := T) hp
    have h2 := chr_lt (T := T) (n := n) (a := skp T n p) (by rw [hc]; exact (by decide : (0 : Int) < 45))
    have := ih (by omega) hq h8 (by omega) hL
    simp only [PPb] at this ⊢
    omega
  | @notF s p d q L f x hc hd' h ih =>
    intro hp hq h8 hd hL
    have h1 := skp_b (T := T) hp
    have h2 := chr_lt (T := T) (n := n) (a := skp T n p) (by rw [hc]; exact (by decide : (0 : Int) < 45))
    obtain ⟨a1, a2, a3, a4, -, -⟩ := ih (by omega) hq h8 (by omega) hL
    have a4 := a4 rfl
    refine ⟨by omega, by omega, wf_not a3, fun _ => ⟨by omega, by rw [ht_not]; omega, by rw [sz_not]; omega⟩, fun z => by omega, fun z => by omega⟩
  | @parD s p d q L hc hd' =>
    intro hp hq h8 hd hL
    have h1 := skp_b (T := T) hp
    exact ⟨by omega, by omega⟩
  | @parE s p d q L e hc hd' h ih =>
    intro hp hq h8 hd hL
    have h1 := skp_b (T := T) hp
    have h2 := chr_lt (T := T) (n := n) (a := skp T n p) (by rw [hc]; exact (by decide : (0 : Int) < 40))
    have := ih (by omega) hq h8 (by omega) hL
    simp only [PPb] at this ⊢
    omega
  | @parB s p d q L f x hc hd' h hx ih =>
    intro hp hq h8 hd hL
    have h1 := skp_b (T := T) hp
    have h2 := chr_lt (T := T) (n := n) (a := skp T n p) (by rw [hc]; exact (by decide : (0 : Int) < 40))
    obtain ⟨a1, a2, a3, -, a4, -⟩ := ih (by omega) hq h8 (by omega) hL
    exact ⟨by omega, by omega⟩
  | @parF s p d q L f x hc hd' h hx ih =>
    intro hp hq h8 hd hL
    have h1 := skp_b (T := T) hp
    have h2 := chr_lt (T := T) (n := n) (a := skp T n p) (by rw [hc]; exact (by decide : (0 : Int) < 40))
    obtain ⟨a1, a2, a3, -, a4, -⟩ := ih (by omega) hq h8 (by omega) hL
    have a4 := a4 rfl
    have h5 := chr_lt (T := T) (n := n) (a := x) (by rw [hx]; decide)
    refine ⟨by omega, by omega, a3, fun _ => ⟨by omega, by omega, by omega⟩, fun z => by omega, fun z => by omega⟩
  | @eacD s p d q L a hc hd' =>
    intro hp hq h8 hd hL
    have h1 := skp_b (T := T) hp
    exact ⟨by omega, by omega⟩
  | @eacL s p d q L a hc hd' hl =>
    intro hp hq h8 hd hL
    have h1 := skp_b (T := T) hp
    have h2 := chr_lt (T := T) (n := n) (a := skp T n p) (by rw [hc]; exact sgQ_p)
    have h3 := skp_b (T := T) (n := n) (a := skp T n p + 1) (by omega)
    exact ⟨by omega, by omega⟩
  | @eacE s p d q L a e hc hd' hl h ih =>
    intro hp hq h8 hd hL
    have h1 := skp_b (T := T) hp
    have h2 := chr_lt (T := T) (n := n) (a := skp T n p) (by rw [hc]; exact sgQ_p)
    have h3 := skp_b (T := T) (n := n) (a := skp T n p + 1) (by omega)
    have h4 := chr_lt (T := T) (n := n) (a := skp T n (skp T n p + 1)) (by omega)
    have := ih (by omega) (by omega) (by omega) (by omega) (hL.up hl)
    simp only [PPb] at this ⊢
    omega
  | @eacF s p d q L a f x hc hd' hl h ih =>
    intro hp hq h8 hd hL
    have h1 := skp_b (T := T) hp
    have h2 := chr_lt (T := T) (n := n) (a := skp T n p) (by rw [hc]; exact sgQ_p)
    have h3 := skp_b (T := T) (n := n) (a := skp T n p + 1) (by omega)
    have h4 := chr_lt (T := T) (n := n) (a := skp T n (skp T n p + 1)) (by omega)
    obtain ⟨a1, a2, a3, a4, -, -⟩ := ih (by omega) (by omega) (by omega) (by omega) (hL.up hl)
    have a4 := a4 rfl
    refine ⟨by omega, by omega, wf_each ⟨hq, hd'.1⟩ a3, fun _ => ⟨by omega, by rw [ht_each]; omega, by rw [sz_each]; omega⟩, fun z => by omega, fun z => by omega⟩
  | @forE s p d q L e h ih =>
    intro hp hq h8 hd hL
    exact ih hp hq h8 hd hL
  | @for1 s p d q L f x h hc hc' ih =>
    intro hp hq h8 hd hL
    obtain ⟨a1, a2, a3, a4, -, -⟩ := ih hp hq h8 hd hL
    have a4 := a4 rfl
    have h3 := skp_b (T := T) (n := n) (a := x) (by omega)
    refine ⟨by omega, by omega, a3, fun z => by omega, fun z => ⟨by omega, skp_2 (by omega), by omega, by omega⟩, fun z => by omega⟩
  | @forS s a p d q L f x e h hc h2 ih ih2 =>
    intro hp hq h8 hd hL
    obtain ⟨a1, a2, a3, a4, -, -⟩ := ih hp hq h8 hd hL
    have h3 := skp_b (T := T) (n := n) (a := x) (by omega)
    have := ih2 (by omega) hq h8 hd hL
    simp only [PPb] at this ⊢
    omega
  | @forM s a p d q L f x l y h hc h2 ih ih2 =>
    intro hp hq h8 hd hL
    obtain ⟨a1, a2, a3, a4, -, -⟩ := ih hp hq h8 hd hL
    have a4 := a4 rfl
    have h3 := skp_b (T := T) (n := n) (a := x) (by omega)
    obtain ⟨b1, b2, b3, -, -, b4⟩ := ih2 (by omega) hq h8 hd hL
    obtain ⟨c1, c2, c3, c4⟩ := b4 rfl
    have c4 := c4 hc
    refine ⟨by omega, by omega, wf_many (by rw [len_cons]; omega) (wf_cons a3 b3), fun z => by omega, fun z => ⟨by omega, c1 (skp_2 (by omega)), by rw [ht_many, ht_cons]; omega, by rw [sz_many, sz_cons]; omega⟩, fun z => by omega⟩
  | @lpE s p d q L e hc h ih =>
    intro hp hq h8 hd hL
    have h2 := chr_lt (T := T) (n := n) (a := p) (by rw [hc]; exact sgM_p)
    have := ih (by omega) hq h8 hd hL
    simp only [PPb] at this ⊢
    omega
  | @lpS s p d q L f x e hc h h2 ih ih2 =>
    intro hp hq h8 hd hL
    have h4 := chr_lt (T := T) (n := n) (a := p) (by rw [hc]; exact sgM_p)
    obtain ⟨a1, a2, a3, a4, -, -⟩ := ih (by omega) hq h8 hd hL
    have h3 := skp_b (T := T) (n := n) (a := x) (by omega)
    have := ih2 (by omega) hq h8 hd hL
    simp only [PPb] at this ⊢
    omega
  | @lpF s p d q L f x l y hc h h2 ih ih2 =>
    intro hp hq h8 hd hL
    have h4 := chr_lt (T := T) (n := n) (a := p) (by rw [hc]; exact sgM_p)
    obtain ⟨a1, a2, a3, a4, -, -⟩ := ih (by omega) hq h8 hd hL
    have a4 := a4 rfl
    have h3 := skp_b (T := T) (n := n) (a := x) (by omega)
    obtain ⟨b1, b2, b3, -, -, b4⟩ := ih2 (by omega) hq h8 hd hL
    obtain ⟨c1, c2, c3, c4⟩ := b4 rfl
    refine ⟨by omega, by omega, wf_cons a3 b3, fun z => by omega, fun z => by omega, fun z => ⟨fun _ => c1 (skp_2 (by omega)), by rw [ht_cons]; omega, by rw [sz_cons, len_cons]; omega, fun _ => by rw [len_cons]; omega⟩⟩
  | @lpN s p d q L hc =>
    intro hp hq h8 hd hL
    exact ⟨by omega, by omega, wf_nil, fun z => by omega, fun z => by omega, fun z => ⟨fun e => e, by rw [ht_nil]; omega, by rw [sz_nil, len_nil]; omega, fun e => absurd e hc⟩⟩
/-- every text is read, or found wrong -/
theorem PP.all {T : Int → Int} {n : Int} : ∀ (k : Nat) (p d q : Int) (L : Int → Int), (n - p).toNat = k → p ≤ n → 0 ≤ q → q ≤ 8 → d ≤ 12 → Lok L q → (∀ s, ∃ r, PP T n 0 s p d q L r) ∧ (∀ s, ∃ r, PP T n 2 s p d q L r) ∧ ∀ s, ∃ r, PP T n 1 s p d q L r := by
  intro k
  induction k using Nat.strongRecOn with
  | _ k ih =>
    intro p d q L hk hp hq h8 hd hL
    have h1 := skp_b (T := T) hp
    have part : ∀ s, ∃ r, PP T n 0 s p d q L r := by
      intro s
      by_cases hb : chr T n (skp T n p) = 84 ∨ chr T n (skp T n p) = 70 ∨ chr T n (skp T n p) = 65 ∨ chr T n (skp T n p) = 66 ∨ chr T n (skp T n p) = 69 ∨ chr T n (skp T n p) = 61 ∨ chr T n (skp T n p) = 45 ∨ chr T n (skp T n p) = 40 ∨ chr T n (skp T n p) = 64 ∨ chr T n (skp T n p) = 63
      · have h2 : skp T n p < n := chr_lt (T := T) (by omega)
        have h3 := skp_b (T := T) (n := n) (a := skp T n p + 1) (by omega)
        have un : ∀ k, chr T n (skp T n p) = Fo.sgA k → (k = 6 ∨ k = 7) → ∃ r, PP T n 0 s p d q L r := fun k e hk => by
          have := fnd_r (L := L) (c := chr T n (skp T n (skp T n p + 1))) q.toNat
          by_cases hf : fnd L (chr T n (skp T n (skp T n p + 1))) q.toNat = 0
          · exact ⟨_, PP.un0 e hk hf⟩
          · exact ⟨_, PP.un1 e hk rfl (by omega)⟩
        have bi : ∀ k, chr T n (skp T n p) = Fo.sgA k → (k = 8 ∨ k = 9) → ∃ r, PP T n 0 s p d q L r := fun k e hk => by
          have := fnd_r (L := L) (c := chr T n (skp T n (skp T n p + 1))) q.toNat
          have := fnd_r (L := L) (c := chr T n (skp T n (skp T n (skp T n p + 1) + 1))) q.toNat
          by_cases hf : fnd L (chr T n (skp T n (skp T n p + 1))) q.toNat = 0
          · exact ⟨_, PP.bi0 e hk hf⟩
          · by_cases hg : fnd L (chr T n (skp T n (skp T n (skp T n p + 1) + 1))) q.toNat = 0
            · exact ⟨_, PP.bi1 e hk rfl (by omega) hg⟩
            · exact ⟨_, PP.bi2 e hk rfl (by omega) rfl (by omega)⟩
        have ea : ∀ a, chr T n (skp T n p) = Fo.sgQ a → ∃ r, PP T n 0 s p d q L r := fun a e => by
          by_cases hd' : q < 8 ∧ d < 12
          · by_cases hl : 97 ≤ chr T n (skp T n (skp T n p + 1)) ∧ chr T n (skp T n (skp T n p + 1)) ≤ 104
            · have h4 : skp T n (skp T n p + 1) < n := chr_lt (T := T) (by omega)
              obtain ⟨r, hr⟩ := (ih _ (by omega) (skp T n (skp T n p + 1) + 1) (d + 1) (q + 1) (iup L (q + 1) (chr T n (skp T n (skp T n p + 1)))) rfl (by omega) (by omega) (by omega) (by omega) (hL.up hl)).1 false
              rcases r with e' | ⟨f, x⟩
              · exact ⟨_, PP.eacE e hd' hl hr⟩
              · exact ⟨_, PP.eacF e hd' hl hr⟩
            · exact ⟨_, PP.eacL e hd' hl⟩
          · exact ⟨_, PP.eacD e hd'⟩
        rcases hb with e | e | e | e | e | e | e | e | e | e
        · exact ⟨_, PP.con (k := 10) e (Or.inl rfl)⟩
        · exact ⟨_, PP.con (k := 11) e (Or.inr rfl)⟩
        · exact un 6 e (Or.inl rfl)
        · exact un 7 e (Or.inr rfl)
        · exact bi 8 e (Or.inl rfl)
        · exact bi 9 e (Or.inr rfl)
        · by_cases hd' : d < 12
          · obtain ⟨r, hr⟩ := (ih _ (by omega) (skp T n p + 1) (d + 1) q L rfl (by omega) hq h8 (by omega) hL).1 false
            rcases r with e' | ⟨f, x⟩
            · exact ⟨_, PP.notE e hd' hr⟩
            · exact ⟨_, PP.notF e hd' hr⟩
          · exact ⟨_, PP.notD e hd'⟩
        · by_cases hd' : d < 12
          · obtain ⟨r, hr⟩ := (ih _ (by omega) (skp T n p + 1) (d + 1) q L rfl (by omega) hq h8 (by omega) hL).2.2 false
            rcases r with e' | ⟨f, x⟩
            · exact ⟨_, PP.parE e hd' hr⟩
            · by_cases hx : chr T n x = 41
              · exact ⟨_, PP.parF e hd' hr hx⟩
              · exact ⟨_, PP.parB e hd' hr hx⟩
          · exact ⟨_, PP.parD e hd'⟩
        · exact ea true e
        · exact ea false e
      · exact ⟨_, PP.bad hb⟩
    refine ⟨part, fun s => ?_, fun s => ?_⟩
    · by_cases hc : chr T n p = Fo.sgM s
      · have h2 := chr_lt (T := T) (n := n) (a := p) (by rw [hc]; exact sgM_p)
        obtain ⟨r, hr⟩ := (ih _ (by omega) (p + 1) d q L rfl (by omega) hq h8 hd hL).1 false
        rcases r with e' | ⟨f, x⟩
        · exact ⟨_, PP.lpE hc hr⟩
        · obtain ⟨a1, a2, -⟩ := hr.b (by omega) hq h8 hd hL
          have h3 := skp_b (T := T) (n := n) (a := x) (by omega)
          obtain ⟨r2, hr2⟩ := (ih _ (by omega) (skp T n x) d q L rfl (by omega) hq h8 hd hL).2.1 s
          rcases r2 with e' | ⟨l, y⟩
          · exact ⟨_, PP.lpS hc hr hr2⟩
          · exact ⟨_, PP.lpF hc hr hr2⟩
      · exact ⟨_, PP.lpN hc⟩
    · obtain ⟨r, hr⟩ := part false
      rcases r with e' | ⟨f, x⟩
      · exact ⟨_, PP.forE hr⟩
      · obtain ⟨a1, a2, -, a4, -⟩ := hr.b (by omega) hq h8 hd hL
        have a4 := a4 rfl
        have h3 := skp_b (T := T) (n := n) (a := x) (by omega)
        have go : ∀ a, chr T n (skp T n x) = Fo.sgM a → ∃ r, PP T n 1 s p d q L r := fun a hc => by
          obtain ⟨r2, hr2⟩ := (ih _ (by omega) (skp T n x) d q L rfl (by omega) hq h8 hd hL).2.1 a
          rcases r2 with e' | ⟨l, y⟩
          · exact ⟨_, PP.forS hr hc hr2⟩
          · exact ⟨_, PP.forM hr hc hr2⟩
        by_cases c1 : chr T n (skp T n x) = 38
        · exact go true c1
        · by_cases c2 : chr T n (skp T n x) = 124
          · exact go false c2
          · exact ⟨_, PP.for1 hr c1 c2⟩
