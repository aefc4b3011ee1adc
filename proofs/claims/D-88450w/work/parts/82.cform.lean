/-! ===== lists that grow; formulas as objects ===== -/
set_option maxRecDepth 100000
/-- a list at la of n things (the first of E); its array is at e; B places were spent on arrays -/
def LSt (δ : Dl) (w : Hp) (la e z : Nat) (E : Int → V) (n B : Nat) : Prop := la < z ∧ δ.2.2 0 < z ∧ (∀ i : Int, 0 ≤ i → i < n → ∃ y ci h, E i = .inr (.inr (some y)) ∧ w y = some (.inr (ci, h)) ∧ (5 ≤ ci ∧ ci < 17) ∧ y < z ∧ y ≠ la) ∧ ((n = 0 ∧ e = la ∧ CL0 δ w la ∧ B = 0) ∨ (1 ≤ n ∧ ∃ c, CL_ w la e c E n ∧ e ≠ δ.2.2 0 ∧ e < z ∧ 10 ≤ c ∧ c ≤ 2 * n + 10 ∧ B ≤ 4 * c))
theorem LSt.to {δ : Dl} {w w' : Hp} {la e z z' : Nat} {E : Int → V} {n B : Nat} (h : LSt δ w la e z E n B) (hz : z ≤ z') (hla : w' la = w la) (he : w' e = w e) (hy : ∀ y ci F, y < z → w y = some (.inr (ci, F)) → 5 ≤ ci → w' y = w y) : LSt δ w' la e z' E n B := by
  obtain ⟨h1, h2, h3, h4⟩ := h
  refine ⟨by omega, by omega, fun i q1 q2 => ?_, ?_⟩
  · obtain ⟨y, cy, fy, y1, y2, y3, y4, y5⟩ := h3 i q1 q2
    exact ⟨y, cy, fy, y1, (hy y cy fy y4 y2 y3.1).trans y2, y3, by omega, y5⟩
  · rcases h4 with ⟨q1, q2, ⟨G, r1, r2, r3, r4⟩, q4⟩ | ⟨q1, cc, ⟨G, r1, r2, r3, r4, r5, r6⟩, q3, q4, q5⟩
    · exact Or.inl ⟨q1, q2, ⟨G, hla.trans r1, r2, r3, r4⟩, q4⟩
    · exact Or.inr ⟨q1, cc, ⟨G, hla.trans r1, r2, r3, r4, he.trans r5, r6⟩, q3, by omega, q5⟩
theorem c_add {l : Launch} {δ : Dl} {w : Hp} {z m la e n x ci B : Nat} {E : Int → V} {fx : Nat → V} (hL : LSt δ w la e z E n B) (hx : w x = some (.inr (ci, fx))) (hci : 5 ≤ ci ∧ ci < 17) (hxz : x < z) (hxl : x ≠ la) (hn : n ≤ 20000) : ∃ w' z' m' e' E' B', (M_J2_add l δ).1 [.inr (.inr (some la)), .inr (.inr (some x))] (w, z, m) = some (.inl (some (.inl 1)), w', z', m') ∧ LSt δ w' la e' z' E' (n + 1) B' ∧ (e' = e ∨ z ≤ e') ∧ z ≤ z' ∧ z' ≤ z + 1 ∧ m' + B = m + B' ∧ (∀ i : Int, 0 ≤ i → i < n → E' i = E i) ∧ E' n = .inr (.inr (some x)) ∧ ∀ a, a < z → a ≠ la → a ≠ e → w' a = w a := by
  obtain ⟨h1, h2, h3, h4⟩ := hL
  rcases h4 with ⟨rfl, rfl, h5, rfl⟩ | ⟨h5, c, h6, h7, h8, h9, h10, h11⟩
  · obtain ⟨w', a1, a2, a3⟩ := c_add0 (l := l) (m := m) h5 hx hci.2 h1 hxz h2
    refine ⟨w', z + 1, m + 10, z, _, 10, a1, ⟨by omega, by omega, fun i i1 i2 => ?_, Or.inr ⟨by omega, 10, a2, by omega, by omega, by omega, by omega, by omega⟩⟩, Or.inr (Nat.le_refl _), by omega, by omega, by omega, fun i q1 q2 => by omega, iup_s, fun a b1 b2 _ => a3 a b1 b2⟩
    have : i = 0 := by omega
    subst this
    exact ⟨x, ci, fx, iup_s, by rw [a3 x hxz hxl]; exact hx, hci, by omega, hxl⟩
  · have hea : e ≠ la := by
      obtain ⟨G, g1, g2, g3, g4, g5, g6, g7⟩ := h6
      intro q
      rw [q, g1] at g5
      cases g5
    by_cases hc : n < c
    · obtain ⟨w', a1, a2, a3⟩ := c_add1 (l := l) (δ := δ) (zz := (z, m)) h6 hx hci.2 hc h7
      refine ⟨w', z, m, e, _, B, a1, ⟨h1, h2, fun i i1 i2 => ?_, Or.inr ⟨by omega, c, a2, h7, h8, h9, by omega, h11⟩⟩, Or.inl rfl, by omega, by omega, rfl, fun i _ hi => iup_n (by omega), iup_s, fun a _ b1 b2 => a3 a b1 b2⟩
      have ob : ∀ y cy (hy : Nat → V), w y = some (.inr (cy, hy)) → y ≠ e := fun y cy hy q1 q2 => by
        obtain ⟨G, g1, g2, g3, g4, g5, g6, g7⟩ := h6
        rw [q2, g5] at q1
        cases q1
      by_cases q : i = n
      · subst q
        exact ⟨x, ci, fx, iup_s, by rw [a3 x hxl (ob x ci fx hx)]; exact hx, hci, hxz, hxl⟩
      · obtain ⟨y, cy, hy, y1, y2, y3, y4, y5⟩ := h3 i i1 (by omega)
        exact ⟨y, cy, hy, by rw [iup_n q]; exact y1, by rw [a3 y y5 (ob y cy hy y2)]; exact y2, y3, y4, y5⟩
    · have hcn : n = c := by
        obtain ⟨G, g1, g2, g3, g4, g5, g6, g7⟩ := h6
        omega
      subst hcn
      have hg : gro n = n + n / 2 := rfl
      obtain ⟨w', a1, a2, a3⟩ := c_addG (l := l) (δ := δ) (m := m) h6 ⟨h9, by omega⟩ (fun i q1 q2 => by obtain ⟨y, cy, hy, y1, y2, y3, y4⟩ := h3 i q1 q2; exact ⟨y, cy, hy, y1, y2, y3.2, y4⟩) hx hci.2 h1 hxz h8 h7
      refine ⟨w', z + 1, m + gro n, z, _, B + gro n, a1, ⟨by omega, by omega, fun i i1 i2 => ?_, Or.inr ⟨by omega, gro n, a2, by omega, by omega, by omega, by omega, by omega⟩⟩, Or.inr (Nat.le_refl _), by omega, by omega, by omega, fun i q hi => ?_, iup_s, fun a b1 b2 _ => a3 a b1 b2⟩
      · by_cases q : i = n
        · subst q
          exact ⟨x, ci, fx, iup_s, by rw [a3 x hxz hxl]; exact hx, hci, by omega, hxl⟩
        · obtain ⟨y, cy, hy, y1, y2, y3, y4, y5⟩ := h3 i i1 (by omega)
          refine ⟨y, cy, hy, ?_, by rw [a3 y y4 y5]; exact y2, y3, by omega, y5⟩
          rw [iup_n q]
          unfold cpyV
          rw [if_pos ⟨i1, by omega⟩]
          exact y1
      · rw [iup_n (by omega)]
        unfold cpyV
        rw [if_pos ⟨q, by omega⟩]
/-- a formula at r (its cells are of Z); a row as the things from i on in E -/
def FR (w : Hp) (Z : Nat → Prop) : Fo → (Int → V) → Int → Nat → Prop
  | .leaf x, _, _, r => if x.1 = 0 then True else Z r ∧ ∃ f, w r = some (.inr (5, f)) ∧ f 0 = .inl (Fo.sgA x.1) ∧ f 1 = .inl x.2.1 ∧ f 2 = .inl x.2.2
  | .branch p a g, E, i, r => if p = 0 then (∃ q, E i = .inr (.inr (some q)) ∧ FR w Z a (fun _ => .inl 0) 0 q ∧ FR w Z g E (i + 1) 0) else if (Fo.lab a).1 = 1 then (Z r ∧ ∃ f q, w r = some (.inr (7, f)) ∧ f 0 = .inr (.inr (some q)) ∧ FR w Z g (fun _ => .inl 0) 0 q) else if (Fo.lab a).1 < 4 then (Z r ∧ ∃ f q, w r = some (.inr (8, f)) ∧ f 0 = .inr (.inr (some q)) ∧ f 1 = .inl (Fo.lab a).2.1 ∧ f 2 = .inl (b2i (decide ((Fo.lab a).1 = 2))) ∧ FR w Z g (fun _ => .inl 0) 0 q) else (Z r ∧ ∃ f la e c E', w r = some (.inr (9, f)) ∧ f 0 = .inr (.inr (some la)) ∧ f 1 = .inl (if (Fo.lab a).1 = 4 then 38 else 124) ∧ (Z la ∧ Z e) ∧ CL_ w la e c E' (Fo.len g) ∧ FR w Z g E' 0 0)
section FRL
variable {w w' : Hp} {Z Z' : Nat → Prop} {E : Int → V} {i : Int} {r : Nat}
theorem FR_atom {q k m n : Int} (h : Fo.okA q k m n) : FR w Z (Fo.atom k m n) E i r ↔ Z r ∧ ∃ f, w r = some (.inr (5, f)) ∧ f 0 = .inl (Fo.sgA k) ∧ f 1 = .inl m ∧ f 2 = .inl n := by
  have := okA_r h
  show (if k = 0 then True else _) ↔ _
  rw [if_neg (by omega)]
theorem FR_not {g : Fo} : FR w Z (Fo.not g) E i r ↔ Z r ∧ ∃ f q, w r = some (.inr (7, f)) ∧ f 0 = .inr (.inr (some q)) ∧ FR w Z g (fun _ => .inl 0) 0 q := Iff.rfl
theorem FR_each {g : Fo} {a : Bool} {m : Int} : FR w Z (Fo.each a m g) E i r ↔ Z r ∧ ∃ f q, w r = some (.inr (8, f)) ∧ f 0 = .inr (.inr (some q)) ∧ f 1 = .inl m ∧ f 2 = .inl (b2i a) ∧ FR w Z g (fun _ => .inl 0) 0 q := by cases a <;> exact Iff.rfl
theorem FR_many {g : Fo} {a : Bool} : FR w Z (Fo.many a g) E i r ↔ Z r ∧ ∃ f la e c E', w r = some (.inr (9, f)) ∧ f 0 = .inr (.inr (some la)) ∧ f 1 = .inl (Fo.sgM a) ∧ (Z la ∧ Z e) ∧ CL_ w la e c E' (Fo.len g) ∧ FR w Z g E' 0 0 := by cases a <;> exact Iff.rfl
theorem FR_nil : FR w Z Fo.nil E i r := trivial
theorem FR_cons {g t : Fo} : FR w Z (Fo.cons g t) E i r ↔ ∃ q, E i = .inr (.inr (some q)) ∧ FR w Z g (fun _ => .inl 0) 0 q ∧ FR w Z t E (i + 1) 0 := Iff.rfl
theorem CL_.fr {la e c n : Nat} (h : CL_ w la e c E n) (h1 : w' la = w la) (h2 : w' e = w e) : CL_ w' la e c E n := by
  obtain ⟨G, g1, g2, g3, g4, g5, g6, g7⟩ := h
  exact ⟨G, h1.trans g1, g2, g3, g4, h2.trans g5, g6, g7⟩
end FRL
theorem FR.mono {w w' : Hp} {Z Z' : Nat → Prop} (hZ : ∀ a, Z a → Z' a ∧ w' a = w a) {f : Fo} {b : Bool} {q : Int} (hf : Fo.wf f b q) : ∀ (E : Int → V) (i : Int) (r : Nat), FR w Z f E i r → FR w' Z' f E i r := by
  induction f, b, q, hf using wf_ind with
  | atom k m n q h =>
    intro E i r
    rw [FR_atom h, FR_atom h]
    rintro ⟨h1, f, h2, h3⟩
    exact ⟨(hZ r h1).1, f, (hZ r h1).2.trans h2, h3⟩
  | not f q h ih =>
    intro E i r
    rw [FR_not, FR_not]
    rintro ⟨h1, f, p, h2, h3, h4⟩
    exact ⟨(hZ r h1).1, f, p, (hZ r h1).2.trans h2, h3, ih _ _ _ h4⟩
  | each a f q hq h ih =>
    intro E i r
    rw [FR_each, FR_each]
    rintro ⟨h1, f, p, h2, h3, h4, h5, h6⟩
    exact ⟨(hZ r h1).1, f, p, (hZ r h1).2.trans h2, h3, h4, h5, ih _ _ _ h6⟩
  | many a l q h2 h ih =>
    intro E i r
    rw [FR_many, FR_many]
    rintro ⟨h1, f, la, e, c, E', h3, h4, h5, ⟨h6, h7⟩, h8, h9⟩
    exact ⟨(hZ r h1).1, f, la, e, c, E', (hZ r h1).2.trans h3, h4, h5, ⟨(hZ la h6).1, (hZ e h7).1⟩, h8.fr (hZ la h6).2 (hZ e h7).2, ih _ _ _ h9⟩
  | nil q => intro E i r _; exact FR_nil
  | cons g t q h1 h2 i1 i2 =>
    intro E i r
    rw [FR_cons, FR_cons]
    rintro ⟨p, h3, h4, h5⟩
    exact ⟨p, h3, i1 _ _ _ h4, i2 _ _ _ h5⟩
/-- rows of parts: what is asked of E is asked of the places from i on -/
theorem FR.congr {w : Hp} {Z : Nat → Prop} {f : Fo} {q : Int} (hf : Fo.wf f true q) : ∀ (E E' : Int → V) (i : Int) (r r' : Nat), (∀ j : Int, i ≤ j → j < i + Fo.len f → E' j = E j) → FR w Z f E i r → FR w Z f E' i r' := by
  have key : ∀ (f : Fo) (b : Bool) (q : Int), Fo.wf f b q → b = true → ∀ (E E' : Int → V) (i : Int) (r r' : Nat), (∀ j : Int, i ≤ j → j < i + Fo.len f → E' j = E j) → FR w Z f E i r → FR w Z f E' i r' := by
    intro f b q h
    induction f, b, q, h using wf_ind with
    | atom k m n q h => intro hb; cases hb
    | not f q h ih => intro hb; cases hb
    | each a f q hq h ih => intro hb; cases hb
    | many a l q h2 h ih => intro hb; cases hb
    | nil q => intro _ E E' i r r' _ _; exact FR_nil
    | cons g t q h1 h2 i1 i2 =>
      intro _ E E' i r r' hE
      rw [len_cons] at hE
      rw [FR_cons, FR_cons]
      rintro ⟨p, h3, h4, h5⟩
      exact ⟨p, by rw [hE i (by omega) (by omega)]; exact h3, h4, i2 rfl _ _ _ _ _ (fun j j1 j2 => hE j (by omega) (by omega)) h5⟩
  exact key f true q hf rfl
