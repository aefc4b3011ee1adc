/-! ===== formulas, plain ===== -/
set_option maxRecDepth 100000
/-- formulas, and rows of parts: a leaf is an atom (or an empty row), a branch 0 is a row, a branch 1 a node over its part -/
abbrev Fo : Type := Lean.RArray (Int × Int × Int)
abbrev Nd : Type := Int × Int × Int
def Fo.lab : Fo → Nd
  | .leaf x => x
  | .branch _ _ _ => (0, 0, 0)
def Fo.atom (k m n : Int) : Fo := .leaf (k, m, n)
def Fo.nil : Fo := .leaf (0, 0, 0)
def Fo.cons (h t : Fo) : Fo := .branch 0 h t
def Fo.node (k m : Int) (f : Fo) : Fo := .branch 1 (.leaf (k, m, 0)) f
def kdQ (a : Bool) : Int := if a then 2 else 3
def kdM (a : Bool) : Int := if a then 4 else 5
def Fo.not (f : Fo) : Fo := Fo.node 1 0 f
def Fo.each (a : Bool) (m : Int) (f : Fo) : Fo := Fo.node (kdQ a) m f
def Fo.many (a : Bool) (l : Fo) : Fo := Fo.node (kdM a) 0 l
def Fo.len : Fo → Nat
  | .leaf _ => 0
  | .branch p _ b => if p = 0 then Fo.len b + 1 else 0
/-- how many nodes -/
def Fo.sz : Fo → Nat
  | .leaf x => if x.1 = 0 then 0 else 1
  | .branch p a b => if p = 0 then Fo.sz a + Fo.sz b else Fo.sz b + 1
/-- how high -/
def Fo.ht : Fo → Nat
  | .leaf _ => 0
  | .branch p a b => if p = 0 then max (Fo.ht a) (Fo.ht b) else Fo.ht b + 1
/-- an atom with variables 1 .. q -/
def Fo.okA (q k m n : Int) : Prop := ((k = 10 ∨ k = 11) ∧ m = 0 ∧ n = 0) ∨ ((k = 6 ∨ k = 7) ∧ (1 ≤ m ∧ m ≤ q) ∧ n = 0) ∨ ((k = 8 ∨ k = 9) ∧ (1 ≤ m ∧ m ≤ q) ∧ 1 ≤ n ∧ n ≤ q)
/-- well made: a formula (false) or a row (true) within q quantifiers -/
def Fo.wf : Fo → Bool → Int → Prop
  | .leaf x, b, q => (b = true ∧ x = (0, 0, 0)) ∨ (b = false ∧ Fo.okA q x.1 x.2.1 x.2.2)
  | .branch p a f, b, q => (p = 0 ∧ b = true ∧ Fo.wf a false q ∧ Fo.wf f true q) ∨ (p = 1 ∧ b = false ∧ ((a = .leaf (1, 0, 0) ∧ Fo.wf f false q) ∨ (∃ c, a = .leaf (kdQ c, q + 1, 0) ∧ (0 ≤ q ∧ q < 8) ∧ Fo.wf f false (q + 1)) ∨ ∃ c, a = .leaf (kdM c, 0, 0) ∧ 2 ≤ Fo.len f ∧ Fo.wf f true q))
/-- the number of a variable, from 0 on -/
def rvN (m : Int) : Int := if m = 0 then 0 else m - 1
def Fo.flat : Fo → List Nd
  | .leaf x => if x.1 = 0 then [] else [(x.1, rvN x.2.1, rvN x.2.2)]
  | .branch p a f => if p = 0 then Fo.flat a ++ Fo.flat f else ((Fo.lab a).1, (if 4 ≤ (Fo.lab a).1 then (Fo.len f : Int) else rvN (Fo.lab a).2.1), 0) :: Fo.flat f
theorem wf_atom {k m n q : Int} (h : Fo.okA q k m n) : Fo.wf (Fo.atom k m n) false q := Or.inr ⟨rfl, h⟩
theorem wf_nil {q : Int} : Fo.wf Fo.nil true q := Or.inl ⟨rfl, rfl⟩
theorem wf_cons {g t : Fo} {q : Int} (h1 : Fo.wf g false q) (h2 : Fo.wf t true q) : Fo.wf (Fo.cons g t) true q := Or.inl ⟨rfl, rfl, h1, h2⟩
theorem wf_not {f : Fo} {q : Int} (h : Fo.wf f false q) : Fo.wf (Fo.not f) false q := Or.inr ⟨rfl, rfl, Or.inl ⟨rfl, h⟩⟩
theorem wf_each {f : Fo} {a : Bool} {q : Int} (hq : 0 ≤ q ∧ q < 8) (h : Fo.wf f false (q + 1)) : Fo.wf (Fo.each a (q + 1) f) false q := Or.inr ⟨rfl, rfl, Or.inr (Or.inl ⟨a, rfl, hq, h⟩)⟩
theorem wf_many {l : Fo} {a : Bool} {q : Int} (h2 : 2 ≤ Fo.len l) (h : Fo.wf l true q) : Fo.wf (Fo.many a l) false q := Or.inr ⟨rfl, rfl, Or.inr (Or.inr ⟨a, rfl, h2, h⟩)⟩
theorem wf_ind {P : ∀ (f : Fo) (b : Bool) (q : Int), Fo.wf f b q → Prop} (atom : ∀ k m n q (h : Fo.okA q k m n), P (Fo.atom k m n) false q (wf_atom h)) (not : ∀ f q (h : Fo.wf f false q), P f false q h → P (Fo.not f) false q (wf_not h)) (each : ∀ a f q (hq : 0 ≤ q ∧ q < 8) (h : Fo.wf f false (q + 1)), P f false (q + 1) h → P (Fo.each a (q + 1) f) false q (wf_each hq h)) (many : ∀ a l q (h2 : 2 ≤ Fo.len l) (h : Fo.wf l true q), P l true q h → P (Fo.many a l) false q (wf_many h2 h)) (nil : ∀ q, P Fo.nil true q wf_nil) (cons : ∀ g t q (h1 : Fo.wf g false q) (h2 : Fo.wf t true q), P g false q h1 → P t true q h2 → P (Fo.cons g t) true q (wf_cons h1 h2)) : ∀ (f : Fo) (b : Bool) (q : Int) (h : Fo.wf f b q), P f b q h
  | .leaf x, b, q, h => by
    rcases h with ⟨rfl, rfl⟩ | ⟨rfl, h⟩
    · exact nil q
    · exact atom x.1 x.2.1 x.2.2 q h
  | .branch p a f, b, q, h => by
    rcases h with ⟨rfl, rfl, h1, h2⟩ | ⟨rfl, rfl, ⟨rfl, h⟩ | ⟨c, rfl, h0, h⟩ | ⟨c, rfl, h0, h⟩⟩
    · exact cons a f q h1 h2 (wf_ind atom not each many nil cons a false q h1) (wf_ind atom not each many nil cons f true q h2)
    · exact not f q h (wf_ind atom not each many nil cons f false q h)
    · exact each c f q h0 h (wf_ind atom not each many nil cons f false (q + 1) h)
    · exact many c f q h0 h (wf_ind atom not each many nil cons f true q h)
/-- what a formula is -/
theorem wf_f {f : Fo} {q : Int} (h : Fo.wf f false q) : (∃ k m n, f = Fo.atom k m n ∧ Fo.okA q k m n) ∨ (∃ g, f = Fo.not g ∧ Fo.wf g false q) ∨ (∃ a g, f = Fo.each a (q + 1) g ∧ (0 ≤ q ∧ q < 8) ∧ Fo.wf g false (q + 1)) ∨ ∃ a l, f = Fo.many a l ∧ 2 ≤ Fo.len l ∧ Fo.wf l true q := by
  cases f with
  | leaf x =>
    rcases h with ⟨h, -⟩ | ⟨-, h⟩
    · cases h
    · exact Or.inl ⟨x.1, x.2.1, x.2.2, rfl, h⟩
  | branch p a f =>
    rcases h with ⟨rfl, h, -⟩ | ⟨rfl, -, ⟨rfl, h⟩ | ⟨c, rfl, h0, h⟩ | ⟨c, rfl, h0, h⟩⟩
    · cases h
    · exact Or.inr (Or.inl ⟨f, rfl, h⟩)
    · exact Or.inr (Or.inr (Or.inl ⟨c, f, rfl, h0, h⟩))
    · exact Or.inr (Or.inr (Or.inr ⟨c, f, rfl, h0, h⟩))
/-- what a row is -/
theorem wf_r {f : Fo} {q : Int} (h : Fo.wf f true q) : f = Fo.nil ∨ ∃ g t, f = Fo.cons g t ∧ Fo.wf g false q ∧ Fo.wf t true q := by
  cases f with
  | leaf x =>
    rcases h with ⟨-, h⟩ | ⟨h, -⟩
    · subst h; exact Or.inl rfl
    · cases h
  | branch p a f =>
    rcases h with ⟨rfl, h, h1, h2⟩ | ⟨rfl, h, -⟩
    · exact Or.inr ⟨a, f, rfl, h1, h2⟩
    · cases h
theorem kdQ_r (a : Bool) : kdQ a = 2 ∨ kdQ a = 3 := by cases a <;> simp [kdQ]
theorem kdM_r (a : Bool) : kdM a = 4 ∨ kdM a = 5 := by cases a <;> simp [kdM]
theorem kdQ_i {a b : Bool} (h : kdQ a = kdQ b) : a = b := by cases a <;> cases b <;> simp [kdQ] at h ⊢
theorem kdM_i {a b : Bool} (h : kdM a = kdM b) : a = b := by cases a <;> cases b <;> simp [kdM] at h ⊢
theorem okA_r {q k m n : Int} (h : Fo.okA q k m n) : 6 ≤ k ∧ k ≤ 11 := by unfold Fo.okA at h; omega
/-! their lengths -/
theorem len_nil : Fo.len Fo.nil = 0 := rfl
theorem len_cons {g t : Fo} : Fo.len (Fo.cons g t) = Fo.len t + 1 := rfl
theorem sz_atom {q k m n : Int} (h : Fo.okA q k m n) : Fo.sz (Fo.atom k m n) = 1 := by
  have := okA_r h
  show (if k = 0 then 0 else 1) = 1
  rw [if_neg (by omega)]
theorem sz_not {f : Fo} : Fo.sz (Fo.not f) = Fo.sz f + 1 := rfl
theorem sz_each {f : Fo} {a : Bool} {m : Int} : Fo.sz (Fo.each a m f) = Fo.sz f + 1 := rfl
theorem sz_many {f : Fo} {a : Bool} : Fo.sz (Fo.many a f) = Fo.sz f + 1 := rfl
theorem sz_nil : Fo.sz Fo.nil = 0 := rfl
theorem sz_cons {g t : Fo} : Fo.sz (Fo.cons g t) = Fo.sz g + Fo.sz t := rfl
theorem ht_atom {k m n : Int} : Fo.ht (Fo.atom k m n) = 0 := rfl
theorem ht_not {f : Fo} : Fo.ht (Fo.not f) = Fo.ht f + 1 := rfl
theorem ht_each {f : Fo} {a : Bool} {m : Int} : Fo.ht (Fo.each a m f) = Fo.ht f + 1 := rfl
theorem ht_many {f : Fo} {a : Bool} : Fo.ht (Fo.many a f) = Fo.ht f + 1 := rfl
theorem ht_nil : Fo.ht Fo.nil = 0 := rfl
theorem ht_cons {g t : Fo} : Fo.ht (Fo.cons g t) = max (Fo.ht g) (Fo.ht t) := rfl
theorem flat_atom {q k m n : Int} (h : Fo.okA q k m n) : Fo.flat (Fo.atom k m n) = [(k, rvN m, rvN n)] := by
  have := okA_r h
  show (if k = 0 then [] else [(k, rvN m, rvN n)]) = _
  rw [if_neg (by omega)]
theorem flat_not {f : Fo} : Fo.flat (Fo.not f) = (1, 0, 0) :: Fo.flat f := rfl
theorem flat_each {f : Fo} {a : Bool} {m : Int} : Fo.flat (Fo.each a m f) = (kdQ a, rvN m, 0) :: Fo.flat f := by cases a <;> rfl
theorem flat_many {f : Fo} {a : Bool} : Fo.flat (Fo.many a f) = (kdM a, (Fo.len f : Int), 0) :: Fo.flat f := by cases a <;> rfl
theorem flat_nil : Fo.flat Fo.nil = [] := rfl
theorem flat_cons {g t : Fo} : Fo.flat (Fo.cons g t) = Fo.flat g ++ Fo.flat t := rfl
theorem flat_len {f : Fo} {b : Bool} {q : Int} (h : Fo.wf f b q) : (Fo.flat f).length = Fo.sz f := by
  induction f, b, q, h using wf_ind with
  | atom k m n q h => rw [flat_atom h, sz_atom h]; rfl
  | not f q h ih => simp [flat_not, sz_not, ih]
  | each a f q hq h ih => simp [flat_each, sz_each, ih]
  | many a l q h2 h ih => simp [flat_many, sz_many, ih]
  | nil q => rfl
  | cons g t q h1 h2 i1 i2 => simp [flat_cons, sz_cons, i1, i2]
theorem sz_pos {f : Fo} {q : Int} (h : Fo.wf f false q) : 1 ≤ Fo.sz f := by
  rcases wf_f h with ⟨k, m, n, rfl, h3⟩ | ⟨g, rfl, h3⟩ | ⟨a, g, rfl, hq, h3⟩ | ⟨a, l, rfl, h2, h3⟩
  · rw [sz_atom h3]; omega
  · rw [sz_not]; omega
  · rw [sz_each]; omega
  · rw [sz_many]; omega
theorem okA_i {q q' k m n m' n' : Int} (h : Fo.okA q k m n) (h' : Fo.okA q' k m' n') (h1 : rvN m = rvN m') (h2 : rvN n = rvN n') : m = m' ∧ n = n' := by
  unfold Fo.okA at h h'
  unfold rvN at h1 h2
  split at h1 <;> split at h1 <;> split at h2 <;> split at h2 <;> omega
theorem rvN_s {q q' : Int} (h : 0 ≤ q) (h' : 0 ≤ q') (e : rvN (q + 1) = rvN (q' + 1)) : q = q' := by
  unfold rvN at e
  rw [if_neg (by omega), if_neg (by omega)] at e
  omega
/-- flat codes can be read in one way alone -/
theorem flat_inj {f : Fo} {b : Bool} {q : Int} (h : Fo.wf f b q) : ∀ (q' : Int) (f' : Fo) (x y : List Nd), Fo.wf f' b q' → (b = true → Fo.len f = Fo.len f') → Fo.flat f ++ x = Fo.flat f' ++ y → f = f' ∧ x = y := by
  induction f, b, q, h using wf_ind with
  | atom k m n q h =>
    intro q' f' x y hw' _ e
    have hr := okA_r h
    rcases wf_f hw' with ⟨k', m', n', rfl, h'⟩ | ⟨g, rfl, h'⟩ | ⟨a, g, rfl, hq, h'⟩ | ⟨a, l, rfl, h2, h'⟩
    · rw [flat_atom h, flat_atom h'] at e
      simp only [List.singleton_append, List.cons.injEq, Prod.mk.injEq] at e
      obtain ⟨⟨rfl, e1, e2⟩, e3⟩ := e
      obtain ⟨rfl, rfl⟩ := okA_i h h' e1 e2
      exact ⟨rfl, e3⟩
    · simp only [flat_atom h, flat_not, List.cons_append, List.cons.injEq, Prod.mk.injEq] at e; omega
    · simp only [flat_atom h, flat_each, List.cons_append, List.cons.injEq, Prod.mk.injEq] at e; have := kdQ_r a; omega
    · simp only [flat_atom h, flat_many, List.cons_append, List.cons.injEq, Prod.mk.injEq] at e; have := kdM_r a; omega
  | not f q h ih =>
    intro q' f' x y hw' _ e
    rcases wf_f hw' with ⟨k', m', n', rfl, h'⟩ | ⟨g, rfl, h'⟩ | ⟨a, g, rfl, hq, h'⟩ | ⟨a, l, rfl, h2, h'⟩
    · have := okA_r h'; simp only [flat_atom h', flat_not, List.cons_append, List.cons.injEq, Prod.mk.injEq] at e; omega
    · simp only [flat_not, List.cons_append, List.cons.injEq, true_and] at e
      obtain ⟨rfl, e2⟩ := ih q' g x y h' (fun z => by cases z) e
      exact ⟨rfl, e2⟩
    · simp only [flat_not, flat_each, List.cons_append, List.cons.injEq, Prod.mk.injEq] at e; have := kdQ_r a; omega
    · simp only [flat_not, flat_many, List.cons_append, List.cons.injEq, Prod.mk.injEq] at e; have := kdM_r a; omega
  | each c f q hq h ih =>
    intro q' f' x y hw' _ e
    have hr := kdQ_r c
    rcases wf_f hw' with ⟨k', m', n', rfl, h'⟩ | ⟨g, rfl, h'⟩ | ⟨a, g, rfl, hq', h'⟩ | ⟨a, l, rfl, h2, h'⟩
    · have := okA_r h'; simp only [flat_atom h', flat_each, List.cons_append, List.cons.injEq, Prod.mk.injEq] at e; omega
    · simp only [flat_each, flat_not, List.cons_append, List.cons.injEq, Prod.mk.injEq] at e; omega
    · simp only [flat_each, List.cons_append, List.cons.injEq, Prod.mk.injEq] at e
      obtain ⟨⟨e1, e2, -⟩, e3⟩ := e
      have := kdQ_i e1
      subst this
      have := rvN_s hq.1 hq'.1 e2
      subst this
      obtain ⟨rfl, e4⟩ := ih _ g x y h' (fun z => by cases z) e3
      exact ⟨rfl, e4⟩
    · simp only [flat_each, flat_many, List.cons_append, List.cons.injEq, Prod.mk.injEq] at e; have := kdM_r a; omega
  | many c l q h2 h ih =>
    intro q' f' x y hw' _ e
    have hr := kdM_r c
    rcases wf_f hw' with ⟨k', m', n', rfl, h'⟩ | ⟨g, rfl, h'⟩ | ⟨a, g, rfl, hq', h'⟩ | ⟨a, l', rfl, h2', h'⟩
    · have := okA_r h'; simp only [flat_atom h', flat_many, List.cons_append, List.cons.injEq, Prod.mk.injEq] at e; omega
    · simp only [flat_many, flat_not, List.cons_append, List.cons.injEq, Prod.mk.injEq] at e; omega
    · simp only [flat_many, flat_each, List.cons_append, List.cons.injEq, Prod.mk.injEq] at e; have := kdQ_r a; omega
    · simp only [flat_many, List.cons_append, List.cons.injEq, Prod.mk.injEq] at e
      obtain ⟨⟨e1, e2, -⟩, e3⟩ := e
      have := kdM_i e1
      subst this
      obtain ⟨rfl, e4⟩ := ih _ l' x y h' (fun _ => by omega) e3
      exact ⟨rfl, e4⟩
  | nil q =>
    intro q' f' x y hw' hl e
    rcases wf_r hw' with rfl | ⟨g, t, rfl, h1, h2⟩
    · exact ⟨rfl, e⟩
    · have := hl rfl; rw [len_cons, len_nil] at this; omega
  | cons g t q h1 h2 i1 i2 =>
    intro q' f' x y hw' hl e
    rcases wf_r hw' with rfl | ⟨g', t', rfl, h1', h2'⟩
    · have := hl rfl; rw [len_cons, len_nil] at this; omega
    · have := hl rfl
      rw [len_cons, len_cons] at this
      rw [flat_cons, flat_cons, List.append_assoc, List.append_assoc] at e
      obtain ⟨rfl, e2⟩ := i1 _ g' _ _ h1' (fun z => by cases z) e
      obtain ⟨rfl, e3⟩ := i2 _ t' _ _ h2' (fun _ => by omega) e2
      exact ⟨rfl, e3⟩
/-! texts -/
def Fo.sgA (k : Int) : Int := if k = 6 then 65 else if k = 7 then 66 else if k = 8 then 69 else if k = 9 then 61 else if k = 10 then 84 else 70
def Fo.sgM (a : Bool) : Int := if a then 38 else 124
def Fo.sgQ (a : Bool) : Int := if a then 64 else 63
def vrT (m : Int) : List Int := if 0 < m then [96 + m] else []
/-- as a part of another one; a row with its sign between -/
def Fo.tx : Fo → Int → List Int
  | .leaf x, _ => if x.1 = 0 then [] else Fo.sgA x.1 :: (vrT x.2.1 ++ vrT x.2.2)
  | .branch p a f, s => if p = 0 then Fo.tx a 0 ++ (if Fo.len f = 0 then [] else s :: Fo.tx f s) else if (Fo.lab a).1 = 1 then 45 :: Fo.tx f 0 else if (Fo.lab a).1 < 4 then (if (Fo.lab a).1 = 2 then 64 else 63) :: (96 + (Fo.lab a).2.1) :: Fo.tx f 0 else 40 :: (Fo.tx f (if (Fo.lab a).1 = 4 then 38 else 124) ++ [41])
theorem tx_atom {q k m n s : Int} (h : Fo.okA q k m n) : Fo.tx (Fo.atom k m n) s = Fo.sgA k :: (vrT m ++ vrT n) := by
  have := okA_r h
  show (if k = 0 then [] else _) = _
  rw [if_neg (by omega)]
theorem tx_not {f : Fo} {s : Int} : Fo.tx (Fo.not f) s = 45 :: Fo.tx f 0 := rfl
theorem tx_each {f : Fo} {a : Bool} {m s : Int} : Fo.tx (Fo.each a m f) s = Fo.sgQ a :: (96 + m) :: Fo.tx f 0 := by cases a <;> rfl
theorem tx_many {l : Fo} {a : Bool} {s : Int} : Fo.tx (Fo.many a l) s = 40 :: (Fo.tx l (Fo.sgM a) ++ [41]) := by cases a <;> rfl
theorem tx_nil {s : Int} : Fo.tx Fo.nil s = [] := rfl
theorem tx_cons {g t : Fo} {s : Int} : Fo.tx (Fo.cons g t) s = Fo.tx g 0 ++ (if Fo.len t = 0 then [] else s :: Fo.tx t s) := rfl
/-- as a whole -/
def Fo.text : Fo → List Int
  | .leaf x => Fo.tx (.leaf x) 0
  | .branch p a f => if p = 1 ∧ 4 ≤ (Fo.lab a).1 then Fo.tx f (if (Fo.lab a).1 = 4 then 38 else 124) else Fo.tx (.branch p a f) 0
theorem text_atom {k m n : Int} : Fo.text (Fo.atom k m n) = Fo.tx (Fo.atom k m n) 0 := rfl
theorem text_not {f : Fo} : Fo.text (Fo.not f) = Fo.tx (Fo.not f) 0 := rfl
theorem text_each {f : Fo} {a : Bool} {m : Int} : Fo.text (Fo.each a m f) = Fo.tx (Fo.each a m f) 0 := by cases a <;> rfl
theorem text_many {l : Fo} {a : Bool} : Fo.text (Fo.many a l) = Fo.tx l (Fo.sgM a) := by cases a <;> rfl
theorem sgA_i {k k' : Int} (h : 6 ≤ k ∧ k ≤ 11) (h' : 6 ≤ k' ∧ k' ≤ 11) (e : Fo.sgA k = Fo.sgA k') : k = k' := by
  unfold Fo.sgA at e
  repeat' split at e
  all_goals omega
theorem sgA_r {k : Int} : Fo.sgA k = 65 ∨ Fo.sgA k = 66 ∨ Fo.sgA k = 69 ∨ Fo.sgA k = 61 ∨ Fo.sgA k = 84 ∨ Fo.sgA k = 70 := by
  unfold Fo.sgA
  repeat' split
  all_goals omega
theorem sgQ_r (a : Bool) : Fo.sgQ a = 64 ∨ Fo.sgQ a = 63 := by cases a <;> simp [Fo.sgQ]
theorem sgM_r (a : Bool) : Fo.sgM a = 38 ∨ Fo.sgM a = 124 := by cases a <;> simp [Fo.sgM]
theorem sgQ_i {a b : Bool} (h : Fo.sgQ a = Fo.sgQ b) : a = b := by cases a <;> cases b <;> simp [Fo.sgQ] at h ⊢
theorem sgM_i {a b : Bool} (h : Fo.sgM a = Fo.sgM b) : a = b := by cases a <;> cases b <;> simp [Fo.sgM] at h ⊢
theorem vrT_i {q m n m' n' k : Int} {q' : Int} {x y : List Int} (h : Fo.okA q k m n) (h' : Fo.okA q' k m' n') (e : vrT m ++ vrT n ++ x = vrT m' ++ vrT n' ++ y) : m = m' ∧ n = n' ∧ x = y := by
  unfold Fo.okA at h h'
  unfold vrT at e
  rcases h with ⟨h0, rfl, rfl⟩ | ⟨h0, h1, rfl⟩ | ⟨h0, h1, h2⟩
  · rcases h' with ⟨g0, rfl, rfl⟩ | ⟨g0, g1, rfl⟩ | ⟨g0, g1, g2⟩
    · simpa using e
    · omega
    · omega
  · rcases h' with ⟨g0, rfl, rfl⟩ | ⟨g0, g1, rfl⟩ | ⟨g0, g1, g2⟩
    · omega
    · have hm : 0 < m := by omega
      have hm' : 0 < m' := by omega
      simp [hm, hm'] at e
      exact ⟨by omega, rfl, e.2⟩
    · omega
  · rcases h' with ⟨g0, rfl, rfl⟩ | ⟨g0, g1, rfl⟩ | ⟨g0, g1, g2⟩
    · omega
    · omega
    · rw [if_pos (by omega), if_pos (by omega), if_pos (by omega), if_pos (by omega)] at e
      simp at e
      exact ⟨by omega, by omega, e.2.2⟩
/-- the text behind does not go on with a sign -/
def noSg (x : List Int) : Prop := ∀ c r, x = c :: r → c ≠ 38 ∧ c ≠ 124
theorem len_0 {t : Fo} {q : Int} (h : Fo.wf t true q) (h0 : Fo.len t = 0) : t = Fo.nil := by
  rcases wf_r h with rfl | ⟨g, t', rfl, h1, h2⟩
  · rfl
  · rw [len_cons] at h0; omega
theorem tx_inj {f : Fo} {b : Bool} {q : Int} (h : Fo.wf f b q) : ∀ (s s' q' : Int) (f' : Fo) (x y : List Int), Fo.wf f' b q' → (b = true → noSg x ∧ noSg y ∧ 1 ≤ Fo.len f ∧ 1 ≤ Fo.len f' ∧ (s = 38 ∨ s = 124) ∧ (s' = 38 ∨ s' = 124)) → Fo.tx f s ++ x = Fo.tx f' s' ++ y → f = f' ∧ x = y ∧ (b = true → 2 ≤ Fo.len f → s = s') := by
  induction f, b, q, h using wf_ind with
  | atom k m n q h =>
    intro s s' q' f' x y hw' _ e
    have hs := sgA_r (k := k)
    rcases wf_f hw' with ⟨k', m', n', rfl, h'⟩ | ⟨g, rfl, h'⟩ | ⟨a, g, rfl, hq', h'⟩ | ⟨a, l', rfl, h2', h'⟩
    · rw [tx_atom h, tx_atom h'] at e
      simp only [List.cons_append, List.cons.injEq] at e
      have := sgA_i (okA_r h) (okA_r h') e.1
      subst this
      obtain ⟨rfl, rfl, rfl⟩ := vrT_i h h' e.2
      exact ⟨rfl, rfl, fun z => by cases z⟩
    · simp only [tx_atom h, tx_not, List.cons_append, List.cons.injEq] at e; omega
    · simp only [tx_atom h, tx_each, List.cons_append, List.cons.injEq] at e; have := sgQ_r a; omega
    · simp only [tx_atom h, tx_many, List.cons_append, List.cons.injEq] at e; omega
  | not f q h ih =>
    intro s s' q' f' x y hw' _ e
    rcases wf_f hw' with ⟨k', m', n', rfl, h'⟩ | ⟨g, rfl, h'⟩ | ⟨a, g, rfl, hq', h'⟩ | ⟨a, l', rfl, h2', h'⟩
    · simp only [tx_atom h', tx_not, List.cons_append, List.cons.injEq] at e; have hs := sgA_r (k := k'); omega
    · simp only [tx_not, List.cons_append, List.cons.injEq, true_and] at e
      obtain ⟨rfl, e2, -⟩ := ih 0 0 q' g x y h' (fun z => by cases z) e
      exact ⟨rfl, e2, fun z => by cases z⟩
    · simp only [tx_not, tx_each, List.cons_append, List.cons.injEq] at e; have := sgQ_r a; omega
    · simp only [tx_not, tx_many, List.cons_append, List.cons.injEq] at e; omega
  | each c f q hq h ih =>
    intro s s' q' f' x y hw' _ e
    have hr := sgQ_r c
    rcases wf_f hw' with ⟨k', m', n', rfl, h'⟩ | ⟨g, rfl, h'⟩ | ⟨a, g, rfl, hq', h'⟩ | ⟨a, l', rfl, h2', h'⟩
    · simp only [tx_atom h', tx_each, List.cons_append, List.cons.injEq] at e; have hs := sgA_r (k := k'); omega
    · simp only [tx_not, tx_each, List.cons_append, List.cons.injEq] at e; omega
    · simp only [tx_each, List.cons_append, List.cons.injEq] at e
      obtain ⟨e1, e2, e3⟩ := e
      have := sgQ_i e1
      subst this
      have : q = q' := by omega
      subst this
      obtain ⟨rfl, e4, -⟩ := ih 0 0 _ g x y h' (fun z => by cases z) e3
      exact ⟨rfl, e4, fun z => by cases z⟩
    · simp only [tx_each, tx_many, List.cons_append, List.cons.injEq] at e; omega
  | many c l q h2 h ih =>
    intro s s' q' f' x y hw' _ e
    rcases wf_f hw' with ⟨k', m', n', rfl, h'⟩ | ⟨g, rfl, h'⟩ | ⟨a, g, rfl, hq', h'⟩ | ⟨a, l', rfl, h2', h'⟩
    · simp only [tx_atom h', tx_many, List.cons_append, List.cons.injEq] at e; have hs := sgA_r (k := k'); omega
    · simp only [tx_not, tx_many, List.cons_append, List.cons.injEq] at e; omega
    · simp only [tx_each, tx_many, List.cons_append, List.cons.injEq] at e; have := sgQ_r a; omega
    · simp only [tx_many, List.cons_append, List.cons.injEq, true_and, List.append_assoc] at e
      obtain ⟨rfl, e4, e5⟩ := ih (Fo.sgM c) (Fo.sgM a) _ l' _ _ h' (fun _ => ⟨fun c r z => by simp at z; omega, fun c r z => by simp at z; omega, by omega, by omega, sgM_r c, sgM_r a⟩) e
      have := sgM_i (e5 rfl h2)
      subst this
      simp at e4
      exact ⟨rfl, e4, fun z => by cases z⟩
  | nil q =>
    intro s s' q' f' x y hw' hl e
    have := (hl rfl).2.2.1
    rw [len_nil] at this
    omega
  | cons g t q hg ht i1 i2 =>
    intro s s' q' f' x y hw' hl e
    obtain ⟨n1, n2, l1, l2, s1, s2⟩ := hl rfl
    rcases wf_r hw' with rfl | ⟨g', t', rfl, hg', ht'⟩
    · rw [len_nil] at l2; omega
    · simp only [tx_cons, List.append_assoc] at e
      obtain ⟨rfl, e2, -⟩ := i1 0 0 q' g' _ _ hg' (fun z => by cases z) e
      by_cases z : Fo.len t = 0
      · by_cases z' : Fo.len t' = 0
        · have e0 := len_0 ht z
          have e0' := len_0 ht' z'
          subst e0
          subst e0'
          simp [len_nil] at e2
          exact ⟨rfl, e2, fun _ q => by rw [len_cons, len_nil] at q; omega⟩
        · simp [z, z'] at e2
          have := n1 _ _ e2
          omega
      · by_cases z' : Fo.len t' = 0
        · simp [z, z'] at e2
          have := n2 _ _ e2.symm
          omega
        · simp [z, z'] at e2
          obtain ⟨e5, e6⟩ := e2
          obtain ⟨rfl, e3, -⟩ := i2 s s' q' t' _ _ ht' (fun _ => ⟨n1, n2, by omega, by omega, s1, s2⟩) e6
          exact ⟨rfl, e3, fun _ _ => e5⟩
theorem text_inj {f f' : Fo} {q q' : Int} (h : Fo.wf f false q) (h' : Fo.wf f' false q') (e : Fo.text f = Fo.text f') : f = f' := by
  have key : ∀ (a : Bool) (l f' : Fo) (q q' : Int), 2 ≤ Fo.len l → Fo.wf l true q → Fo.wf f' false q' → Fo.tx l (Fo.sgM a) = Fo.tx f' 0 → False := by
    intro a l f' q q' h2 ho h' e
    rcases wf_r ho with rfl | ⟨g, t, rfl, hg, ht⟩
    · rw [len_nil] at h2; omega
    · simp only [tx_cons] at e
      rw [len_cons] at h2
      have e : Fo.tx g 0 ++ (if Fo.len t = 0 then [] else Fo.sgM a :: Fo.tx t (Fo.sgM a)) = Fo.tx f' 0 ++ [] := by simpa using e
      obtain ⟨rfl, e2, -⟩ := tx_inj hg 0 0 q' f' _ _ h' (fun z => by cases z) e
      rw [if_neg (by omega)] at e2
      cases e2
  have two : ∀ {f f' : Fo} {q q' : Int}, Fo.wf f false q → Fo.wf f' false q' → Fo.tx f 0 = Fo.tx f' 0 → f = f' := fun h h' e => (tx_inj h 0 0 _ _ [] [] h' (fun z => by cases z) (by simpa using e)).1
  have sp : ∀ {f : Fo} {q : Int}, Fo.wf f false q → (∃ a l, f = Fo.many a l ∧ 2 ≤ Fo.len l ∧ Fo.wf l true q) ∨ Fo.text f = Fo.tx f 0 := fun h => by
    rcases wf_f h with ⟨k', m', n', rfl, h'⟩ | ⟨g, rfl, h'⟩ | ⟨a, g, rfl, hq', h'⟩ | ⟨a, l', rfl, h2', h'⟩
    · exact Or.inr rfl
    · exact Or.inr rfl
    · exact Or.inr text_each
    · exact Or.inl ⟨a, l', rfl, h2', h'⟩
  rcases sp h with ⟨a, l, rfl, h2, ho⟩ | ef
  · rcases sp h' with ⟨a', l', rfl, h2', ho'⟩ | ef'
    · rw [text_many, text_many] at e
      obtain ⟨rfl, -, e5⟩ := tx_inj ho (Fo.sgM a) (Fo.sgM a') q' l' [] [] ho' (fun _ => ⟨fun c r z => by simp at z, fun c r z => by simp at z, by omega, by omega, sgM_r a, sgM_r a'⟩) (by simpa using e)
      rw [sgM_i (e5 rfl h2)]
    · rw [text_many, ef'] at e
      exact (key a l f' q q' h2 ho h' e).elim
  · rcases sp h' with ⟨a', l', rfl, h2', ho'⟩ | ef'
    · rw [text_many, ef] at e
      exact (key a' l' f q' q h2' ho' h e.symm).elim
    · rw [ef, ef'] at e
      exact two h h' e
theorem tx_len {f : Fo} {b : Bool} {q : Int} (h : Fo.wf f b q) : ∀ s : Int, (Fo.tx f s).length + (if b = true then 0 else 1) ≤ 4 * Fo.sz f := by
  induction f, b, q, h using wf_ind with
  | atom k m n q h =>
    intro s
    rw [tx_atom h, sz_atom h]
    simp only [List.length_cons, List.length_append]
    unfold vrT
    repeat' split
    all_goals simp
  | not f q h ih => intro s; have := ih 0; simp [tx_not, sz_not] at this ⊢; omega
  | each a f q hq h ih => intro s; have := ih 0; simp [tx_each, sz_each] at this ⊢; omega
  | many a l q h2 h ih => intro s; have := ih (Fo.sgM a); simp [tx_many, sz_many] at this ⊢; omega
  | nil q => intro s; simp [tx_nil, sz_nil]
  | cons g t q h1 h2 i1 i2 =>
    intro s
    have j1 := i1 0
    have j2 := i2 s
    simp [tx_cons, sz_cons] at j1 j2 ⊢
    split <;> simp <;> omega
