/-! ===== THE LAYER: abstract heaps (address to cell), ints as Int, one judgement G that carries the whole state of a walk ===== -/
set_option maxRecDepth 100000
def vI (z : Int) : Value := .int (Int32.ofInt z)
def vL (z : Int) : Value := .long (Int64.ofInt z)
/-- a cell: an array (number of its kind, length, contents) or an object (number of its class in CL, its fields) -/
abbrev En : Type := (Nat × Nat × (Int → Value)) ⊕ (Nat × (Nat → Value))
abbrev Hw : Type := Nat → Option En
/-- what is fixed all through a run: class numbers and slots; the array classes; addresses: 0 ArrayList's empty array, 1 2 the two texts, 3 the Class object of Object[] -/
abbrev Dl : Type := va_G × (Nat → ClassId) × (Nat → Nat)
def lf (l : List Value) (k : Nat) : Value := l.getD k .null
def fup {α : Type} (f : Nat → α) (k : Nat) (v : α) : Nat → α := fun j => if j = k then v else f j
def iup {α : Type} (f : Int → α) (k : Int) (v : α) : Int → α := fun j => if j = k then v else f j
def wup {E : Type} (w : Nat → Option E) (a : Nat) (e : E) : Nat → Option E := fun b => if b = a then some e else w b
theorem iup_s {α : Type} {f : Int → α} {k : Int} {v : α} : iup f k v k = v := if_pos rfl
theorem iup_n {α : Type} {f : Int → α} {k j : Int} {v : α} (h : j ≠ k) : iup f k v j = f j := if_neg h
theorem wup_s {E : Type} {w : Nat → Option E} {a : Nat} {e : E} : wup w a e a = some e := if_pos rfl
theorem wup_n {E : Type} {w : Nat → Option E} {a b : Nat} {e : E} (h : b ≠ a) : wup w a e b = w b := if_neg h
theorem fup_lf {l : List Value} {k : Nat} (v : Value) (h : k < l.length) : fup (lf l) k v = lf (l.set k v) := by
  funext j
  unfold fup lf
  by_cases hj : j = k
  · subst hj
    rw [if_pos rfl]
    simp [List.getD_eq_getElem?_getD, h]
  · rw [if_neg hj]
    have hk : k ≠ j := fun q => hj q.symm
    simp [List.getD_eq_getElem?_getD, List.getElem?_set, hk]
abbrev CL : List vw_C := [(RX0, TX0, 13), (RX1, TX1, 64), (RX2, TX2, 3), (RX3, TX3, 3), (RX4, TX4, 6), (RX6, TX6, 3), (RX7, TX7, 7), (RX8, TX8, 1), (RX9, TX9, 3), (RX10, TX10, 2), (RX11, TX11, 4), (RX12, TX12, 2), (RX13, TX13, 3), (RX14, TX14, 6), (RX16, TX16, 8), (RX17, TX17, 8), (RJ2, TJ2, 3)]
def ATs (f : Nat → ClassId) : List (ClassId × FieldType) := [(f 0, .int), (f 1, .byte), (f 2, .boolean), (f 3, .long), (f 4, .object RX2), (f 5, .object "java/lang/Object")]
def hat (δ : Dl) (a : Nat) (e : En) (H : Heap) : Prop := match e with
  | .inl q => H[a]? = some (arrV (δ.2.1 q.1) q.2.1 (fun j => q.2.2 (j : Int)))
  | .inr q => ∃ r : vw_C, CL[q.1]? = some r ∧ t_OB a (δ.1.1 q.1) r.2.2 (δ.1.2 q.1) H q.2
def HR (δ : Dl) (w : Hw) (H : Heap) : Prop := ∀ (a : Nat) (e : En), w a = some e → hat δ a e H
theorem hat.kept {δ : Dl} {a : Nat} {e : En} {H H1 : Heap} (h : hat δ a e H) (h1 : H1[a]? = H[a]?) : hat δ a e H1 := by
  cases e with
  | inl q => exact h1.trans h
  | inr q =>
    obtain ⟨r, hr, ho⟩ := h
    exact ⟨r, hr, ho.kept h1⟩
theorem hat.lt {δ : Dl} {a : Nat} {e : En} {H : Heap} (h : hat δ a e H) : a < H.size := by
  cases e with
  | inl q => exact (Array.getElem?_eq_some_iff.mp h).1
  | inr q =>
    obtain ⟨r, hr, cell, hc, -⟩ := h
    exact (Array.getElem?_eq_some_iff.mp hc).1
theorem HR.up {δ : Dl} {w : Hw} {a : Nat} {e : En} {H H1 : Heap} (h : HR δ w H) (he : hat δ a e H1) (ho : ∀ q : Nat, q ≠ a → H1[q]? = H[q]?) : HR δ (wup w a e) H1 := by
  intro b x hb
  by_cases hq : b = a
  · subst hq
    rw [wup_s] at hb
    cases hb
    exact he
  · rw [wup_n hq] at hb
    exact (h b x hb).kept (ho b hq)
theorem HR.new {δ : Dl} {w : Hw} {e : En} {H H1 : Heap} (h : HR δ w H) (he : hat δ H.size e H1) (ho : ∀ q : Nat, q < H.size → H1[q]? = H[q]?) : HR δ (wup w H.size e) H1 := by
  intro b x hb
  by_cases hq : b = H.size
  · subst hq
    rw [wup_s] at hb
    cases hb
    exact he
  · rw [wup_n hq] at hb
    exact (h b x hb).kept (ho b (h b x hb).lt)
theorem HR.fresh {δ : Dl} {w : Hw} {H : Heap} (h : HR δ w H) : w H.size = none := by
  cases hw : w H.size with
  | none => rfl
  | some e => exact absurd (h _ _ hw).lt (Nat.lt_irrefl _)
/-! the words that don't ride in lw_all: carried from call to call -/
def NWf : List (String × Nat × String × String × String × String) := [("TwoWorlds", 64, "TwoWorlds$World", "n", "I", "TwoWorlds"), ("TwoWorlds", 54, "TwoWorlds$World", "marks", "[I", "TwoWorlds"), ("TwoWorlds", 60, "TwoWorlds$World", "ties", "[Z", "TwoWorlds"), ("TwoWorlds", 111, "TwoWorlds$Match", "sides", "[LTwoWorlds$World;", "TwoWorlds"), ("TwoWorlds", 90, "TwoWorlds$Match", "size", "I", "TwoWorlds"), ("TwoWorlds", 196, "TwoWorlds$Wrong", "place", "I", "TwoWorlds"), ("TwoWorlds", 152, "TwoWorlds$Paper", "bytes", "[B", "TwoWorlds"), ("TwoWorlds", 151, "TwoWorlds$Paper", "size", "I", "TwoWorlds"), ("TwoWorlds", 219, "TwoWorlds$Sentence", "formula", "LTwoWorlds$Formula;", "TwoWorlds"), ("TwoWorlds", 206, "TwoWorlds$Sentence", "depth", "I", "TwoWorlds"), ("TwoWorlds", 209, "TwoWorlds$Sentence", "nodes", "I", "TwoWorlds"), ("TwoWorlds", 211, "TwoWorlds$Sentence", "text", "[B", "TwoWorlds"), ("TwoWorlds", 227, "TwoWorlds$Asking", "asked", "I", "TwoWorlds"), ("TwoWorlds$Match", 42, "TwoWorlds$World", "n", "I", "TwoWorlds"), ("TwoWorlds$Match", 31, "TwoWorlds$World", "marks", "[I", "TwoWorlds"), ("TwoWorlds$Atom", 26, "TwoWorlds$World", "marks", "[I", "TwoWorlds"), ("TwoWorlds$Atom", 20, "TwoWorlds$Asking", "world", "LTwoWorlds$World;", "TwoWorlds"), ("TwoWorlds$Atom", 32, "TwoWorlds$Asking", "things", "[I", "TwoWorlds"), ("TwoWorlds$Each", 23, "TwoWorlds$World", "n", "I", "TwoWorlds"), ("TwoWorlds$Each", 17, "TwoWorlds$Asking", "world", "LTwoWorlds$World;", "TwoWorlds"), ("TwoWorlds$Each", 28, "TwoWorlds$Asking", "things", "[I", "TwoWorlds"), ("TwoWorlds$Colouring", 29, "TwoWorlds$World", "marks", "[I", "TwoWorlds"), ("TwoWorlds$Counting", 3, "TwoWorlds$World", "n", "I", "TwoWorlds"), ("TwoWorlds$Pairs", 3, "TwoWorlds$World", "n", "I", "TwoWorlds")]
def NWm : List (String × Nat × MethodName × String) := [("TwoWorlds", 144, ⟨"TwoWorlds$Paper", "<init>", "()V"⟩, "TwoWorlds"), ("TwoWorlds", 247, ⟨"TwoWorlds$Match", "isOne", "(III)Z"⟩, "TwoWorlds"), ("TwoWorlds", 255, ⟨"TwoWorlds$Match", "marks", "(II)I"⟩, "TwoWorlds"), ("TwoWorlds", 258, ⟨"TwoWorlds$Match", "isTied", "(III)Z"⟩, "TwoWorlds"), ("TwoWorlds$World", 23, ⟨"TwoWorlds", "isIn", "(JJJ)Z"⟩, "TwoWorlds"), ("TwoWorlds$Atom", 1, ⟨"TwoWorlds$Formula", "<init>", "()V"⟩, "TwoWorlds"), ("TwoWorlds$Not", 1, ⟨"TwoWorlds$Formula", "<init>", "()V"⟩, "TwoWorlds"), ("TwoWorlds$Many", 1, ⟨"TwoWorlds$Formula", "<init>", "()V"⟩, "TwoWorlds"), ("TwoWorlds$Sentence", 27, ⟨"TwoWorlds", "textOf", "(LTwoWorlds$Formula;)[B"⟩, "TwoWorlds")]
def NWc : List (String × String) := [("TwoWorlds", "java/lang/Object"), ("TwoWorldsModel", "java/lang/Object"), ("TwoWorlds$World", "java/lang/Object"), ("TwoWorlds$Match", "java/lang/Object"), ("TwoWorlds$Reader", "java/lang/Object"), ("TwoWorlds$Atom", "TwoWorlds$Formula"), ("TwoWorlds$Atom", "java/lang/Object"), ("TwoWorlds$Wrong", "TwoWorlds$Wrong"), ("TwoWorlds$Wrong", "java/lang/Object"), ("TwoWorlds$Not", "TwoWorlds$Formula"), ("TwoWorlds$Not", "java/lang/Object"), ("TwoWorlds$Each", "TwoWorlds$Formula"), ("TwoWorlds$Each", "TwoWorlds$Not"), ("TwoWorlds$Each", "java/lang/Object"), ("TwoWorlds$Many", "TwoWorlds$Formula"), ("TwoWorlds$Many", "java/lang/Object"), ("TwoWorlds$Sentence", "java/lang/Object"), ("TwoWorlds$Paper", "java/lang/Object"), ("TwoWorlds$Asking", "java/lang/Object"), ("TwoWorlds$TooMuch", "TwoWorlds$TooMuch"), ("TwoWorlds$TooMuch", "java/lang/Object"), ("TwoWorlds$Counting", "java/lang/Object"), ("TwoWorlds$Pairs", "java/lang/Object"), ("java/util/ArrayList", "java/util/List"), ("java/util/ArrayList", "java/lang/Object"), ("java/lang/Throwable", "java/lang/Object"), ("[B", "java/lang/Object"), ("[I", "java/lang/Object"), ("[J", "java/lang/Object"), ("[LTwoWorlds$World;", "java/lang/Object"), ("[Ljava/lang/Object;", "java/lang/Object"), ("[Z", "java/lang/Object"), ("java/lang/String", "java/lang/Object")]
def NWd : List MethodName := [⟨"TwoWorlds$Formula", "depth", "()I"⟩, ⟨"TwoWorlds$Formula", "write", "(LTwoWorlds$Paper;)V"⟩, ⟨"TwoWorlds$Formula", "holds", "(LTwoWorlds$Asking;)Z"⟩, ⟨"TwoWorlds$Formula", "isLike", "(LTwoWorlds$Formula;)Z"⟩, ⟨"TwoWorlds$Colouring", "prepare", "()V"⟩, ⟨"TwoWorlds$Colouring", "of", "(I)LTwoWorlds$World;"⟩, ⟨"TwoWorlds$Colouring", "isAlike", "(II)Z"⟩, ⟨"TwoWorlds$Colouring", "stays", "(II)Z"⟩, ⟨"java/lang/Throwable", "<init>", "()V"⟩, ⟨"java/lang/Throwable", "<init>", "(Ljava/lang/String;)V"⟩, ⟨"java/lang/Exception", "<init>", "()V"⟩, ⟨"java/lang/Exception", "<init>", "(Ljava/lang/String;)V"⟩, ⟨"java/lang/Object", "getClass", "()Ljava/lang/Class;"⟩, ⟨"java/util/List", "add", "(Ljava/lang/Object;)Z"⟩, ⟨"java/util/List", "size", "()I"⟩, ⟨"java/util/List", "get", "(I)Ljava/lang/Object;"⟩]
def NNc : List (String × String) := [("TwoWorlds$Atom", "TwoWorlds$Not"), ("TwoWorlds$Atom", "TwoWorlds$Each"), ("TwoWorlds$Atom", "TwoWorlds$Many"), ("TwoWorlds$Not", "TwoWorlds$Atom"), ("TwoWorlds$Not", "TwoWorlds$Each"), ("TwoWorlds$Not", "TwoWorlds$Many"), ("TwoWorlds$Each", "TwoWorlds$Atom"), ("TwoWorlds$Each", "TwoWorlds$Many"), ("TwoWorlds$Many", "TwoWorlds$Atom"), ("TwoWorlds$Many", "TwoWorlds$Not"), ("TwoWorlds$Many", "TwoWorlds$Each")]
def mPart : MethodName := ⟨"TwoWorlds$Colouring", "part", "(Z)V"⟩
/-- a private method, called on objects of the classes below -/
def NWs : List (String × MethodName × MethodName) := [("TwoWorlds$Counting", mPart, mPart), ("TwoWorlds$Pairs", mPart, mPart)]
def mAdd : MethodName := ⟨"java/util/List", "add", "(Ljava/lang/Object;)Z"⟩
def mSize : MethodName := ⟨"java/util/List", "size", "()I"⟩
def mGet : MethodName := ⟨"java/util/List", "get", "(I)Ljava/lang/Object;"⟩
def KX (δ : Dl) (U : State) : Prop :=
  (∀ q ∈ NWf, va_Nw (.fieldLinkNest q.1 q.2.1 q.2.2.1 q.2.2.2.1 q.2.2.2.2.1 q.2.2.2.2.2) U) ∧ (∀ q ∈ NWm, va_Nw (.methodLinkNest q.1 q.2.1 q.2.2.1 q.2.2.2) U) ∧ (∀ q ∈ NWc, va_Nw (.castable q.1 q.2) U) ∧ (∀ q ∈ NWd, va_Nw (.declares q) U) ∧ (∀ q ∈ NNc, va_Nc q.1 q.2 U) ∧
  (va_AO RX2 U ∧ va_AO "java/lang/Object" U) ∧ (va_Fw RJ2 mAdd ⟨RJ2, "add", "(Ljava/lang/Object;)Z"⟩ U ∧ va_Fw RJ2 mSize ⟨RJ2, "size", "()I"⟩ U ∧ va_Fw RJ2 mGet ⟨RJ2, "get", "(I)Ljava/lang/Object;"⟩ U) ∧
  (vk_R RX7 1 "wrong" (δ.2.2 1) U ∧ vk_R RX14 1 "too much" (δ.2.2 2) U) ∧ va_Mi "[Ljava/lang/Object;" (δ.2.2 3) U ∧ va_Dc U ∧ ∀ q ∈ NWs, va_Nw (.selects q.1 q.2.1 q.2.2) U
theorem KX.warm {δ : Dl} {s U : State} (hW : s.WarmedH U.vm) (h : KX δ s) : KX δ U := by
  obtain ⟨h1, h2, h3, h4, h5, ⟨h6, h7⟩, ⟨h8, h9, h10⟩, ⟨h11, h12⟩, h13, h14, h15⟩ := h
  exact ⟨fun q hq => va_Nw.warmF hW (h1 q hq), fun q hq => va_Nw.warmM hW (h2 q hq), fun q hq => va_Nw.warmC hW (h3 q hq), fun q hq => va_Nw.warmD hW (h4 q hq), fun q hq => va_Nc.moved hW.alike (h5 q hq), ⟨va_AO.moved hW.alike h6, va_AO.moved hW.alike h7⟩,
    ⟨va_Fw.moved (by decide) hW.alike h8, va_Fw.moved (by decide) hW.alike h9, va_Fw.moved (by decide) hW.alike h10⟩, ⟨vk_R.warm hW h11, vk_R.warm hW h12⟩, va_Mi.moved hW.alike h13, va_Dc.moved hW.alike h14, fun q hq => word_at hW (Or.inl rfl) (h15 q hq)⟩
theorem KX.same {δ : Dl} {s U : State} (hv : U.vm = s.vm) (h : KX δ s) : KX δ U := by
  obtain ⟨h1, h2, h3, h4, h5, ⟨h6, h7⟩, ⟨h8, h9, h10⟩, ⟨h11, h12⟩, h13, h14, h15⟩ := h
  have ha : s.vm.Alike U.vm := by rw [hv]; exact Vm.Alike.refl _
  exact ⟨fun q hq => va_Nw.same rfl hv.symm (h1 q hq), fun q hq => va_Nw.same rfl hv.symm (h2 q hq), fun q hq => va_Nw.same rfl hv.symm (h3 q hq), fun q hq => va_Nw.same rfl hv.symm (h4 q hq), fun q hq => va_Nc.moved ha (h5 q hq), ⟨va_AO.moved ha h6, va_AO.moved ha h7⟩,
    ⟨va_Fw.moved (by decide) ha h8, va_Fw.moved (by decide) ha h9, va_Fw.moved (by decide) ha h10⟩, ⟨vk_R.same hv h11, vk_R.same hv h12⟩, va_Mi.moved ha h13, va_Dc.moved ha h14, fun q hq => va_Nw.same rfl hv.symm (h15 q hq)⟩
def KS (δ : Dl) (U : State) : Prop := va_K δ.1 CL (ATs δ.2.1) U ∧ KX δ U
theorem KS.warm {δ : Dl} {s U : State} (hW : s.WarmedH U.vm) (h : KS δ s) : KS δ U := ⟨va_K.moved hW.alike h.1, h.2.warm hW⟩
theorem KS.calling {δ : Dl} {U : State} {g : JFrame} {mk : MethodId} {a : Array Value} (h : KS δ U) : KS δ (U.calling g mk a) :=
  ⟨va_K.moved (u := U) (U := U.calling g mk a) (Vm.Alike.refl U.vm) h.1, h.2.same rfl⟩
def nv : Nat → Value
  | 0 => .null
  | t + 1 => .ref t
/-- static fields of the JDK that nobody writes; the script (address, length, ints) -/
def SX (δ : Dl) (A : Nat → Prop) (U : State) (H : Heap) : Prop :=
  va_Z RJ2 "DEFAULTCAPACITY_EMPTY_ELEMENTDATA" "[Ljava/lang/Object;" (.ref (δ.2.2 0)) A U H ∧ va_T (.object "java/lang/Object") (δ.2.2 0) 0 (fun _ => .null) A U H ∧ va_Z RJ3 "UNASSIGNED_STACK" "[Ljava/lang/StackTraceElement;" (nv (δ.2.2 4)) A U H ∧ va_Z RJ3 "SUPPRESSED_SENTINEL" "Ljava/util/List;" (nv (δ.2.2 5)) A U H ∧ va_T .int (δ.2.2 6) (δ.2.2 7) (fun j => .int (Int32.ofNat (δ.2.2 (8 + j)))) A U H
theorem SX.go {δ : Dl} {A B : Nat → Prop} {u U : State} {H H1 : Heap} (hvm : u.vm.Alike U.vm) (hq : ∀ a : Nat, a < H.size → ¬ A a → H1[a]? = H[a]?) (hAB : ∀ q, B q → A q) (h : SX δ A u H) : SX δ B U H1 := by
  obtain ⟨h1, h2, h3, h4, h5⟩ := h
  exact ⟨(va_Z.moved hvm (h1.kept hq)).narrow hAB, (va_T.moved hvm (h2.kept hq)).narrow hAB, (va_Z.moved hvm (h3.kept hq)).narrow hAB, (va_Z.moved hvm (h4.kept hq)).narrow hAB, (va_T.moved hvm (h5.kept hq)).narrow hAB⟩
/-! locals as a dense list; none: unset, or the second half of a long -/
def lvs : Nat → List (Option Value) → List (Nat × Value)
  | _, [] => []
  | k, some v :: t => (k, v) :: lvs (k + 1) t
  | k, none :: t => lvs (k + 1) t
theorem lvs_mem {L : List (Option Value)} : ∀ {k i : Nat} {v : Value}, L[i]? = some (some v) → (k + i, v) ∈ lvs k L := by
  induction L with
  | nil => intro k i v h; simp at h
  | cons x t ih =>
    intro k i v h
    cases i with
    | zero =>
      simp at h
      subst h
      exact List.mem_cons_self
    | succ i =>
      have h' : t[i]? = some (some v) := by simpa using h
      have h2 := ih (k := k + 1) h'
      have e : k + 1 + i = k + (i + 1) := by omega
      rw [e] at h2
      cases x with
      | none => exact h2
      | some y => exact List.mem_cons_of_mem _ h2
theorem lvs_of {L : List (Option Value)} : ∀ {k : Nat} {q : Nat × Value}, q ∈ lvs k L → ∃ i, q.1 = k + i ∧ L[i]? = some (some q.2) := by
  induction L with
  | nil => intro k q h; cases h
  | cons x t ih =>
    intro k q h
    cases x with
    | none =>
      obtain ⟨i, h1, h2⟩ := ih (k := k + 1) h
      exact ⟨i + 1, by omega, by simpa using h2⟩
    | some y =>
      rcases List.mem_cons.mp h with e | h
      · subst e
        exact ⟨0, rfl, rfl⟩
      · obtain ⟨i, h1, h2⟩ := ih (k := k + 1) h
        exact ⟨i + 1, by omega, by simpa using h2⟩
theorem lvs_get {ls : Array Slot} {nL : Nat} {L : List (Option Value)} (h : lv_has ls nL (lvs 0 L)) {i : Nat} {v : Value} (hi : L[i]? = some (some v)) : ls[i]? = some (.val v) := by
  have := h.2.2 _ (lvs_mem (k := 0) hi)
  rw [Nat.zero_add] at this
  exact this
theorem lvs_sub {ls : Array Slot} {nL : Nat} {L : List (Option Value)} {l : List (Nat × Value)} (h : lv_has ls nL l) (hs : ∀ i v, L[i]? = some (some v) → (i, v) ∈ l) : lv_has ls nL (lvs 0 L) := by
  refine ⟨h.1, h.2.1, fun q hq => ?_⟩
  obtain ⟨i, h1, h2⟩ := lvs_of hq
  have e : q = (i, q.2) := by
    have : q.1 = i := by omega
    rw [← this]
  rw [e]
  exact h.2.2 _ (hs i q.2 h2)
def c1 (x : Option Value) : Bool := match x with
  | none => true
  | some v => v.category == 1
/-- a store of a value of one slot, as a list -/
theorem lvs_set {ls : Array Slot} {nL : Nat} {L : List (Option Value)} {i : Nat} {v : Value} (hp : ∀ j, j + 1 = i → c1 (L.getD j none) = true)
    (h : lv_has ls nL ((i, v) :: (lvs 0 L).filter (fun q => !(q.1 == i) && !(q.1 + 1 == i && q.2.category == 2)))) : lv_has ls nL (lvs 0 (L.set i (some v))) := by
  refine lvs_sub h fun j x hj => ?_
  rw [List.getElem?_set] at hj
  by_cases hij : i = j
  · subst hij
    rw [if_pos rfl] at hj
    split at hj
    · cases hj
      exact List.mem_cons_self
    · cases hj
  · rw [if_neg hij] at hj
    refine List.mem_cons_of_mem _ (List.mem_filter.mpr ⟨?_, ?_⟩)
    · have := lvs_mem (k := 0) hj
      rw [Nat.zero_add] at this
      exact this
    · have h1 : (j == i) = false := by simp; exact fun q => hij q.symm
      by_cases h2 : j + 1 = i
      · have h3 := hp j h2
        rw [List.getD_eq_getElem?_getD, hj] at h3
        simp only [c1, Option.getD_some] at h3
        have h4 : x.category = 1 := by simpa using h3
        simp [h1, h4]
      · simp [h1, h2]
/-! ===== the context of a walk, and the judgement ===== -/
abbrev Cx : Type := (Program × Launch × Env × Room × State) × (MethodId × Array Value × List Frame × Method × Code) × (Nat × Dl × (Nat → Prop) × (State → Prop))
abbrev Cx.p (κ : Cx) : Program := κ.1.1
abbrev Cx.l (κ : Cx) : Launch := κ.1.2.1
abbrev Cx.e (κ : Cx) : Env := κ.1.2.2.1
abbrev Cx.R (κ : Cx) : Room := κ.1.2.2.2.1
abbrev Cx.s (κ : Cx) : State := κ.1.2.2.2.2
abbrev Cx.m (κ : Cx) : MethodId := κ.2.1.1
abbrev Cx.as (κ : Cx) : Array Value := κ.2.1.2.1
abbrev Cx.bl (κ : Cx) : List Frame := κ.2.1.2.2.1
abbrev Cx.me (κ : Cx) : Method := κ.2.1.2.2.2.1
abbrev Cx.c (κ : Cx) : Code := κ.2.1.2.2.2.2
abbrev Cx.nL (κ : Cx) : Nat := κ.2.2.1
abbrev Cx.δ (κ : Cx) : Dl := κ.2.2.2.1
abbrev Cx.A (κ : Cx) : Nat → Prop := κ.2.2.2.2.1
abbrev Cx.Q (κ : Cx) : State → Prop := κ.2.2.2.2.2
abbrev Wk (κ : Cx) (H : Heap) (locs : List Loc) (cells slots : Nat) (g : JFrame) : Prop := W κ.p κ.l κ.e κ.R κ.s κ.m κ.as κ.bl κ.me κ.c H locs cells slots κ.Q g
/-- the walk stands at pc with locals L, operand stack st, over the abstract heap w of size sz, with kc cells and ks slots left: it comes to its end -/
def G (κ : Cx) (w : Hw) (sz kc ks : Nat) (L : List (Option Value)) (pc : Nat) (st : List Value) : Prop :=
  ∀ (H : Heap) (locs : List Loc) (ls : Array Slot) (cells slots : Nat), H.size = sz → HR κ.δ w H → (∀ a, w a ≠ none → κ.A a) → va_S κ.A κ.s.heap H locs → lv_has ls κ.nL (lvs 0 L) → cells + kc ≤ κ.R.cells → slots + ks ≤ κ.R.slots → Wk κ H locs cells slots (F0 κ.m pc ls st)
def Ok (κ : Cx) (own : String) (cc : ByteArray) (d : Nat) : Prop :=
  κ.p.tables.exec = Jvm.exec ∧ κ.c.code = cc ∧ κ.c.maxLocals = κ.nL ∧ κ.s.vm.findClass own = some κ.m.cls ∧ (∀ w ∈ lw_all, w.before κ.as κ.s = true) ∧ κ.me.locks = false ∧ KS κ.δ κ.s ∧ (∀ q, κ.s.heap.size ≤ q → κ.A q) ∧ d ≤ κ.R.frames ∧ 64 * d ≤ κ.R.locals ∧ SX κ.δ κ.A κ.s κ.s.heap
theorem Ok.hx {κ : Cx} {own : String} {cc : ByteArray} {d : Nat} (h : Ok κ own cc d) : κ.p.tables.exec = Jvm.exec := h.1
theorem Ok.hb {κ : Cx} {own : String} {cc : ByteArray} {d : Nat} (h : Ok κ own cc d) : κ.c.code = cc := h.2.1
theorem Ok.hml {κ : Cx} {own : String} {cc : ByteArray} {d : Nat} (h : Ok κ own cc d) : κ.c.maxLocals = κ.nL := h.2.2.1
theorem Ok.hown {κ : Cx} {own : String} {cc : ByteArray} {d : Nat} (h : Ok κ own cc d) : κ.s.vm.findClass own = some κ.m.cls := h.2.2.2.1
theorem Ok.hts {κ : Cx} {own : String} {cc : ByteArray} {d : Nat} (h : Ok κ own cc d) : ∀ w ∈ lw_all, w.before κ.as κ.s = true := h.2.2.2.2.1
theorem Ok.lk {κ : Cx} {own : String} {cc : ByteArray} {d : Nat} (h : Ok κ own cc d) : κ.me.locks = false := h.2.2.2.2.2.1
theorem Ok.K {κ : Cx} {own : String} {cc : ByteArray} {d : Nat} (h : Ok κ own cc d) : KS κ.δ κ.s := h.2.2.2.2.2.2.1
theorem Ok.hA {κ : Cx} {own : String} {cc : ByteArray} {d : Nat} (h : Ok κ own cc d) : ∀ q, κ.s.heap.size ≤ q → κ.A q := h.2.2.2.2.2.2.2.1
theorem Ok.fr {κ : Cx} {own : String} {cc : ByteArray} {d : Nat} (h : Ok κ own cc d) : d ≤ κ.R.frames := h.2.2.2.2.2.2.2.2.1
theorem Ok.lo {κ : Cx} {own : String} {cc : ByteArray} {d : Nat} (h : Ok κ own cc d) : 64 * d ≤ κ.R.locals := h.2.2.2.2.2.2.2.2.2.1
theorem Ok.sx {κ : Cx} {own : String} {cc : ByteArray} {d : Nat} (h : Ok κ own cc d) : SX κ.δ κ.A κ.s κ.s.heap := h.2.2.2.2.2.2.2.2.2.2
