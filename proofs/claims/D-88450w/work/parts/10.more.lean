/-! ===== more segments ===== -/
set_option maxRecDepth 100000
theorem alL1 {own : String} {idx : Nat} {a b : Nat} (h : FL own idx a b) : ∀ x ∈ [(a, b)], FL own idx x.1 x.2 := by
  intro x hx
  cases (List.mem_singleton.mp hx)
  exact h
theorem alL2 {own : String} {idx : Nat} {a b c d : Nat} (h : FL own idx a b) (k : FL own idx c d) : ∀ x ∈ [(a, b), (c, d)], FL own idx x.1 x.2 := by
  intro x hx
  rcases List.mem_cons.mp hx with rfl | hx
  · exact h
  · exact alL1 k x hx
theorem alP1 {own : String} {idx : Nat} {ty : FieldType} {a b : Nat} (h : FP own idx a b ty) : ∀ x ∈ [(a, b)], FP own idx x.1 x.2 ty := by
  intro x hx
  cases (List.mem_singleton.mp hx)
  exact h
theorem alP2 {own : String} {idx : Nat} {ty : FieldType} {a b c d : Nat} (h : FP own idx a b ty) (k : FP own idx c d ty) : ∀ x ∈ [(a, b), (c, d)], FP own idx x.1 x.2 ty := by
  intro x hx
  rcases List.mem_cons.mp hx with rfl | hx
  · exact h
  · exact alP1 k x hx
theorem alF1 {own : String} {idx : Nat} {ty : FieldType} {a b : Nat} (h : FF own idx a b ty) : ∀ x ∈ [(a, b)], FF own idx x.1 x.2 ty := by
  intro x hx
  cases (List.mem_singleton.mp hx)
  exact h
theorem alF2 {own : String} {idx : Nat} {ty : FieldType} {a b c d : Nat} (h : FF own idx a b ty) (k : FF own idx c d ty) : ∀ x ∈ [(a, b), (c, d)], FF own idx x.1 x.2 ty := by
  intro x hx
  rcases List.mem_cons.mp hx with rfl | hx
  · exact h
  · exact alF1 k x hx
/-- a store of a long -/
def stLL : Lc → Nat → Int → Lc
  | [], _, _ => []
  | _ :: [], _, _ => []
  | _ :: _ :: t, 0, v => some (.inr (.inl v)) :: none :: t
  | x :: y :: t, 1, v => kl x :: stLL (y :: t) 0 v
  | x :: y :: t, k + 2, v => x :: stLL (y :: t) (k + 1) v
theorem stLL_mem : ∀ (L : Lc) (i j : Nat) (v : Int) (x : V), (stLL L i v)[j]? = some (some x) → (j = i ∧ x = .inr (.inl v)) ∨ (j ≠ i ∧ j ≠ i + 1 ∧ L[j]? = some (some x) ∧ (j + 1 = i → vc x = 1)) := by
  intro L
  induction L with
  | nil => intro i j v x h; simp [stLL] at h
  | cons a t ih =>
    intro i j v x h
    cases t with
    | nil => simp [stLL] at h
    | cons b t =>
    match i with
    | 0 =>
      match j with
      | 0 => simp [stLL] at h; exact Or.inl ⟨rfl, h.symm⟩
      | 1 => simp [stLL] at h
      | j + 2 => exact Or.inr ⟨by omega, by omega, by simpa [stLL] using h, by omega⟩
    | 1 =>
      cases j with
      | zero =>
        have h : kl a = some x := by simpa [stLL] using h
        right
        refine ⟨by omega, by omega, ?_, fun _ => ?_⟩
        · rcases a with _ | z | z | z
          · cases h
          · simpa [kl] using h
          · cases h
          · simpa [kl] using h
        · rcases a with _ | z | z | z
          · cases h
          · cases h; rfl
          · cases h
          · cases h; rfl
      | succ j =>
        have h : (stLL (b :: t) 0 v)[j]? = some (some x) := by simpa [stLL] using h
        rcases ih 0 j v x h with ⟨h1, h2⟩ | ⟨h1, h2, h3, h4⟩
        · exact Or.inl ⟨by omega, h2⟩
        · exact Or.inr ⟨by omega, by omega, by simpa using h3, by omega⟩
    | i + 2 =>
      cases j with
      | zero => exact Or.inr ⟨by omega, by omega, by simpa [stLL] using h, by omega⟩
      | succ j =>
        have h : (stLL (b :: t) (i + 1) v)[j]? = some (some x) := by simpa [stLL] using h
        rcases ih (i + 1) j v x h with ⟨h1, h2⟩ | ⟨h1, h2, h3, h4⟩
        · exact Or.inl ⟨by omega, h2⟩
        · exact Or.inr ⟨by omega, by omega, by simpa using h3, fun q => h4 (by omega)⟩
theorem lv_stLL {ls : Array Slot} {nL : Nat} {L : Lc} {i : Nat} {v : Int} (h : lv_has ls nL ((i, Value.long (Int64.ofInt v)) :: (lvs 0 (lcv L)).filter (fun q => !(q.1 == i) && (!(q.1 == i + 1) && !(q.1 + 1 == i && q.2.category == 2))))) : lv_has ls nL (lvs 0 (lcv (stLL L i v))) := by
  refine lvs_sub h fun j y hj => ?_
  obtain ⟨x, hx, rfl⟩ := lcv_of hj
  rcases stLL_mem L i j v x hx with ⟨rfl, rfl⟩ | ⟨h1, h2, h3, h4⟩
  · exact List.mem_cons_self
  · refine List.mem_cons_of_mem _ (List.mem_filter.mpr ⟨?_, ?_⟩)
    · have := lvs_mem (k := 0) (lcv_get h3)
      rwa [Nat.zero_add] at this
    · have e1 : (j == i) = false := by simp [h1]
      have e2 : (j == i + 1) = false := by simp [h2]
      by_cases h5 : j + 1 = i
      · have h6 : (ve x).category = 1 := vc_cat (h4 h5)
        simp [e1, e2, h6]
      · simp [e1, e2, h5]
section MOR
variable {θ : Ix} {p q : Nat}
def p_lstore (i : Nat) (dd : decode θ.cc p = .ok (.lstore i, 2)) (hn : i + 1 < θ.nL) : Seg θ p (p + 2) := ⟨fun st L s => match st with
  | .inr (.inl z) :: r => some (.inl (r, stLL L i z, s))
  | _ => none, Nat.le_add_right _ _, fun st L s o h => by
    dsimp only at h
    split at h
    · cases h
      refine ⟨Le.rfl', fun κ PR PT C S hE hC hS hk => ?_⟩
      intro H locs ls cells slots hz hH hA hW hl hc hs
      exact lv_lstore hE.1.hx hE.1.hb dd hl (by rw [hE.2.2.1]; exact hn) rfl (fun ls' hl' => hk H locs ls' cells slots hz hH hA hW (lv_stLL hl') hc hs)
    · cases h⟩
theorem x_lstore {i : Nat} {dd : decode θ.cc p = .ok (.lstore i, 2)} {hn : i + 1 < θ.nL} {bb : Seg θ (p + 2) q} {st : Stk} {L : Lc} {s : St} {z : Int} : (seq (p_lstore i dd hn) bb).1 (.inr (.inl z) :: st) L s = bb.1 st (stLL L i z) s := nrfl rfl
def p_lstore_n (i : Fin 4) (dd : decode θ.cc p = .ok (.lstore_n i, 1)) (hn : (i : Nat) + 1 < θ.nL) : Seg θ p (p + 1) := ⟨fun st L s => match st with
  | .inr (.inl z) :: r => some (.inl (r, stLL L i z, s))
  | _ => none, Nat.le_add_right _ _, fun st L s o h => by
    dsimp only at h
    split at h
    · cases h
      refine ⟨Le.rfl', fun κ PR PT C S hE hC hS hk => ?_⟩
      intro H locs ls cells slots hz hH hA hW hl hc hs
      exact lv_lstore_n hE.1.hx hE.1.hb dd rfl hl (by rw [hE.2.2.1]; exact hn) rfl (fun ls' hl' => hk H locs ls' cells slots hz hH hA hW (lv_stLL hl') hc hs)
    · cases h⟩
theorem x_lstore_n {i : Fin 4} {dd : decode θ.cc p = .ok (.lstore_n i, 1)} {hn : (i : Nat) + 1 < θ.nL} {bb : Seg θ (p + 1) q} {st : Stk} {L : Lc} {s : St} {z : Int} : (seq (p_lstore_n i dd hn) bb).1 (.inr (.inl z) :: st) L s = bb.1 st (stLL L i z) s := nrfl rfl
end MOR
