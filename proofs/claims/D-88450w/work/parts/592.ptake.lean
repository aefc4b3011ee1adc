/-! ===== what is taken, thing by thing ===== -/
set_option maxRecDepth 100000
section PTK
variable {A B : Wd} {to : Int → Int}
def Inj (to : Int → Int) (n : Int) : Prop := ∀ i j, 0 ≤ i → i < n → 0 ≤ j → j < n → to i = to j → i = j
theorem tkB_in {a : Int} {ti : Int → Int → Bool} {n : Int} (hj : Inj to n) : ∀ (m : Nat), (m : Int) ≤ n → ∀ i : Int, 0 ≤ i → i < m → tkB A to a ti m (to a) (to i) = A.2.2 a i := by
  intro m
  induction m with
  | zero => intro _ i h1 h2; omega
  | succ m ih =>
    intro hm i h1 h2
    show tiU (tkB A to a ti m) (to a) (to m) (A.2.2 a m) (to a) (to i) = _
    unfold tiU
    by_cases e : i = m
    · subst e
      rw [if_pos ⟨rfl, rfl⟩]
    · rw [if_neg (fun q => e (hj i m h1 (by omega) (by omega) (by omega) q.2))]
      exact ih (by omega) i h1 (by omega)
theorem tkB_out {a : Int} {ti : Int → Int → Bool} : ∀ (m : Nat) (p q : Int), (p ≠ to a ∨ ∀ i : Int, 0 ≤ i → i < m → q ≠ to i) → tkB A to a ti m p q = ti p q := by
  intro m
  induction m with
  | zero => intro p q _; rfl
  | succ m ih =>
    intro p q h
    show tiU (tkB A to a ti m) (to a) (to m) (A.2.2 a m) p q = _
    unfold tiU
    rw [if_neg (by
      rintro ⟨h1, h2⟩
      rcases h with h | h
      · exact h h1
      · exact h m (by omega) (by omega) h2)]
    refine ih p q ?_
    rcases h with h | h
    · exact Or.inl h
    · exact Or.inr fun i h1 h2 => h i h1 (by omega)
theorem tkA_mk (hj : Inj to A.1) : ∀ (m : Nat), (m : Int) ≤ A.1 → (∀ i : Int, 0 ≤ i → i < m → (tkA A to B m).2.1 (to i) = A.2.1 i) ∧ ∀ c : Int, (∀ i : Int, 0 ≤ i → i < m → c ≠ to i) → (tkA A to B m).2.1 c = B.2.1 c := by
  intro m
  induction m with
  | zero => exact fun _ => ⟨fun i h1 h2 => by omega, fun c _ => rfl⟩
  | succ m ih =>
    intro hm
    obtain ⟨h1, h2⟩ := ih (by omega)
    refine ⟨fun i h3 h4 => ?_, fun c hc => ?_⟩
    · show iup (tkA A to B m).2.1 (to m) (A.2.1 m) (to i) = _
      by_cases e : i = m
      · subst e; rw [iup_s]
      · rw [iup_n (fun q => e (hj i m h3 (by omega) (by omega) (by omega) q))]
        exact h1 i h3 (by omega)
    · show iup (tkA A to B m).2.1 (to m) (A.2.1 m) c = _
      rw [iup_n (hc m (by omega) (by omega))]
      exact h2 c fun i p1 p2 => hc i p1 (by omega)
theorem tkA_ti (hn : 0 ≤ A.1) (hj : Inj to A.1) : ∀ (m : Nat), (m : Int) ≤ A.1 → (∀ i j : Int, 0 ≤ i → i < m → 0 ≤ j → j < A.1 → (tkA A to B m).2.2 (to i) (to j) = A.2.2 i j) ∧ ∀ p q : Int, ((∀ i : Int, 0 ≤ i → i < m → p ≠ to i) ∨ ∀ j : Int, 0 ≤ j → j < A.1 → q ≠ to j) → (tkA A to B m).2.2 p q = B.2.2 p q := by
  intro m
  induction m with
  | zero => exact fun _ => ⟨fun i j h1 h2 => by omega, fun p q _ => rfl⟩
  | succ m ih =>
    intro hm
    obtain ⟨h1, h2⟩ := ih (by omega)
    refine ⟨fun i j h3 h4 h5 h6 => ?_, fun p q hc => ?_⟩
    · show tkB A to m (tkA A to B m).2.2 A.1.toNat (to i) (to j) = _
      by_cases e : i = m
      · subst e
        exact tkB_in (n := A.1) hj A.1.toNat (by omega) j h5 (by omega)
      · rw [tkB_out _ _ _ (Or.inl fun q => e (hj i m h3 (by omega) (by omega) (by omega) q))]
        exact h1 i j h3 (by omega) h5 h6
    · show tkB A to m (tkA A to B m).2.2 A.1.toNat p q = _
      rw [tkB_out]
      · refine h2 p q ?_
        rcases hc with h | h
        · exact Or.inl fun i p1 p2 => h i p1 (by omega)
        · exact Or.inr h
      · rcases hc with h | h
        · exact Or.inl (h m (by omega) (by omega))
        · exact Or.inr fun i p1 p2 => h i p1 (by omega)
end PTK
