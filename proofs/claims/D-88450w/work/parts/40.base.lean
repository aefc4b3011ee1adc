/-! ===== small things for the pure part ===== -/
set_option maxRecDepth 100000
theorem zAnd_r (a b : Int) : -2147483648 ≤ zAnd a b ∧ zAnd a b ≤ 2147483647 := i32_r _
theorem zOr_r (a b : Int) : -2147483648 ≤ zOr a b ∧ zOr a b ≤ 2147483647 := i32_r _
theorem zXor_r (a b : Int) : -2147483648 ≤ zXor a b ∧ zXor a b ≤ 2147483647 := i32_r _
theorem zShl_r (a b : Int) : -2147483648 ≤ zShl a b ∧ zShl a b ≤ 2147483647 := i32_r _
theorem zShr_r (a b : Int) : -2147483648 ≤ zShr a b ∧ zShr a b ≤ 2147483647 := i32_r _
theorem zByte_r (a : Int) : -128 ≤ zByte a ∧ zByte a ≤ 127 := by
  unfold zByte
  have h1 := Int8.le_toInt (Int32.ofInt a).toInt8
  have h2 := Int8.toInt_lt (Int32.ofInt a).toInt8
  omega
/-- all of 0 .. k - 1 -/
def allU : Nat → (Int → Bool) → Bool
  | 0, _ => true
  | k + 1, f => allU k f && f k
theorem allU_iff {k : Nat} {f : Int → Bool} : allU k f = true ↔ ∀ i : Int, 0 ≤ i → i < k → f i = true := by
  induction k with
  | zero => simp [allU]; intro i h1 h2; omega
  | succ k ih =>
    simp only [allU, Bool.and_eq_true, ih]
    constructor
    · rintro ⟨h1, h2⟩ i hi hk
      by_cases h : i = k
      · subst h; exact h2
      · exact h1 i hi (by omega)
    · intro h
      exact ⟨fun i hi hk => h i hi (by omega), h k (by omega) (by omega)⟩
theorem allU_congr {k : Nat} {f g : Int → Bool} (h : ∀ i : Int, 0 ≤ i → i < k → f i = g i) : allU k f = allU k g := by
  induction k with
  | zero => rfl
  | succ k ih => simp only [allU, ih (fun i h1 h2 => h i h1 (by omega)), h k (by omega) (by omega)]
def anyU (k : Nat) (f : Int → Bool) : Bool := !allU k (fun i => !f i)
theorem anyU_iff {k : Nat} {f : Int → Bool} : anyU k f = true ↔ ∃ i : Int, 0 ≤ i ∧ i < k ∧ f i = true := by
  unfold anyU
  cases h : allU k (fun i => !f i) with
  | true =>
    have := allU_iff.mp h
    simp
    intro i h1 h2
    have := this i h1 h2
    simpa using this
  | false =>
    simp
    apply Classical.byContradiction
    intro hn
    have : allU k (fun i => !f i) = true := allU_iff.mpr fun i h1 h2 => by
      cases hf : f i with
      | false => rfl
      | true => exact absurd ⟨i, h1, h2, hf⟩ hn
    rw [this] at h
    cases h
/-- bit b of x -/
def tb (x b : Int) : Bool := decide (zAnd (zShr x b) 1 = 1)
theorem ite_b0 {c : Prop} [Decidable c] {b : Bool} : (if c then 0 else b2i b) = b2i (!decide c && b) := by by_cases h : c <;> simp [h, b2i]
theorem ite_b1 {c : Prop} [Decidable c] {b : Bool} : (if c then 1 else b2i b) = b2i (decide c || b) := by by_cases h : c <;> simp [h, b2i]
theorem ite_0b {c : Prop} [Decidable c] {b : Bool} : (if c then b2i b else 0) = b2i (decide c && b) := by by_cases h : c <;> simp [h, b2i]
theorem ite_1b {c : Prop} [Decidable c] {b : Bool} : (if c then b2i b else 1) = b2i (!decide c || b) := by by_cases h : c <;> simp [h, b2i]
theorem ite_bb {c : Prop} [Decidable c] {a b : Bool} : (if c then b2i a else b2i b) = b2i (if c then a else b) := by by_cases h : c <;> simp [h]
theorem fin_b {a b : Bool} {s : St} (h : a = b) : (some (.inl (some (.inl (b2i a))), s) : Option (Rs × St)) = some (.inl (some (.inl (b2i b))), s) := by rw [h]
theorem fin_i {a b : Int} {s : St} (h : a = b) : (some (.inl (some (.inl a)), s) : Option (Rs × St)) = some (.inl (some (.inl b)), s) := by rw [h]
/-- the cells lo .. lo + i - 1 of g are those of h -/
def fil (g : Int → Int) (lo i : Int) (h : Int → Int) : Int → Int := fun q => if lo ≤ q ∧ q < lo + i then h (q - lo) else g q
theorem fil_0 {g h : Int → Int} {lo : Int} : fil g lo 0 h = g := by
  funext q
  unfold fil
  rw [if_neg (by omega)]
theorem fil_in {g h : Int → Int} {lo i a : Int} (h1 : 0 ≤ a) (h2 : a < i) : fil g lo i h (lo + a) = h a := by
  unfold fil
  rw [if_pos (by omega)]
  congr 1
  omega
theorem fil_out {g h : Int → Int} {lo i q : Int} (h1 : q < lo ∨ lo + i ≤ q) : fil g lo i h q = g q := by
  unfold fil
  rw [if_neg (by omega)]
theorem fil_s {g h : Int → Int} {lo i x : Int} (hi : 0 ≤ i) (hx : x = h i) : (fun q => if q = lo + i then x else fil g lo i h q) = fil g lo (i + 1) h := by
  funext q
  unfold fil
  by_cases hq : q = lo + i
  · subst hq
    rw [if_pos rfl, if_pos (by omega), hx]
    congr 1
    omega
  · rw [if_neg hq]
    by_cases h2 : lo ≤ q ∧ q < lo + i
    · rw [if_pos h2, if_pos (by omega)]
    · rw [if_neg h2, if_neg (by omega)]
theorem sAr_id {σ : MS} {k : Nat} : sAr σ k (σ.2 k) = σ := MS.ext (fun _ => rfl) (fun j i => by rw [sAr_2]; split <;> simp_all)
theorem sA_sAr {σ : MS} {k : Nat} {g : Int → Int} {i x : Int} : sA (sAr σ k g) k i x = sAr σ k (fun q => if q = i then x else g q) := MS.ext (fun _ => rfl) (fun j q => by
  rw [sA_2, sAr_2, sAr_2, sAr_2]
  by_cases h : j = k <;> simp [h])
theorem sA_sAr' {σ : MS} {k m : Nat} {g : Int → Int} {i x : Int} (h : k ≠ m) : sA (sAr σ m g) k i x = sAr (sA σ k i x) m g := MS.ext (fun _ => rfl) (fun j q => by
  simp only [sA_2, sAr_2]
  by_cases h1 : j = k
  · subst h1
    simp [h]
  · simp [h1])
theorem sAr_sAr {σ : MS} {k : Nat} {g h : Int → Int} : sAr (sAr σ k g) k h = sAr σ k h := MS.ext (fun _ => rfl) (fun j q => by
  rw [sAr_2, sAr_2, sAr_2]
  by_cases h1 : j = k <;> simp [h1])
/-- a world: how many things, their marks, their ties -/
abbrev Wd : Type := Int × (Int → Int) × (Int → Int → Bool)
/-- world w of the reference -/
def wd (σ : MS) (w : Int) : Wd := (σ.2 0 w, fun a => σ.2 1 (6 * w + a), fun a b => tb (σ.2 2 (6 * w + a)) b)
/-- what is known of the reference's worlds -/
def WI (σ : MS) : Prop := (∀ w, 0 ≤ w → w < 8 → 0 ≤ σ.2 0 w ∧ σ.2 0 w ≤ 6) ∧ ∀ i, 0 ≤ i → i < 48 → (0 ≤ σ.2 1 i ∧ σ.2 1 i ≤ 3) ∧ (0 ≤ σ.2 2 i ∧ σ.2 2 i ≤ 63)
/-- two states that differ in nothing but rows behind the size -/
def Kp (σ τ : MS) : Prop := τ.1 = σ.1 ∧ (∀ k, k ≠ 8 → k ≠ 9 → τ.2 k = σ.2 k) ∧ ∀ j, j < σ.1 7 → τ.2 8 j = σ.2 8 j ∧ τ.2 9 j = σ.2 9 j
theorem Kp.rf {σ : MS} : Kp σ σ := ⟨rfl, fun _ _ _ => rfl, fun _ _ => ⟨rfl, rfl⟩⟩
theorem Kp.tr {σ τ υ : MS} (h : Kp σ τ) (k : Kp τ υ) : Kp σ υ := ⟨k.1.trans h.1, fun j h1 h2 => (k.2.1 j h1 h2).trans (h.2.1 j h1 h2), fun j hj => ⟨((k.2.2 j (by rw [h.1]; exact hj)).1).trans (h.2.2 j hj).1, ((k.2.2 j (by rw [h.1]; exact hj)).2).trans (h.2.2 j hj).2⟩⟩
theorem wd_of {σ τ : MS} (h0 : τ.2 0 = σ.2 0) (h1 : τ.2 1 = σ.2 1) (h2 : τ.2 2 = σ.2 2) (w : Int) : wd τ w = wd σ w := by unfold wd; rw [h0, h1, h2]
theorem WI_of {σ τ : MS} (h0 : τ.2 0 = σ.2 0) (h1 : τ.2 1 = σ.2 1) (h2 : τ.2 2 = σ.2 2) (h : WI σ) : WI τ := by unfold WI at h ⊢; rw [h0, h1, h2]; exact h
theorem Kp.wd {σ τ : MS} (h : Kp σ τ) (w : Int) : wd τ w = wd σ w := wd_of (h.2.1 0 (by decide) (by decide)) (h.2.1 1 (by decide) (by decide)) (h.2.1 2 (by decide) (by decide)) w
theorem Kp.WI {σ τ : MS} (h : Kp σ τ) (hI : WI σ) : WI τ := WI_of (h.2.1 0 (by decide) (by decide)) (h.2.1 1 (by decide) (by decide)) (h.2.1 2 (by decide) (by decide)) hI
/-! loops -/
theorem lp_allS {h e : Nat} {D : Den} {X : Int → Bool → Lc} {P : St → Prop} {N : Nat} {f : Int → Bool} (hne : e ≠ h)
    (hs : ∀ (i : Int) (s : St), 0 ≤ i → i < N → P s → ∃ s', P s' ∧ D [] (X i true) s = some (.inr (.inl (h, [], X (i + 1) (f i), s'))))
    (he : ∀ (i : Int) (b : Bool) (s : St), 0 ≤ i → i ≤ N → P s → (b = false ∨ i = N) → D [] (X i b) s = some (.inr (.inl (e, [], X i b, s)))) (b0 : Bool) :
    ∀ s, P s → ∃ (j : Int) (s' : St), P s' ∧ lpD h D [] (X 0 b0) s = some (.inr (.inl (e, [], X j (b0 && allU N f), s'))) := by
  have key : ∀ (k : Nat) (i : Int) (b : Bool) (s : St), 0 ≤ i → i + k = N → b = (b0 && allU i.toNat f) → P s → ∃ (j : Int) (s' : St), P s' ∧ lpD h D [] (X i b) s = some (.inr (.inl (e, [], X j (b0 && allU N f), s'))) := by
    intro k
    induction k with
    | zero =>
      intro i b s h0 hi hb hP
      refine ⟨i, s, hP, ?_⟩
      rw [lpD_eq, he i b s h0 (by omega) hP (Or.inr (by omega)), lk_n hne, hb, show i.toNat = N by omega]
    | succ k ih =>
      intro i b s h0 hi hb hP
      cases hbb : b with
      | false =>
        refine ⟨i, s, hP, ?_⟩
        rw [lpD_eq, he i false s h0 (by omega) hP (Or.inl rfl), lk_n hne]
        have : (b0 && allU N f) = false := by
          cases b0 with
          | false => rfl
          | true =>
            rw [hbb] at hb
            cases ha : allU N f with
            | false => rfl
            | true =>
              have h1 := allU_iff.mp ha
              have : allU i.toNat f = true := allU_iff.mpr fun j hj1 hj2 => h1 j hj1 (by omega)
              rw [this] at hb
              cases hb
        rw [this]
      | true =>
        obtain ⟨s', hP', hs'⟩ := hs i s h0 (by omega) hP
        have e1 : (i + 1).toNat = i.toNat + 1 := by omega
        have hf : f i = (b0 && allU (i + 1).toNat f) := by
          rw [e1]
          simp only [allU]
          rw [hbb] at hb
          cases b0 with
          | false => cases hb
          | true =>
            simp only [Bool.true_and] at hb ⊢
            rw [← hb, Bool.true_and, show ((i.toNat : Nat) : Int) = i by omega]
        obtain ⟨j, s2, hP2, h2⟩ := ih (i + 1) (f i) s' (by omega) (by omega) hf hP'
        exact ⟨j, s2, hP2, by rw [lpD_eq, hs', lk_e]; exact h2⟩
  intro s hP
  exact key N 0 b0 s (by omega) (by omega) (by simp [allU]) hP
theorem lp_inv {h e : Nat} {D : Den} {I : Int → Lc → St → Prop} {Q : Lc → St → Prop} {N : Int} (hne : e ≠ h)
    (hs : ∀ (i : Int) (L : Lc) (s : St), i < N → I i L s → ∃ L' s', I (i + 1) L' s' ∧ D [] L s = some (.inr (.inl (h, [], L', s'))))
    (he : ∀ (L : Lc) (s : St), I N L s → ∃ L' s', D [] L s = some (.inr (.inl (e, [], L', s'))) ∧ Q L' s') :
    ∀ (i : Int) (L : Lc) (s : St), i ≤ N → I i L s → ∃ L' s', lpD h D [] L s = some (.inr (.inl (e, [], L', s'))) ∧ Q L' s' := by
  have key : ∀ (k : Nat) (i : Int) (L : Lc) (s : St), i + k = N → I i L s → ∃ L' s', lpD h D [] L s = some (.inr (.inl (e, [], L', s'))) ∧ Q L' s' := by
    intro k
    induction k with
    | zero =>
      intro i L s hi hI
      have : i = N := by omega
      subst this
      obtain ⟨L', s', h1, h2⟩ := he L s hI
      exact ⟨L', s', by rw [lpD_eq, h1, lk_n hne], h2⟩
    | succ k ih =>
      intro i L s hi hI
      obtain ⟨L', s', h1, h2⟩ := hs i L s (by omega) hI
      obtain ⟨L2, s2, h3, h4⟩ := ih (i + 1) L' s' (by omega) h1
      exact ⟨L2, s2, by rw [lpD_eq, h2, lk_e]; exact h3, h4⟩
  intro i L s hi hI
  exact key (N - i).toNat i L s (by omega) hI
theorem wt_c {v : V} {st : Stk} : wt (v :: st) = vc v + wt st := by unfold wt; simp
theorem wt_0 : wt [] = 0 := nrfl rfl
theorem vc_i {z : Int} : vc (.inl z) = 1 := nrfl rfl
theorem vc_l {z : Int} : vc (.inr (.inl z)) = 2 := nrfl rfl
theorem vc_r {a : Option Nat} : vc (.inr (.inr a)) = 1 := nrfl rfl
theorem zcmp_r (a b : Int) : -2147483648 ≤ zcmp a b ∧ zcmp a b ≤ 2147483647 := by unfold zcmp; split <;> (try split) <;> decide
theorem zcmp_lt {a b : Int} : (zcmp a b < 0) = (a < b) := by unfold zcmp; split <;> (try split) <;> simp <;> omega
theorem zcmp_gt {a b : Int} : (0 < zcmp a b) = (b < a) := by unfold zcmp; split <;> (try split) <;> simp <;> omega
theorem zcmp_le {a b : Int} : (zcmp a b ≤ 0) = (a ≤ b) := by unfold zcmp; split <;> (try split) <;> simp <;> omega
theorem zcmp_ge {a b : Int} : (0 ≤ zcmp a b) = (b ≤ a) := by unfold zcmp; split <;> (try split) <;> simp <;> omega
theorem zcmp_eq {a b : Int} : (zcmp a b = 0) = (a = b) := by unfold zcmp; split <;> (try split) <;> simp <;> omega
