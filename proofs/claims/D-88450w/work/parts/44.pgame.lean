/-! ===== games: like with itself, either way round, on and on ===== -/
set_option maxRecDepth 100000
theorem PAj_iff {A B : Wd} {f g : Int → Int} {m j : Int} : PAj A B f g m j = true ↔ ((f j = f m ↔ g j = g m) ∧ A.2.2 (f j) (f m) = B.2.2 (g j) (g m) ∧ A.2.2 (f m) (f j) = B.2.2 (g m) (g j)) := by
  unfold PAj
  simp only [Bool.and_eq_true, decide_eq_true_eq, decide_eq_decide]
theorem PA_iff {A B : Wd} {f g : Int → Int} {m : Nat} : PA A B f g m = true ↔ A.2.1 (f m) = B.2.1 (g m) ∧ ∀ j : Int, 0 ≤ j → j ≤ m → ((f j = f m ↔ g j = g m) ∧ A.2.2 (f j) (f m) = B.2.2 (g j) (g m) ∧ A.2.2 (f m) (f j) = B.2.2 (g m) (g j)) := by
  unfold PA
  simp only [Bool.and_eq_true, decide_eq_true_eq, allU_iff, PAj_iff]
  constructor
  · rintro ⟨h1, h2⟩
    exact ⟨h1, fun j h3 h4 => h2 j h3 (by omega)⟩
  · rintro ⟨h1, h2⟩
    exact ⟨h1, fun j h3 h4 => h2 j h3 (by omega)⟩
theorem PA_refl {A : Wd} {f : Int → Int} {m : Nat} : PA A A f f m = true := PA_iff.mpr ⟨rfl, fun j _ _ => ⟨Iff.rfl, rfl, rfl⟩⟩
theorem PA_sym {A B : Wd} {f g : Int → Int} {m : Nat} (h : PA A B f g m = true) : PA B A g f m = true := by
  rw [PA_iff] at h ⊢
  exact ⟨h.1.symm, fun j h1 h2 => ⟨(h.2 j h1 h2).1.symm, (h.2 j h1 h2).2.1.symm, (h.2 j h1 h2).2.2.symm⟩⟩
theorem PA_trans {A B C : Wd} {f g h : Int → Int} {m : Nat} (h1 : PA A B f g m = true) (h2 : PA B C g h m = true) : PA A C f h m = true := by
  rw [PA_iff] at h1 h2 ⊢
  exact ⟨h1.1.trans h2.1, fun j k1 k2 => ⟨(h1.2 j k1 k2).1.trans (h2.2 j k1 k2).1, (h1.2 j k1 k2).2.1.trans (h2.2 j k1 k2).2.1, (h1.2 j k1 k2).2.2.trans (h2.2 j k1 k2).2.2⟩⟩
theorem KP_iff {A B : Wd} {k : Nat} {f g : Int → Int} {n : Nat} : KP A B (k + 1) f g n = true ↔ (∀ a : Int, 0 ≤ a → a < A.1 → ∃ b : Int, 0 ≤ b ∧ b < B.1 ∧ PA A B (iup f n a) (iup g n b) n = true ∧ KP A B k (iup f n a) (iup g n b) (n + 1) = true) ∧ (∀ b : Int, 0 ≤ b → b < B.1 → ∃ a : Int, 0 ≤ a ∧ a < A.1 ∧ PA A B (iup f n a) (iup g n b) n = true ∧ KP A B k (iup f n a) (iup g n b) (n + 1) = true) := by
  simp only [KP, Bool.and_eq_true, allU_iff, anyU_iff]
  constructor
  · rintro ⟨h1, h2⟩
    refine ⟨fun a h3 h4 => ?_, fun b h3 h4 => ?_⟩
    · obtain ⟨b, q1, q2, q3⟩ := h1 a h3 (by omega)
      exact ⟨b, q1, by omega, q3⟩
    · obtain ⟨b, q1, q2, q3⟩ := h2 b h3 (by omega)
      exact ⟨b, q1, by omega, q3⟩
  · rintro ⟨h1, h2⟩
    refine ⟨fun a h3 h4 => ?_, fun b h3 h4 => ?_⟩
    · obtain ⟨b, q1, q2, q3⟩ := h1 a h3 (by omega)
      exact ⟨b, q1, by omega, q3⟩
    · obtain ⟨b, q1, q2, q3⟩ := h2 b h3 (by omega)
      exact ⟨b, q1, by omega, q3⟩
theorem KP_refl {A : Wd} : ∀ {k : Nat} {f : Int → Int} {n : Nat}, KP A A k f f n = true
  | 0, _, _ => rfl
  | k + 1, f, n => KP_iff.mpr ⟨fun a h1 h2 => ⟨a, h1, h2, PA_refl, KP_refl⟩, fun a h1 h2 => ⟨a, h1, h2, PA_refl, KP_refl⟩⟩
theorem KP_sym {A B : Wd} : ∀ {k : Nat} {f g : Int → Int} {n : Nat}, KP A B k f g n = true → KP B A k g f n = true
  | 0, _, _, _, _ => rfl
  | k + 1, f, g, n, h => by
    obtain ⟨h1, h2⟩ := KP_iff.mp h
    refine KP_iff.mpr ⟨fun a q1 q2 => ?_, fun a q1 q2 => ?_⟩
    · obtain ⟨b, p1, p2, p3, p4⟩ := h2 a q1 q2
      exact ⟨b, p1, p2, PA_sym p3, KP_sym p4⟩
    · obtain ⟨b, p1, p2, p3, p4⟩ := h1 a q1 q2
      exact ⟨b, p1, p2, PA_sym p3, KP_sym p4⟩
theorem KP_trans {A B C : Wd} : ∀ {k : Nat} {f g h : Int → Int} {n : Nat}, KP A B k f g n = true → KP B C k g h n = true → KP A C k f h n = true
  | 0, _, _, _, _, _, _ => rfl
  | k + 1, f, g, h, n, x, y => by
    obtain ⟨h1, h2⟩ := KP_iff.mp x
    obtain ⟨h3, h4⟩ := KP_iff.mp y
    refine KP_iff.mpr ⟨fun a q1 q2 => ?_, fun a q1 q2 => ?_⟩
    · obtain ⟨b, p1, p2, p3, p4⟩ := h1 a q1 q2
      obtain ⟨c, r1, r2, r3, r4⟩ := h3 b p1 p2
      exact ⟨c, r1, r2, PA_trans p3 r3, KP_trans p4 r4⟩
    · obtain ⟨b, p1, p2, p3, p4⟩ := h4 a q1 q2
      obtain ⟨c, r1, r2, r3, r4⟩ := h2 b p1 p2
      exact ⟨c, r1, r2, PA_trans r3 p3, KP_trans r4 p4⟩
/-- fewer rounds are kept, too -/
theorem KP_less {A B : Wd} : ∀ {k : Nat} {f g : Int → Int} {n : Nat}, KP A B (k + 1) f g n = true → KP A B k f g n = true
  | 0, _, _, _, _ => rfl
  | k + 1, f, g, n, h => by
    obtain ⟨h1, h2⟩ := KP_iff.mp h
    refine KP_iff.mpr ⟨fun a q1 q2 => ?_, fun a q1 q2 => ?_⟩
    · obtain ⟨b, p1, p2, p3, p4⟩ := h1 a q1 q2
      exact ⟨b, p1, p2, p3, KP_less p4⟩
    · obtain ⟨b, p1, p2, p3, p4⟩ := h2 a q1 q2
      exact ⟨b, p1, p2, p3, KP_less p4⟩
/-- rows count up to their size alone -/
theorem PA_congr {A B : Wd} {f g f' g' : Int → Int} {m : Nat} (hf : ∀ j : Int, 0 ≤ j → j ≤ m → f j = f' j) (hg : ∀ j : Int, 0 ≤ j → j ≤ m → g j = g' j) : PA A B f g m = PA A B f' g' m := by
  rw [Bool.eq_iff_iff, PA_iff, PA_iff]
  have e1 := hf m (by omega) (by omega)
  have e2 := hg m (by omega) (by omega)
  rw [e1, e2]
  constructor
  · rintro ⟨h1, h2⟩
    refine ⟨h1, fun j h3 h4 => ?_⟩
    rw [← hf j h3 h4, ← hg j h3 h4]
    exact h2 j h3 h4
  · rintro ⟨h1, h2⟩
    refine ⟨h1, fun j h3 h4 => ?_⟩
    rw [hf j h3 h4, hg j h3 h4]
    exact h2 j h3 h4
theorem KP_congr {A B : Wd} : ∀ {k : Nat} {f g f' g' : Int → Int} {n : Nat}, (∀ j : Int, 0 ≤ j → j < n → f j = f' j) → (∀ j : Int, 0 ≤ j → j < n → g j = g' j) → KP A B k f g n = KP A B k f' g' n
  | 0, _, _, _, _, _, _, _ => rfl
  | k + 1, f, g, f', g', n, hf, hg => by
    have h1 : ∀ a j : Int, 0 ≤ j → j ≤ n → iup f n a j = iup f' n a j := fun a j p1 p2 => by
      unfold iup
      by_cases q : j = n
      · rw [if_pos q, if_pos q]
      · rw [if_neg q, if_neg q]; exact hf j p1 (by omega)
    have h2 : ∀ a j : Int, 0 ≤ j → j ≤ n → iup g n a j = iup g' n a j := fun a j p1 p2 => by
      unfold iup
      by_cases q : j = n
      · rw [if_pos q, if_pos q]
      · rw [if_neg q, if_neg q]; exact hg j p1 (by omega)
    have e : ∀ a b, (PA A B (iup f n a) (iup g n b) n && KP A B k (iup f n a) (iup g n b) (n + 1)) = (PA A B (iup f' n a) (iup g' n b) n && KP A B k (iup f' n a) (iup g' n b) (n + 1)) := fun a b => by
      rw [PA_congr (h1 a) (h2 b), KP_congr (fun j p1 p2 => h1 a j p1 (by omega)) (fun j p1 p2 => h2 b j p1 (by omega))]
    simp only [KP, e]
/-! ===== classes by their first ones ===== -/
/-- c numbers the classes of E by first ones; M i: how many there are among those ahead of i -/
def Stq (E : Nat → Nat → Prop) (c : Nat → Int) (M : Nat → Int) (N : Nat) : Prop := M 0 = 0 ∧ ∀ i, i < N → ((∃ j, j < i ∧ E j i ∧ c i = c j) ∧ M (i + 1) = M i) ∨ ((∀ j, j < i → ¬ E j i) ∧ c i = M i ∧ M (i + 1) = M i + 1)
def Eqv (E : Nat → Nat → Prop) (N : Nat) : Prop := (∀ i, i < N → E i i) ∧ (∀ i j, i < N → j < N → E i j → E j i) ∧ ∀ i j k, i < N → j < N → k < N → E i j → E j k → E i k
theorem stp_eq {E : Nat → Nat → Prop} {c M : Nat → Int} {N : Nat} (h : Stq E c M N) (hE : Eqv E N) : ∀ n i j, i < n → j < n → n ≤ N → E i j → c i = c j := by
  intro n
  induction n with
  | zero => intro i j hi; omega
  | succ n ih =>
    have aux : ∀ j, j < n → n < N → E j n → c j = c n := by
      intro j hj hn he
      rcases h.2 n hn with ⟨⟨j0, h1, h2, h3⟩, -⟩ | ⟨h1, -⟩
      · rw [h3]
        exact ih j j0 hj h1 (by omega) (hE.2.2 j n j0 (by omega) hn (by omega) he (hE.2.1 j0 n (by omega) hn h2))
      · exact absurd he (h1 j hj)
    intro i j hi hj hN he
    by_cases e1 : i = n
    · by_cases e2 : j = n
      · rw [e1, e2]
      · subst e1
        exact (aux j (by omega) (by omega) (hE.2.1 _ _ (by omega) (by omega) he)).symm
    · by_cases e2 : j = n
      · subst e2
        exact aux i (by omega) (by omega) he
      · exact ih i j (by omega) (by omega) (by omega) he
theorem stp_unique {E : Nat → Nat → Prop} {c c' M M' : Nat → Int} {N : Nat} (h : Stq E c M N) (h' : Stq E c' M' N) (hE : Eqv E N) : ∀ n, n ≤ N → M n = M' n ∧ ∀ i, i < n → c i = c' i := by
  intro n
  induction n with
  | zero => exact fun _ => ⟨h.1.trans h'.1.symm, fun i hi => by omega⟩
  | succ n ih =>
    intro hN
    obtain ⟨h1, h2⟩ := ih (by omega)
    rcases h.2 n (by omega) with ⟨⟨j, p1, p2, p3⟩, p4⟩ | ⟨p1, p2, p3⟩
    · rcases h'.2 n (by omega) with ⟨⟨j', q1, q2, q3⟩, q4⟩ | ⟨q1, -⟩
      · refine ⟨by omega, fun i hi => ?_⟩
        by_cases e : i = n
        · subst e
          have := stp_eq h hE i j j' p1 q1 (by omega) (hE.2.2 j i j' (by omega) (by omega) (by omega) p2 (hE.2.1 j' i (by omega) (by omega) q2))
          rw [p3, q3, this]
          exact h2 j' q1
        · exact h2 i (by omega)
      · exact absurd p2 (q1 j p1)
    · rcases h'.2 n (by omega) with ⟨⟨j', q1, q2, q3⟩, q4⟩ | ⟨q1, q2, q3⟩
      · exact absurd q2 (p1 j' q1)
      · refine ⟨by omega, fun i hi => ?_⟩
        by_cases e : i = n
        · subst e
          rw [p2, q2, h1]
        · exact h2 i (by omega)
theorem AL_iff {A B : Wd} {f g : Int → Int} {n : Nat} : AL A B f g n = true ↔ ∀ m : Nat, m < n → PA A B f g m = true := by
  unfold AL
  rw [allU_iff]
  constructor
  · intro h m hm
    have := h m (by omega) (by omega)
    simpa using this
  · intro h i h1 h2
    exact h i.toNat (by omega)
theorem AL_congr {A B : Wd} {f g f' g' : Int → Int} {n : Nat} (hf : ∀ j : Int, 0 ≤ j → j < n → f j = f' j) (hg : ∀ j : Int, 0 ≤ j → j < n → g j = g' j) : AL A B f g n = AL A B f' g' n := by
  unfold AL
  exact allU_congr fun i h1 h2 => PA_congr (fun j p1 p2 => hf j p1 (by omega)) (fun j p1 p2 => hg j p1 (by omega))
theorem AL_push {A B : Wd} {f g : Int → Int} {n : Nat} {a b : Int} : AL A B (iup f n a) (iup g n b) (n + 1) = (AL A B f g n && PA A B (iup f n a) (iup g n b) n) := by
  have h1 : ∀ j : Int, 0 ≤ j → j < n → iup f n a j = f j := fun j p1 p2 => iup_n (by omega)
  have h2 : ∀ j : Int, 0 ≤ j → j < n → iup g n b j = g j := fun j p1 p2 => iup_n (by omega)
  have e : AL A B (iup f n a) (iup g n b) (n + 1) = (AL A B (iup f n a) (iup g n b) n && PA A B (iup f n a) (iup g n b) n) := by
    unfold AL
    simp [allU]
  rw [e, AL_congr h1 h2]
