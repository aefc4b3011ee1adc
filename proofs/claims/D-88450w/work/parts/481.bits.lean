/-! ===== bits of small numbers ===== -/
set_option maxRecDepth 100000
theorem fin_of {n : Nat} {x : Int} (h0 : 0 ≤ x) (h1 : x < n) : ∃ i : Fin n, x = (i.val : Int) := ⟨⟨x.toNat, by omega⟩, by show x = (x.toNat : Int); omega⟩
theorem tb_or_f : ∀ x : Fin 64, ∀ d b : Fin 6, tb (zOr (x.val : Int) (zShl 1 (d.val : Int))) (b.val : Int) = (tb (x.val : Int) (b.val : Int) || decide (b = d)) ∧ 0 ≤ zOr (x.val : Int) (zShl 1 (d.val : Int)) ∧ zOr (x.val : Int) (zShl 1 (d.val : Int)) ≤ 63 := by decide +kernel
theorem tb_an_f : ∀ x : Fin 64, ∀ d b : Fin 6, tb (zAnd (x.val : Int) (zXor (zShl 1 (d.val : Int)) (-1))) (b.val : Int) = (tb (x.val : Int) (b.val : Int) && !decide (b = d)) ∧ 0 ≤ zAnd (x.val : Int) (zXor (zShl 1 (d.val : Int)) (-1)) ∧ zAnd (x.val : Int) (zXor (zShl 1 (d.val : Int)) (-1)) ≤ 63 := by decide +kernel
theorem z_or0_f : ∀ x : Fin 64, zOr (x.val : Int) 0 = (x.val : Int) := by decide +kernel
theorem tb_0_f : ∀ b : Fin 6, tb 0 (b.val : Int) = false := by decide +kernel
/-- a bit set -/
theorem tb_or {x d b : Int} (hx : 0 ≤ x ∧ x ≤ 63) (hd : 0 ≤ d ∧ d < 6) (hb : 0 ≤ b ∧ b < 6) : tb (zOr x (zShl 1 d)) b = (tb x b || decide (b = d)) := by
  obtain ⟨i, rfl⟩ := fin_of (n := 64) hx.1 (by omega)
  obtain ⟨j, rfl⟩ := fin_of (n := 6) hd.1 (by omega)
  obtain ⟨k, rfl⟩ := fin_of (n := 6) hb.1 (by omega)
  rw [(tb_or_f i j k).1]
  congr 1
  rw [decide_eq_decide, Fin.ext_iff]
  omega
theorem or_r {x d : Int} (hx : 0 ≤ x ∧ x ≤ 63) (hd : 0 ≤ d ∧ d < 6) : 0 ≤ zOr x (zShl 1 d) ∧ zOr x (zShl 1 d) ≤ 63 := by
  obtain ⟨i, rfl⟩ := fin_of (n := 64) hx.1 (by omega)
  obtain ⟨j, rfl⟩ := fin_of (n := 6) hd.1 (by omega)
  exact (tb_or_f i j 0).2
/-- a bit cleared -/
theorem tb_an {x d b : Int} (hx : 0 ≤ x ∧ x ≤ 63) (hd : 0 ≤ d ∧ d < 6) (hb : 0 ≤ b ∧ b < 6) : tb (zAnd x (zXor (zShl 1 d) (-1))) b = (tb x b && !decide (b = d)) := by
  obtain ⟨i, rfl⟩ := fin_of (n := 64) hx.1 (by omega)
  obtain ⟨j, rfl⟩ := fin_of (n := 6) hd.1 (by omega)
  obtain ⟨k, rfl⟩ := fin_of (n := 6) hb.1 (by omega)
  rw [(tb_an_f i j k).1]
  congr 2
  rw [decide_eq_decide, Fin.ext_iff]
  omega
theorem an_r {x d : Int} (hx : 0 ≤ x ∧ x ≤ 63) (hd : 0 ≤ d ∧ d < 6) : 0 ≤ zAnd x (zXor (zShl 1 d) (-1)) ∧ zAnd x (zXor (zShl 1 d) (-1)) ≤ 63 := by
  obtain ⟨i, rfl⟩ := fin_of (n := 64) hx.1 (by omega)
  obtain ⟨j, rfl⟩ := fin_of (n := 6) hd.1 (by omega)
  exact (tb_an_f i j 0).2
theorem z_or0 {x : Int} (hx : 0 ≤ x ∧ x ≤ 63) : zOr x 0 = x := by
  obtain ⟨i, rfl⟩ := fin_of (n := 64) hx.1 (by omega)
  exact z_or0_f i
theorem tb_0 {b : Int} (hb : 0 ≤ b ∧ b < 6) : tb 0 b = false := by
  obtain ⟨k, rfl⟩ := fin_of (n := 6) hb.1 (by omega)
  exact tb_0_f k
theorem tb_shl_f : ∀ n m : Fin 7, n.val + m.val ≤ 6 → ∀ x : Fin (2 ^ m.val), 0 ≤ zShl (x.val : Int) (n.val : Int) ∧ zShl (x.val : Int) (n.val : Int) ≤ 63 ∧ ∀ b : Fin 6, tb (zShl (x.val : Int) (n.val : Int)) (b.val : Int) = (decide (n.val ≤ b.val) && tb (x.val : Int) ((b.val : Int) - n.val)) := by decide +kernel
theorem tb_low_f : ∀ x : Fin 64, ∀ m : Fin 7, (∀ b : Fin 6, m.val ≤ b.val → tb (x.val : Int) (b.val : Int) = false) → x.val < 2 ^ m.val := by decide +kernel
/-- moved up -/
theorem tb_shl {x n m : Int} (hx : 0 ≤ x ∧ x ≤ 63) (hn : 0 ≤ n) (hm : 0 ≤ m) (hnm : n + m ≤ 6) (hz : ∀ b : Int, m ≤ b → b < 6 → tb x b = false) : (0 ≤ zShl x n ∧ zShl x n ≤ 63) ∧ ∀ b : Int, 0 ≤ b → b < 6 → tb (zShl x n) b = (decide (n ≤ b) && tb x (b - n)) := by
  obtain ⟨i, rfl⟩ := fin_of (n := 64) hx.1 (by omega)
  obtain ⟨j, rfl⟩ := fin_of (n := 7) hn (by omega)
  obtain ⟨k, rfl⟩ := fin_of (n := 7) hm (by omega)
  have hl := tb_low_f i k (fun b hb => hz (b.val : Int) (by omega) (by omega))
  have h := tb_shl_f j k (by omega) ⟨i.val, hl⟩
  refine ⟨⟨h.1, h.2.1⟩, fun b h1 h2 => ?_⟩
  obtain ⟨q, rfl⟩ := fin_of (n := 6) h1 (by omega)
  rw [h.2.2 q]
  congr 1
  rw [decide_eq_decide]
  omega
/-- what is outside of a world is not marked, not tied -/
def WZ (σ : MS) : Prop := ∀ w a, 0 ≤ w → w < 8 → 0 ≤ a → a < 6 → (σ.2 0 w ≤ a → σ.2 1 (6 * w + a) = 0 ∧ σ.2 2 (6 * w + a) = 0) ∧ ∀ b, σ.2 0 w ≤ b → b < 6 → tb (σ.2 2 (6 * w + a)) b = false
/-- world v is laid as A; newMarks, newTies may change; nothing else -/
def Lays (σ τ : MS) (v : Int) (A : Wd) : Prop := τ.1 = σ.1 ∧ (∀ k, 5 ≤ k → τ.2 k = σ.2 k) ∧ (∀ x, x ≠ v → τ.2 0 x = σ.2 0 x) ∧ τ.2 0 v = A.1 ∧ (∀ i, (i < 6 * v ∨ 6 * v + 6 ≤ i) → τ.2 1 i = σ.2 1 i ∧ τ.2 2 i = σ.2 2 i) ∧ ∀ a, 0 ≤ a → a < 6 → τ.2 1 (6 * v + a) = A.2.1 a ∧ ∀ b, 0 ≤ b → b < 6 → tb (τ.2 2 (6 * v + a)) b = A.2.2 a b
theorem layS_0 {σ : MS} {w n i : Int} : (layS σ w n i).2 0 = σ.2 0 := nrfl rfl
theorem layS_1' {σ : MS} {w n i : Int} : (layS σ w n i).2 1 = fil (σ.2 1) (6 * w) i (fun a => if a < n then σ.2 3 a else 0) := nrfl rfl
theorem layS_2' {σ : MS} {w n i : Int} : (layS σ w n i).2 2 = fil (σ.2 2) (6 * w) i (fun a => if a < n then σ.2 4 a else 0) := nrfl rfl
theorem layS_k {σ : MS} {w n i : Int} {k : Nat} (h1 : k ≠ 1) (h2 : k ≠ 2) : (layS σ w n i).2 k = σ.2 k := by
  funext q
  unfold layS
  rw [sAr_2, if_neg h2, sAr_2, if_neg h1]
theorem lays_of {σ τ : MS} {v n : Int} (h0 : 0 ≤ v ∧ v ≤ 7) (hn : 0 ≤ n ∧ n ≤ 6) (hτ : τ.1 = σ.1) (hk : ∀ k, k ≠ 3 → k ≠ 4 → τ.2 k = σ.2 k)
    (hA : ∀ a, 0 ≤ a → a < n → (0 ≤ τ.2 3 a ∧ τ.2 3 a ≤ 3) ∧ (0 ≤ τ.2 4 a ∧ τ.2 4 a ≤ 63) ∧ ∀ b, n ≤ b → b < 6 → tb (τ.2 4 a) b = false) :
    Lays σ (layS (sA τ 0 v n) v n 6) v (n, fun a => if a < n then τ.2 3 a else 0, fun a b => if a < n then tb (τ.2 4 a) b else false) ∧ (WI σ → WI (layS (sA τ 0 v n) v n 6)) ∧ (WZ σ → WZ (layS (sA τ 0 v n) v n 6)) := by
  have e0 : ∀ x, (layS (sA τ 0 v n) v n 6).2 0 x = if x = v then n else σ.2 0 x := fun x => by
    rw [layS_0, sA_2, if_pos rfl, hk 0 (by decide) (by decide)]
  have e1 : ∀ i, (layS (sA τ 0 v n) v n 6).2 1 i = fil (σ.2 1) (6 * v) 6 (fun a => if a < n then τ.2 3 a else 0) i := fun i => by
    rw [layS_1', ← hk 1 (by decide) (by decide)]; rfl
  have e2 : ∀ i, (layS (sA τ 0 v n) v n 6).2 2 i = fil (σ.2 2) (6 * v) 6 (fun a => if a < n then τ.2 4 a else 0) i := fun i => by
    rw [layS_2', ← hk 2 (by decide) (by decide)]; rfl
  have i1 : ∀ a, 0 ≤ a → a < 6 → (layS (sA τ 0 v n) v n 6).2 1 (6 * v + a) = if a < n then τ.2 3 a else 0 := fun a h1 h2 => by rw [e1, fil_in h1 h2]
  have i2 : ∀ a, 0 ≤ a → a < 6 → (layS (sA τ 0 v n) v n 6).2 2 (6 * v + a) = if a < n then τ.2 4 a else 0 := fun a h1 h2 => by rw [e2, fil_in h1 h2]
  have o1 : ∀ i, (i < 6 * v ∨ 6 * v + 6 ≤ i) → (layS (sA τ 0 v n) v n 6).2 1 i = σ.2 1 i := fun i h => by rw [e1, fil_out h]
  have o2 : ∀ i, (i < 6 * v ∨ 6 * v + 6 ≤ i) → (layS (sA τ 0 v n) v n 6).2 2 i = σ.2 2 i := fun i h => by rw [e2, fil_out h]
  refine ⟨⟨hτ, fun k h5 => ?_, fun x hx => by rw [e0, if_neg hx], by rw [e0, if_pos rfl], fun i h => ⟨o1 i h, o2 i h⟩, fun a h1 h2 => ⟨i1 a h1 h2, fun b h3 h4 => ?_⟩⟩, fun hI => ⟨fun w h1 h2 => ?_, fun i h1 h2 => ?_⟩, fun hZ w a h1 h2 h3 h4 => ?_⟩
  · rw [layS_k (by omega) (by omega)]
    funext q
    rw [sA_2, if_neg (by omega), hk k (by omega) (by omega)]
  · rw [i2 a h1 h2]
    dsimp only
    split
    · rfl
    · exact tb_0 ⟨h3, h4⟩
  · rw [e0]
    split
    · omega
    · exact hI.1 w h1 h2
  · by_cases hi : i < 6 * v ∨ 6 * v + 6 ≤ i
    · rw [o1 i hi, o2 i hi]
      exact hI.2 i h1 h2
    · have q1 := i1 (i - 6 * v) (by omega) (by omega)
      have q2 := i2 (i - 6 * v) (by omega) (by omega)
      rw [show 6 * v + (i - 6 * v) = i by omega] at q1 q2
      rw [q1, q2]
      by_cases ha : i - 6 * v < n
      · rw [if_pos ha, if_pos ha]
        have := hA (i - 6 * v) (by omega) ha
        exact ⟨this.1, this.2.1⟩
      · rw [if_neg ha, if_neg ha]
        omega
  · rw [e0]
    by_cases hw : w = v
    · subst hw
      rw [if_pos rfl, i1 a h3 h4, i2 a h3 h4]
      by_cases ha : a < n
      · rw [if_pos ha, if_pos ha]
        exact ⟨fun q => by omega, (hA a h3 ha).2.2⟩
      · rw [if_neg ha, if_neg ha]
        exact ⟨fun _ => ⟨rfl, rfl⟩, fun b q1 q2 => tb_0 ⟨by omega, q2⟩⟩
    · rw [if_neg hw, o1 _ (by omega), o2 _ (by omega)]
      exact hZ w a h1 h2 h3 h4
