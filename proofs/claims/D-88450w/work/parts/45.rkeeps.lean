/-! ===== the reference: keeps ===== -/
set_option maxRecDepth 100000
theorem addS_1 {σ : MS} {a b : Int} {k : Nat} : (addS σ a b).1 k = if k = 7 then σ.1 7 + 1 else σ.1 k := nrfl rfl
theorem addS_2 {σ : MS} {a b : Int} {k : Nat} (h1 : k ≠ 8) (h2 : k ≠ 9) : (addS σ a b).2 k = σ.2 k := by
  funext q
  show (sA (sA σ 8 (σ.1 7) a) 9 (σ.1 7) b).2 k q = σ.2 k q
  rw [sA_2, if_neg h2, sA_2, if_neg h1]
theorem addS_8 {σ : MS} {a b : Int} : (addS σ a b).2 8 = iup (σ.2 8) (σ.1 7) a := nrfl rfl
theorem addS_9 {σ : MS} {a b : Int} : (addS σ a b).2 9 = iup (σ.2 9) (σ.1 7) b := nrfl rfl
theorem addS_wd {σ : MS} {a b : Int} (w : Int) : wd (addS σ a b) w = wd σ w := wd_of (addS_2 (by decide) (by decide)) (addS_2 (by decide) (by decide)) (addS_2 (by decide) (by decide)) w
theorem addS_WI {σ : MS} {a b : Int} (h : WI σ) : WI (addS σ a b) := WI_of (addS_2 (by decide) (by decide)) (addS_2 (by decide) (by decide)) (addS_2 (by decide) (by decide)) h
theorem addS_RI {σ : MS} {a b n : Int} (h : RI σ n) (hn : σ.1 7 = n) (ha : 0 ≤ a ∧ a < σ.2 0 (σ.1 5)) (hb : 0 ≤ b ∧ b < σ.2 0 (σ.1 6)) : RI (addS σ a b) (n + 1) := by
  refine ⟨h.1, h.2.1, fun j h1 h2 => ?_⟩
  rw [addS_2 (k := 0) (by decide) (by decide), addS_8, addS_9]
  show (0 ≤ iup (σ.2 8) (σ.1 7) a j ∧ iup (σ.2 8) (σ.1 7) a j < σ.2 0 (σ.1 5)) ∧ (0 ≤ iup (σ.2 9) (σ.1 7) b j ∧ iup (σ.2 9) (σ.1 7) b j < σ.2 0 (σ.1 6))
  by_cases hj : j = σ.1 7
  · subst hj
    rw [iup_s, iup_s]
    exact ⟨ha, hb⟩
  · rw [iup_n hj, iup_n hj]
    exact h.2.2 j h1 (by omega)
/-- pushed and popped -/
theorem addS_Kp {σ τ υ : MS} {a b x : Int} (h : Kp σ τ) (hk : Kp (addS τ a b) υ) (hx : x = σ.1 7) : Kp σ (sF υ 7 x) := by
  refine ⟨?_, fun k h1 h2 => ?_, fun j hj => ?_⟩
  · funext k
    rw [sF_1, hk.1, addS_1, h.1]
    by_cases q : k = 7
    · rw [if_pos q, hx, q]
    · rw [if_neg q, if_neg q]
  · rw [sF_2, hk.2.1 k h1 h2, addS_2 h1 h2, h.2.1 k h1 h2]
  · rw [sF_2]
    have e := hk.2.2 j (by rw [addS_1, if_pos rfl, h.1]; omega)
    have q : ¬ j = τ.1 7 := by rw [h.1]; omega
    rw [e.1, e.2, addS_8, addS_9, iup_n q, iup_n q]
    exact h.2.2 j hj
theorem Kp.RI {σ τ : MS} {n : Int} (h : Kp σ τ) (hn : σ.1 7 = n) (hR : RI σ n) : RI τ n := by
  refine ⟨by rw [h.1]; exact hR.1, by rw [h.1]; exact hR.2.1, fun j h1 h2 => ?_⟩
  rw [(h.2.2 j (by omega)).1, (h.2.2 j (by omega)).2, h.1, h.2.1 0 (by decide) (by decide)]
  exact hR.2.2 j h1 h2
/-- what a pick and an answer come to, by the arrays as they are -/
theorem PA_add {σ τ : MS} {a b : Int} {n : Nat} (h : Kp σ τ) (hn : σ.1 7 = n) : PA (wd (addS τ a b) ((addS τ a b).1 5)) (wd (addS τ a b) ((addS τ a b).1 6)) ((addS τ a b).2 8) ((addS τ a b).2 9) n = PA (wd σ (σ.1 5)) (wd σ (σ.1 6)) (iup (σ.2 8) n a) (iup (σ.2 9) n b) n := by
  rw [addS_wd, addS_wd, h.wd, h.wd, addS_1, addS_1, if_neg (by decide), if_neg (by decide), h.1, addS_8, addS_9, h.1, hn]
  refine PA_congr (fun j p1 p2 => ?_) (fun j p1 p2 => ?_)
  · by_cases q : j = n
    · subst q; rw [iup_s, iup_s]
    · rw [iup_n q, iup_n q]; exact (h.2.2 j (by omega)).1
  · by_cases q : j = n
    · subst q; rw [iup_s, iup_s]
    · rw [iup_n q, iup_n q]; exact (h.2.2 j (by omega)).2
theorem AL_add {σ τ : MS} {a b : Int} {n : Nat} (h : Kp σ τ) (hn : σ.1 7 = n) : AL (wd (addS τ a b) ((addS τ a b).1 5)) (wd (addS τ a b) ((addS τ a b).1 6)) ((addS τ a b).2 8) ((addS τ a b).2 9) (n + 1) = AL (wd σ (σ.1 5)) (wd σ (σ.1 6)) (iup (σ.2 8) n a) (iup (σ.2 9) n b) (n + 1) := by
  rw [addS_wd, addS_wd, h.wd, h.wd, addS_1, addS_1, if_neg (by decide), if_neg (by decide), h.1, addS_8, addS_9, h.1, hn]
  refine AL_congr (fun j p1 p2 => ?_) (fun j p1 p2 => ?_)
  · by_cases q : j = n
    · subst q; rw [iup_s, iup_s]
    · rw [iup_n q, iup_n q]; exact (h.2.2 j (by omega)).1
  · by_cases q : j = n
    · subst q; rw [iup_s, iup_s]
    · rw [iup_n q, iup_n q]; exact (h.2.2 j (by omega)).2
theorem KP_add {σ τ : MS} {a b : Int} {n k : Nat} (h : Kp σ τ) (hn : σ.1 7 = n) : KP (wd (addS τ a b) ((addS τ a b).1 5)) (wd (addS τ a b) ((addS τ a b).1 6)) k ((addS τ a b).2 8) ((addS τ a b).2 9) (n + 1) = KP (wd σ (σ.1 5)) (wd σ (σ.1 6)) k (iup (σ.2 8) n a) (iup (σ.2 9) n b) (n + 1) := by
  rw [addS_wd, addS_wd, h.wd, h.wd, addS_1, addS_1, if_neg (by decide), if_neg (by decide), h.1, addS_8, addS_9, h.1, hn]
  refine KP_congr (fun j p1 p2 => ?_) (fun j p1 p2 => ?_)
  · by_cases q : j = n
    · subst q; rw [iup_s, iup_s]
    · rw [iup_n q, iup_n q]; exact (h.2.2 j (by omega)).1
  · by_cases q : j = n
    · subst q; rw [iup_s, iup_s]
    · rw [iup_n q, iup_n q]; exact (h.2.2 j (by omega)).2
