/-! ===== the reference: holds gives what the plain formula gives ===== -/
set_option maxRecDepth 100000
/-- nothing but what a way down changes, from depth d on -/
def HF (d : Int) (σ τ : MS) : Prop := (∀ k, k ≠ 38 → k ≠ 45 → τ.1 k = σ.1 k) ∧ (∀ k, k ≠ 39 → k ≠ 40 → k ≠ 41 → k ≠ 46 → τ.2 k = σ.2 k) ∧ ∀ i, i < d → τ.2 39 i = σ.2 39 i ∧ τ.2 40 i = σ.2 40 i ∧ τ.2 41 i = σ.2 41 i
theorem HF.rf {d : Int} {σ : MS} : HF d σ σ := ⟨fun _ _ _ => rfl, fun _ _ _ _ _ => rfl, fun _ _ => ⟨rfl, rfl, rfl⟩⟩
theorem HF.tr {d : Int} {σ τ υ : MS} (h : HF d σ τ) (k : HF d τ υ) : HF d σ υ := ⟨fun j a b => (k.1 j a b).trans (h.1 j a b), fun j a b c e => (k.2.1 j a b c e).trans (h.2.1 j a b c e), fun i hi => ⟨(k.2.2 i hi).1.trans (h.2.2 i hi).1, (k.2.2 i hi).2.1.trans (h.2.2 i hi).2.1, (k.2.2 i hi).2.2.trans (h.2.2 i hi).2.2⟩⟩
theorem HF.le {d d' : Int} {σ τ : MS} (h : HF d σ τ) (hd : d' ≤ d) : HF d' σ τ := ⟨h.1, h.2.1, fun i hi => h.2.2 i (by omega)⟩
theorem HF.f38 {d x : Int} {σ : MS} : HF d σ (sF σ 38 x) := ⟨fun k a _ => by rw [sF_1, if_neg a], fun _ _ _ _ _ => rfl, fun _ _ => ⟨rfl, rfl, rfl⟩⟩
theorem HF.f45 {d x : Int} {σ : MS} : HF d σ (sF σ 45 x) := ⟨fun k _ a => by rw [sF_1, if_neg a], fun _ _ _ _ _ => rfl, fun _ _ => ⟨rfl, rfl, rfl⟩⟩
theorem HF.a {d i x : Int} {k : Nat} {σ : MS} (hk : k = 39 ∨ k = 40 ∨ k = 41 ∨ k = 46) (hi : d ≤ i ∨ k = 46) : HF d σ (sA σ k i x) := by
  refine ⟨fun _ _ _ => rfl, fun j a b c e => ?_, fun j hj => ?_⟩
  · funext q
    rw [sA_2, if_neg (by omega)]
  · have key : ∀ n : Nat, (n = 39 ∨ n = 40 ∨ n = 41) → (sA σ k i x).2 n j = σ.2 n j := fun n hn => by
      rw [sA_2]
      by_cases e : n = k
      · rw [if_pos e, if_neg (by omega), e]
      · rw [if_neg e]
    exact ⟨key 39 (by omega), key 40 (by omega), key 41 (by omega)⟩
theorem HF.pu {d k nx c : Int} {σ : MS} : HF d σ (puS σ d k nx c) := HF.tr (HF.tr (HF.tr (HF.tr HF.f45 (HF.a (by omega) (Or.inl (Int.le_refl _)))) (HF.a (by omega) (Or.inl (Int.le_refl _)))) (HF.a (by omega) (Or.inl (Int.le_refl _)))) HF.f38
theorem HF.wd {d : Int} {σ τ : MS} (h : HF d σ τ) (w : Int) : wd τ w = wd σ w := wd_of (h.2.1 0 (by decide) (by decide) (by decide) (by decide)) (h.2.1 1 (by decide) (by decide) (by decide) (by decide)) (h.2.1 2 (by decide) (by decide) (by decide) (by decide)) w
theorem HF.WI {d : Int} {σ τ : MS} (h : HF d σ τ) (hI : WI σ) : WI τ := WI_of (h.2.1 0 (by decide) (by decide) (by decide) (by decide)) (h.2.1 1 (by decide) (by decide) (by decide) (by decide)) (h.2.1 2 (by decide) (by decide) (by decide) (by decide)) hI
def TAs (σ : MS) (s : Int) (f : Fo) (p : Int) : Prop := TA (σ.2 19) (σ.2 20) (σ.2 21) (σ.2 22) (600 * s) f p
theorem HF.TA {d s p : Int} {σ τ : MS} {f : Fo} (h : HF d σ τ) (hT : TAs σ s f p) : TAs τ s f p := by
  unfold TAs at hT ⊢
  rw [h.2.1 19 (by decide) (by decide) (by decide) (by decide), h.2.1 20 (by decide) (by decide) (by decide) (by decide), h.2.1 21 (by decide) (by decide) (by decide) (by decide), h.2.1 22 (by decide) (by decide) (by decide) (by decide)]
  exact hT
def HSt (σ : MS) (w d q : Int) (es : ES) : Prop := σ.1 38 = d ∧ σ.1 45 = es.2 ∧ EnR σ w q es.1
/-- what holds has to do for a formula whose first node is asked next -/
def HoF (l : Launch) (δ : Dl) (w0 : Hp) (o : Nat) (z : Nat × Nat) (s w : Int) (f : Fo) (q : Int) (A : Wd) : Prop := ∀ (σ : MS) (es : ES) (k d : Int), WI σ → wd σ w = A → TAs σ s f k → (0 ≤ k ∧ k + Fo.sz f ≤ 600) → (0 ≤ d ∧ d + Fo.ht f ≤ 55) → HSt σ w d q es → (0 ≤ es.2 ∧ es.2 ≤ 100000) → match askF (fun s => Fo.hd A f false s) es with
  | none => ∃ σ', LpH l δ w0 o z s w σ k = some (.inr (.inr (.inl (some (.inl (-6)), mw w0 o σ', z)))) ∧ HF d σ σ'
  | some y => ∃ σ', HF d σ σ' ∧ HSt σ' w d q y.2 ∧ ∀ x, RtH l δ w0 o z s w σ' y.1 x → LpH l δ w0 o z s w σ k = x
theorem EnR.to {σ τ : MS} {w q q' : Int} {e e' : Int → Int} (h : EnR σ w q e) (h0 : τ.2 0 = σ.2 0) (hq : q' ≤ q) (h46 : ∀ m, 1 ≤ m → m ≤ q' → τ.2 46 (m - 1) = σ.2 46 (m - 1)) (he : ∀ m, 1 ≤ m → m ≤ q' → e' m = e m) : EnR τ w q' e' := fun m h1 h2 => by
  rw [h46 m h1 h2, he m h1 h2, h0]
  exact h m h1 (by omega)
section RH3
variable {l : Launch} {δ : Dl} {w0 : Hp} {o : Nat} {z : Nat × Nat} {s w : Int} {A : Wd}
/-- a formula that asks its part is one that is asked itself -/
theorem ask_0 {F : ES → Option (Bool × ES)} {es : ES} (h : es.2 = 100000) : askF F es = none := if_pos (by omega)
theorem ask_1 {F : ES → Option (Bool × ES)} {es : ES} (h : es.2 < 100000) : askF F es = F (es.1, es.2 + 1) := if_neg (by omega)
theorem el_each (hs : 0 ≤ s ∧ s < 20) (hw : 0 ≤ w ∧ w ≤ 5) {f : Fo} {q : Int} (hq : 0 ≤ q ∧ q < 8) (hf : Fo.wf f false (q + 1)) (ih : HoF l δ w0 o z s w f (q + 1) A) {a : Bool} {k d : Int} (hk : 0 ≤ k ∧ k + 1 + Fo.sz f ≤ 600) (hd : 0 ≤ d ∧ d + 1 + Fo.ht f ≤ 55) : ∀ (kk : Nat) (t : Int) (σ : MS) (es : ES), 0 ≤ t → t + kk + 1 = A.1 → WI σ → wd σ w = A → TAs σ s f (k + 1) → σ.2 19 (600 * s + k) = kdQ a → σ.2 20 (600 * s + k) = q → σ.2 39 d = k → σ.2 40 d = t → HSt σ w (d + 1) (q + 1) (iup es.1 (q + 1) t, es.2) → (0 ≤ es.2 ∧ es.2 ≤ 100000) → match itrF a (fun t s => askF (fun s => Fo.hd A f false s) (iup s.1 (q + 1) t, s.2)) (kk + 1) t es with
    | none => ∃ σ', LpH l δ w0 o z s w σ (k + 1) = some (.inr (.inr (.inl (some (.inl (-6)), mw w0 o σ', z)))) ∧ HF d σ σ'
    | some y => ∃ σ', HF d σ σ' ∧ HSt σ' w d q y.2 ∧ ∀ x, RtH l δ w0 o z s w σ' y.1 x → LpH l δ w0 o z s w σ (k + 1) = x := by
  intro kk
  induction kk with
  | zero =>
    intro t σ es t0 tk hI hA hT h19 h20 h39 h40 hS hc
    have hx := ih σ (iup es.1 (q + 1) t, es.2) (k + 1) (d + 1) hI hA hT ⟨by omega, by omega⟩ ⟨by omega, by omega⟩ hS hc
    have hwn := hI.1 w (by omega) (by omega)
    have e0 : σ.2 0 w = A.1 := by rw [← hA]; rfl
    show match (match askF (fun s => Fo.hd A f false s) (iup es.1 (q + 1) t, es.2) with
      | none => none
      | some x => if x.1 = a then itrF a (fun t s => askF (fun s => Fo.hd A f false s) (iup s.1 (q + 1) t, s.2)) 0 (t + 1) x.2 else some x) with
      | none => _
      | some y => _
    cases ho : askF (fun s => Fo.hd A f false s) (iup es.1 (q + 1) t, es.2) with
    | none =>
      rw [ho] at hx
      obtain ⟨σ', h1, h2⟩ := hx
      exact ⟨σ', h1, h2.le (by omega)⟩
    | some y =>
      rw [ho] at hx
      obtain ⟨σ', h1, h2, h3⟩ := hx
      have hpop : ∀ x, RtH l δ w0 o z s w (sF σ' 38 d) y.1 x → LpH l δ w0 o z s w σ (k + 1) = x := fun x hx => h3 x (rt_popQ hs hw ⟨by omega, by omega⟩ h2.1 ((h1.2.2 d (by omega)).1.trans h39) ⟨by omega, by omega⟩ (by rw [h1.2.1 19 (by decide) (by decide) (by decide) (by decide)]; exact h19) (by rw [(h1.2.2 d (by omega)).2.1, h40, h1.2.1 0 (by decide) (by decide) (by decide) (by decide)]; omega) (Or.inr (by rw [(h1.2.2 d (by omega)).2.1, h40, h1.2.1 0 (by decide) (by decide) (by decide) (by decide)]; omega)) hx)
      have hE : EnR (sF σ' 38 d) w q y.2.1 := EnR.to (q := q + 1) h2.2.2 rfl (by omega) (fun _ _ _ => rfl) (fun _ _ _ => rfl)
      dsimp only
      by_cases hya : y.1 = a
      · rw [if_pos hya]
        refine ⟨sF σ' 38 d, (h1.le (by omega)).tr HF.f38, ⟨rfl, h2.2.1, hE⟩, fun x hx => hpop x ?_⟩
        rw [hya]; exact hx
      · rw [if_neg hya]
        exact ⟨sF σ' 38 d, (h1.le (by omega)).tr HF.f38, ⟨rfl, h2.2.1, hE⟩, hpop⟩
  | succ kk ih2 =>
    intro t σ es t0 tk hI hA hT h19 h20 h39 h40 hS hc
    have hx := ih σ (iup es.1 (q + 1) t, es.2) (k + 1) (d + 1) hI hA hT ⟨by omega, by omega⟩ ⟨by omega, by omega⟩ hS hc
    have hwn := hI.1 w (by omega) (by omega)
    have e0 : σ.2 0 w = A.1 := by rw [← hA]; rfl
    show match (match askF (fun s => Fo.hd A f false s) (iup es.1 (q + 1) t, es.2) with
      | none => none
      | some x => if x.1 = a then itrF a (fun t s => askF (fun s => Fo.hd A f false s) (iup s.1 (q + 1) t, s.2)) (kk + 1) (t + 1) x.2 else some x) with
      | none => _
      | some y => _
    cases ho : askF (fun s => Fo.hd A f false s) (iup es.1 (q + 1) t, es.2) with
    | none =>
      rw [ho] at hx
      obtain ⟨σ', h1, h2⟩ := hx
      exact ⟨σ', h1, h2.le (by omega)⟩
    | some y =>
      rw [ho] at hx
      obtain ⟨σ', h1, h2, h3⟩ := hx
      have hl : esL (q + 1) (iup es.1 (q + 1) t, es.2) y.2 := ask_l (q := q + 1) (fun s x hs hx => hd_l hf false s x hs hx) ho
      have w39 := (h1.2.2 d (by omega)).1.trans h39
      have w40 := (h1.2.2 d (by omega)).2.1.trans h40
      have a0 : σ'.2 0 = σ.2 0 := h1.2.1 0 (by decide) (by decide) (by decide) (by decide)
      have a19 : σ'.2 19 = σ.2 19 := h1.2.1 19 (by decide) (by decide) (by decide) (by decide)
      have a20 : σ'.2 20 = σ.2 20 := h1.2.1 20 (by decide) (by decide) (by decide) (by decide)
      dsimp only
      by_cases hya : y.1 = a
      · rw [if_pos hya]
        have h46 : ∀ m, (sA (sA σ' 40 d (t + 1)) 46 q (t + 1)).2 46 m = if m = q then t + 1 else σ'.2 46 m := fun m => by
          rw [sA_2, if_pos rfl, sA_2, if_neg (show ¬ (46 : Nat) = 40 by decide)]
        have hs2 : HSt (sA (sA σ' 40 d (t + 1)) 46 q (t + 1)) w (d + 1) (q + 1) (iup y.2.1 (q + 1) (t + 1), y.2.2) := by
          refine ⟨h2.1, h2.2.1, fun m m1 m2 => ?_⟩
          rw [h46, show (sA (sA σ' 40 d (t + 1)) 46 q (t + 1)).2 0 w = σ'.2 0 w from rfl, a0]
          dsimp only
          by_cases e : m = q + 1
          · subst e
            rw [if_pos (by omega), iup_s]
            omega
          · rw [if_neg (by omega), iup_n e]
            have := h2.2.2 m m1 m2
            rw [a0] at this
            exact this
        have hF2 : HF (d : Int) σ (sA (sA σ' 40 d (t + 1)) 46 q (t + 1)) := ((h1.le (by omega)).tr (HF.a (by omega) (Or.inl (Int.le_refl _)))).tr (HF.a (by omega) (Or.inr rfl))
        have := ih2 (t + 1) (sA (sA σ' 40 d (t + 1)) 46 q (t + 1)) y.2 (by omega) (by omega) (hF2.WI hI) (by rw [hF2.wd]; exact hA) (hF2.TA hT) (by rw [hF2.2.1 19 (by decide) (by decide) (by decide) (by decide)]; exact h19) (by rw [hF2.2.1 20 (by decide) (by decide) (by decide) (by decide)]; exact h20) (by rw [sA_2, if_neg (by decide), sA_2, if_neg (by decide)]; exact w39) (by rw [sA_2, if_neg (by decide), sA_2, if_pos rfl, if_pos rfl]) hs2 ⟨by have := hl.2.1; have e : ((iup es.1 (q + 1) t, es.2) : ES).2 = es.2 := rfl; rw [e] at this; omega, hl.2.2⟩
        have hgo : ∀ x, LpH l δ w0 o z s w (sA (sA σ' 40 d (t + 1)) 46 q (t + 1)) (k + 1) = x → LpH l δ w0 o z s w σ (k + 1) = x := fun x hx => h3 x (by
          rw [hya]
          exact rt_nextQ hs hw ⟨by omega, by omega⟩ h2.1 w39 ⟨by omega, by omega⟩ (by rw [a19]; exact h19) w40 ⟨by omega, by rw [a0]; omega⟩ (by rw [a0]; omega) (by rw [a20]; exact h20) ⟨by omega, by omega⟩ hx)
        cases hi : itrF a (fun t s => askF (fun s => Fo.hd A f false s) (iup s.1 (q + 1) t, s.2)) (kk + 1) (t + 1) y.2 with
        | none =>
          rw [hi] at this
          obtain ⟨σ2, g1, g2⟩ := this
          exact ⟨σ2, hgo _ g1, hF2.tr g2⟩
        | some u =>
          rw [hi] at this
          obtain ⟨σ2, g1, g2, g3⟩ := this
          exact ⟨σ2, hF2.tr g1, g2, fun x hx => hgo x (g3 x hx)⟩
      · rw [if_neg hya]
        refine ⟨sF σ' 38 d, (h1.le (by omega)).tr HF.f38, ⟨rfl, h2.2.1, EnR.to (q := q + 1) h2.2.2 rfl (by omega) (fun _ _ _ => rfl) (fun _ _ _ => rfl)⟩, fun x hx => h3 x (rt_popQ hs hw ⟨by omega, by omega⟩ h2.1 w39 ⟨by omega, by omega⟩ (by rw [a19]; exact h19) (by rw [w40, a0]; omega) (Or.inl hya) hx)⟩
/-- every formula; every row of parts, the first of which is asked next -/
theorem e_hold (hs : 0 ≤ s ∧ s < 20) (hw : 0 ≤ w ∧ w ≤ 5) (hA1 : 1 ≤ A.1) {f : Fo} {b : Bool} {q : Int} (hf : Fo.wf f b q) : (b = false → (0 ≤ q ∧ q ≤ 8) → HoF l δ w0 o z s w f q A) ∧ (b = true → (0 ≤ q ∧ q ≤ 8) → ∀ (σ : MS) (es : ES) (k p d : Int) (a : Bool), WI σ → wd σ w = A → TAs σ s f p → (0 ≤ k ∧ k < p ∧ p + Fo.sz f ≤ 600) → (0 ≤ d ∧ d + 1 + Fo.ht f ≤ 55) → HSt σ w (d + 1) q es → (0 ≤ es.2 ∧ es.2 ≤ 100000) → σ.2 19 (600 * s + k) = kdM a → σ.2 22 (600 * s + k) = p + Fo.sz f → σ.2 39 d = k → 1 ≤ Fo.len f → σ.2 41 d = σ.2 22 (600 * s + p) → match Fo.hd A f a es with
    | none => ∃ σ', LpH l δ w0 o z s w σ p = some (.inr (.inr (.inl (some (.inl (-6)), mw w0 o σ', z)))) ∧ HF d σ σ'
    | some y => ∃ σ', HF d σ σ' ∧ HSt σ' w d q y.2 ∧ ∀ x, RtH l δ w0 o z s w σ' y.1 x → LpH l δ w0 o z s w σ p = x) := by
  induction f, b, q, hf using wf_ind with
  | atom kd vm vn q h =>
    refine ⟨fun _ hq σ es k d hI hA hT hk hd hS hc => ?_, fun z => by cases z⟩
    rw [sz_atom h] at hk
    unfold TAs at hT
    rw [TA_atom h] at hT
    obtain ⟨t1, t2, t3, t4⟩ := hT
    have hkr := okA_r h
    by_cases h5 : es.2 = 100000
    · rw [ask_0 h5]
      exact ⟨_, lp_spent hs ⟨by omega, by omega⟩ (hS.2.1.trans h5), HF.f45⟩
    · rw [ask_1 (by omega), hd_atom h]
      refine ⟨sF σ 45 (es.2 + 1), HF.f45, ⟨hS.1, rfl, hS.2.2⟩, fun x hx => lp_atom hs ⟨by omega, by omega⟩ hS.2.1 ⟨by omega, by omega⟩ (by rw [t1]; omega) ?_ hx⟩
      have := e_isAtom (l := l) (δ := δ) (w0 := w0) (o := o) (σ := sF σ 45 (es.2 + 1)) (z := z) (w := w) (i := 600 * s + k) (k := kd) (vm := vm) (vn := vn) (q := q) (e := es.1) hI h hw ⟨by omega, by omega⟩ t1 t2 t3 hS.2.2 hq.2
      rw [show wd (sF σ 45 (es.2 + 1)) w = wd σ w from rfl, hA] at this
      exact this
  | not f q h ih =>
    refine ⟨fun _ hq σ es k d hI hA hT hk hd hS hc => ?_, fun z => by cases z⟩
    rw [sz_not] at hk
    rw [ht_not] at hd
    unfold TAs at hT
    rw [TA_not] at hT
    obtain ⟨t1, t2, t3, t4, t5⟩ := hT
    have sp := sz_pos h
    by_cases h5 : es.2 = 100000
    · rw [ask_0 h5]
      exact ⟨_, lp_spent hs ⟨by omega, by omega⟩ (hS.2.1.trans h5), HF.f45⟩
    · rw [ask_1 (by omega), hd_not]
      have hF1 : HF d σ (puS σ d k (σ.2 22 (600 * s + k + 1)) (es.2 + 1)) := HF.pu
      have hgo : ∀ x, LpH l δ w0 o z s w (puS σ d k (σ.2 22 (600 * s + k + 1)) (es.2 + 1)) (k + 1) = x → LpH l δ w0 o z s w σ k = x := fun x hx => lp_push hs ⟨by omega, by omega⟩ hS.2.1 ⟨by omega, by omega⟩ ⟨by omega, by omega⟩ hS.1 (Or.inl t1) hx
      have hx := ih.1 rfl hq (puS σ d k (σ.2 22 (600 * s + k + 1)) (es.2 + 1)) (es.1, es.2 + 1) (k + 1) (d + 1) (hF1.WI hI) (by rw [hF1.wd]; exact hA) (hF1.TA t5) ⟨by omega, by omega⟩ ⟨by omega, by omega⟩ ⟨rfl, rfl, hS.2.2⟩ ⟨by show 0 ≤ es.2 + 1; omega, by show es.2 + 1 ≤ 100000; omega⟩
      cases ho : askF (fun s => Fo.hd A f false s) (es.1, es.2 + 1) with
      | none =>
        rw [ho] at hx
        obtain ⟨σ', h1, h2⟩ := hx
        exact ⟨σ', hgo _ h1, hF1.tr (h2.le (by omega))⟩
      | some y =>
        rw [ho] at hx
        obtain ⟨σ', h1, h2, h3⟩ := hx
        have n39 : (puS σ d k (σ.2 22 (600 * s + k + 1)) (es.2 + 1)).2 39 d = k := by
          show (sA (sA (sA (sF σ 45 (es.2 + 1)) 39 d k) 40 d 0) 41 d (σ.2 22 (600 * s + k + 1))).2 39 d = k
          rw [sA_2, if_neg (by decide), sA_2, if_neg (by decide), sA_2, if_pos rfl, if_pos rfl]
        refine ⟨sF σ' 38 d, (hF1.tr (h1.le (by omega))).tr HF.f38, ⟨rfl, h2.2.1, h2.2.2⟩, fun x hx => hgo x (h3 x (rt_not hs ⟨by omega, by omega⟩ h2.1 ((h1.2.2 d (by omega)).1.trans n39) ⟨by omega, by omega⟩ ?_ hx))⟩
        rw [(hF1.tr (h1.le (by omega))).2.1 19 (by decide) (by decide) (by decide) (by decide)]
        exact t1
  | each a f q hq8 h ih =>
    refine ⟨fun _ hq σ es k d hI hA hT hk hd hS hc => ?_, fun z => by cases z⟩
    rw [sz_each] at hk
    rw [ht_each] at hd
    unfold TAs at hT
    rw [TA_each] at hT
    obtain ⟨t1, t2, t3, t4, t5⟩ := hT
    have sp := sz_pos h
    have r1 : rvN (q + 1) = q := by unfold rvN; rw [if_neg (by omega)]; omega
    rw [r1] at t2
    have e0 : σ.2 0 w = A.1 := by rw [← hA]; rfl
    by_cases h5 : es.2 = 100000
    · rw [ask_0 h5]
      exact ⟨_, lp_spent hs ⟨by omega, by omega⟩ (hS.2.1.trans h5), HF.f45⟩
    · rw [ask_1 (by omega), hd_each]
      have hF1 : HF d σ (sA (puS σ d k (σ.2 22 (600 * s + k + 1)) (es.2 + 1)) 46 q 0) := HF.tr HF.pu (HF.a (by omega) (Or.inr rfl))
      have hgo : ∀ x, LpH l δ w0 o z s w (sA (puS σ d k (σ.2 22 (600 * s + k + 1)) (es.2 + 1)) 46 q 0) (k + 1) = x → LpH l δ w0 o z s w σ k = x := fun x hx => lp_pushQ hs ⟨by omega, by omega⟩ hS.2.1 ⟨by omega, by omega⟩ ⟨by omega, by omega⟩ hS.1 t1 t2 ⟨by omega, by omega⟩ hx
      have hS1 : HSt (sA (puS σ d k (σ.2 22 (600 * s + k + 1)) (es.2 + 1)) 46 q 0) w (d + 1) (q + 1) (iup (es.1, es.2 + 1).1 (q + 1) 0, (es.1, es.2 + 1).2) := by
        refine ⟨rfl, rfl, fun m m1 m2 => ?_⟩
        dsimp only
        rw [show (sA (puS σ d k (σ.2 22 (600 * s + k + 1)) (es.2 + 1)) 46 q 0).2 46 (m - 1) = if m - 1 = q then 0 else σ.2 46 (m - 1) from rfl, show (sA (puS σ d k (σ.2 22 (600 * s + k + 1)) (es.2 + 1)) 46 q 0).2 0 w = σ.2 0 w from rfl]
        by_cases e : m = q + 1
        · subst e
          rw [if_pos (by omega), iup_s]
          omega
        · rw [if_neg (by omega), iup_n e]
          exact hS.2.2 m m1 (by omega)
      have hx := el_each (l := l) (δ := δ) (w0 := w0) (o := o) (z := z) hs hw hq8 h (ih.1 rfl ⟨by omega, by omega⟩) (a := a) (k := k) (d := d) ⟨by omega, by omega⟩ ⟨by omega, by omega⟩ (A.1.toNat - 1) 0 _ (es.1, es.2 + 1) (by omega) (by omega) (hF1.WI hI) (by rw [hF1.wd]; exact hA) (hF1.TA t5) (by rw [hF1.2.1 19 (by decide) (by decide) (by decide) (by decide)]; exact t1) (by rw [hF1.2.1 20 (by decide) (by decide) (by decide) (by decide)]; exact t2) (by rw [sA_2, if_neg (by decide)]; show (sA (sA (sA (sF σ 45 (es.2 + 1)) 39 d k) 40 d 0) 41 d (σ.2 22 (600 * s + k + 1))).2 39 d = k; rw [sA_2, if_neg (by decide), sA_2, if_neg (by decide), sA_2, if_pos rfl, if_pos rfl]) (by rw [sA_2, if_neg (by decide)]; show (sA (sA (sA (sF σ 45 (es.2 + 1)) 39 d k) 40 d 0) 41 d (σ.2 22 (600 * s + k + 1))).2 40 d = 0; rw [sA_2, if_neg (by decide), sA_2, if_pos rfl, if_pos rfl]) hS1 ⟨by show 0 ≤ es.2 + 1; omega, by show es.2 + 1 ≤ 100000; omega⟩
      rw [show A.1.toNat - 1 + 1 = A.1.toNat by omega] at hx
      cases ho : itrF a (fun t s => askF (fun s => Fo.hd A f false s) (iup s.1 (q + 1) t, s.2)) A.1.toNat 0 (es.1, es.2 + 1) with
      | none =>
        rw [ho] at hx
        obtain ⟨σ', h1, h2⟩ := hx
        exact ⟨σ', hgo _ h1, hF1.tr h2⟩
      | some y =>
        rw [ho] at hx
        obtain ⟨σ', h1, h2, h3⟩ := hx
        exact ⟨σ', hF1.tr h1, h2, fun x hx => hgo x (h3 x hx)⟩
  | many a t q h2 h ih =>
    refine ⟨fun _ hq σ es k d hI hA hT hk hd hS hc => ?_, fun z => by cases z⟩
    rw [sz_many] at hk
    rw [ht_many] at hd
    unfold TAs at hT
    rw [TA_many] at hT
    obtain ⟨t1, t2, t3, t4, t5⟩ := hT
    have sp : 1 ≤ Fo.sz t := by
      rcases wf_r h with rfl | ⟨g, u, rfl, hg, hu⟩
      · rw [len_nil] at h2; omega
      · rw [sz_cons]; have := sz_pos hg; omega
    by_cases h5 : es.2 = 100000
    · rw [ask_0 h5]
      exact ⟨_, lp_spent hs ⟨by omega, by omega⟩ (hS.2.1.trans h5), HF.f45⟩
    · rw [ask_1 (by omega), hd_many]
      have hF1 : HF d σ (puS σ d k (σ.2 22 (600 * s + k + 1)) (es.2 + 1)) := HF.pu
      have hgo : ∀ x, LpH l δ w0 o z s w (puS σ d k (σ.2 22 (600 * s + k + 1)) (es.2 + 1)) (k + 1) = x → LpH l δ w0 o z s w σ k = x := fun x hx => lp_push hs ⟨by omega, by omega⟩ hS.2.1 ⟨by omega, by omega⟩ ⟨by omega, by omega⟩ hS.1 (Or.inr (by rw [t1]; have := kdM_r a; omega)) hx
      have hx := ih.2 rfl hq (puS σ d k (σ.2 22 (600 * s + k + 1)) (es.2 + 1)) (es.1, es.2 + 1) k (k + 1) d a (hF1.WI hI) (by rw [hF1.wd]; exact hA) (hF1.TA t5) ⟨by omega, by omega, by omega⟩ ⟨by omega, by omega⟩ ⟨rfl, rfl, hS.2.2⟩ ⟨by show 0 ≤ es.2 + 1; omega, by show es.2 + 1 ≤ 100000; omega⟩ t1 t4 (by show (sA (sA (sA (sF σ 45 (es.2 + 1)) 39 d k) 40 d 0) 41 d (σ.2 22 (600 * s + k + 1))).2 39 d = k; rw [sA_2, if_neg (by decide), sA_2, if_neg (by decide), sA_2, if_pos rfl, if_pos rfl]) (by omega) (by show (sA (sA (sA (sF σ 45 (es.2 + 1)) 39 d k) 40 d 0) 41 d (σ.2 22 (600 * s + k + 1))).2 41 d = σ.2 22 (600 * s + (k + 1)); rw [sA_2, if_pos rfl, if_pos rfl, show 600 * s + (k + 1) = 600 * s + k + 1 by omega])
      cases ho : Fo.hd A t a (es.1, es.2 + 1) with
      | none =>
        rw [ho] at hx
        obtain ⟨σ', h1, h2⟩ := hx
        exact ⟨σ', hgo _ h1, hF1.tr h2⟩
      | some y =>
        rw [ho] at hx
        obtain ⟨σ', h1, h2, h3⟩ := hx
        exact ⟨σ', hF1.tr h1, h2, fun x hx => hgo x (h3 x hx)⟩
  | nil q =>
    refine ⟨fun z => (by cases z), fun _ hq σ es k p d a hI hA hT hk hd hS hc h19 h22 h39 hl h41 => ?_⟩
    rw [len_nil] at hl
    omega
  | cons g t q hg ht ig it =>
    refine ⟨fun z => (by cases z), fun _ hq σ es k p d a hI hA hT hk hd hS hc h19 h22 h39 hl h41 => ?_⟩
    rw [sz_cons] at hk h22
    rw [ht_cons] at hd
    unfold TAs at hT
    rw [TA_cons] at hT
    obtain ⟨tg, tt⟩ := hT
    have eg := TA_end hg tg
    have gp := sz_pos hg
    have hx := ig.1 rfl hq σ es p (d + 1) hI hA tg ⟨by omega, by omega⟩ ⟨by omega, by omega⟩ hS hc
    rw [hd_cons]
    cases ho : askF (fun s => Fo.hd A g false s) es with
    | none =>
      rw [ho] at hx
      obtain ⟨σ', h1, h2⟩ := hx
      exact ⟨σ', h1, h2.le (by omega)⟩
    | some y =>
      rw [ho] at hx
      obtain ⟨σ', h1, h2, h3⟩ := hx
      have hl2 : esL q es y.2 := ask_l (q := q) (fun s x hs hx => hd_l hg false s x hs hx) ho
      have w39 := (h1.2.2 d (by omega)).1.trans h39
      have w41 := (h1.2.2 d (by omega)).2.2.trans h41
      rw [eg] at w41
      have a19 : σ'.2 19 = σ.2 19 := h1.2.1 19 (by decide) (by decide) (by decide) (by decide)
      have a22 : σ'.2 22 = σ.2 22 := h1.2.1 22 (by decide) (by decide) (by decide) (by decide)
      have k19 : σ'.2 19 (600 * s + k) = kdM a := by rw [a19]; exact h19
      have k22 : σ'.2 22 (600 * s + k) = p + (Fo.sz g + Fo.sz t : Nat) := by rw [a22]; exact h22
      unfold rowF
      dsimp only
      have hpop : (y.1 ≠ a ∨ Fo.len t = 0) → ∀ x, RtH l δ w0 o z s w (sF σ' 38 d) y.1 x → LpH l δ w0 o z s w σ p = x := fun hb x hx => h3 x (rt_popM hs ⟨by omega, by omega⟩ h2.1 w39 ⟨by omega, by omega⟩ k19 (by rw [w41, k22]; omega) (by
        rcases hb with hb | hb
        · exact Or.inl hb
        · refine Or.inr ?_
          rw [len_0 ht hb, sz_nil] at k22
          rw [w41, k22]
          omega) hx)
      by_cases hya : y.1 = a
      · rw [if_pos hya]
        by_cases ht0 : Fo.len t = 0
        · rw [len_0 ht ht0, hd_nil]
          refine ⟨sF σ' 38 d, (h1.le (by omega)).tr HF.f38, ⟨rfl, h2.2.1, h2.2.2⟩, fun x hx => hpop (Or.inr ht0) x ?_⟩
          rw [hya]; exact hx
        · have tp : 1 ≤ Fo.sz t := by
            rcases wf_r ht with rfl | ⟨g', u, rfl, hg', hu⟩
            · exact absurd len_nil ht0
            · rw [sz_cons]; have := sz_pos hg'; omega
          have hF2 : HF d σ (sA σ' 41 d (σ'.2 22 (600 * s + (p + Fo.sz g)))) := (h1.le (by omega)).tr (HF.a (by omega) (Or.inl (Int.le_refl _)))
          have hgo : ∀ x, LpH l δ w0 o z s w (sA σ' 41 d (σ'.2 22 (600 * s + (p + Fo.sz g)))) (p + Fo.sz g) = x → LpH l δ w0 o z s w σ p = x := fun x hx => h3 x (by
            rw [hya]
            exact rt_nextM hs ⟨by omega, by omega⟩ h2.1 w39 ⟨by omega, by omega⟩ k19 w41 ⟨by omega, by omega⟩ (by rw [k22]; omega) (by rw [k22]; omega) hx)
          have hx2 := it.2 rfl hq (sA σ' 41 d (σ'.2 22 (600 * s + (p + Fo.sz g)))) y.2 k (p + Fo.sz g) d a (hF2.WI hI) (by rw [hF2.wd]; exact hA) (hF2.TA tt) ⟨by omega, by omega, by omega⟩ ⟨by omega, by omega⟩ ⟨h2.1, h2.2.1, h2.2.2⟩ ⟨by have := hl2.2.1; omega, hl2.2.2⟩ k19 (by show σ'.2 22 (600 * s + k) = _; rw [k22]; omega) (by rw [sA_2, if_neg (by decide)]; exact w39) (by omega) (by rw [sA_2, if_pos rfl, if_pos rfl]; rfl)
          cases hi : Fo.hd A t a y.2 with
          | none =>
            rw [hi] at hx2
            obtain ⟨σ2, g1, g2⟩ := hx2
            exact ⟨σ2, hgo _ g1, hF2.tr g2⟩
          | some u =>
            rw [hi] at hx2
            obtain ⟨σ2, g1, g2, g3⟩ := hx2
            exact ⟨σ2, hF2.tr g1, g2, fun x hx => hgo x (g3 x hx)⟩
      · rw [if_neg hya]
        exact ⟨sF σ' 38 d, (h1.le (by omega)).tr HF.f38, ⟨rfl, h2.2.1, h2.2.2⟩, hpop (Or.inl hya)⟩
end RH3
theorem e_noSentence_1 {l : Launch} {δ : Dl} {w0 : Hp} {o : Nat} {σ : MS} {z : Nat × Nat} {s : Int} (h0 : 0 ≤ s ∧ s < σ.1 17) (h1 : σ.1 17 ≤ 20) : (M_X1_noSentence l δ).1 [.inr (.inr (some o)), .inl (s)] (mw w0 o σ, z) = some (.inl (some (.inl (0))), mw w0 o (σ), z) := by
  have e := e_in (l := l) (δ := δ) (w0 := w0) (o := o) (σ := σ) (z := z) (v := s) (lo := 0) (hi := σ.1 17 - 1) (by omega) (by omega) (by omega)
  rw [decide_eq_true (by omega)] at e
  rw [N_X1_noSentence]; unfold B_X1_noSentence
  simp (disch := first | rfl | (simp only [wt_c, wt_0, vc_i, vc_l, vc_r] <;> decide) | omega | exact i32_r _ | exact b2i_r _ | exact b2i_01 _ | exact zAnd_r _ _ | exact zOr_r _ _ | exact zXor_r _ _ | exact zShl_r _ _ | exact zShr_r _ _ | exact zByte_r _ | exact zcmp_r _ _ | decide) only [Bool.decide_eq_true, Bool.decide_eq_false, ↓if_pos, ↓if_neg, ↓reduceIte, Nat.reduceEqDiff, Int.reduceLE, Int.reduceLT, Int.reduceEq, Int.reduceNe, Nat.reduceBEq, Int.reduceAdd, Int.reduceMul, Int.reduceSub, Int.reduceNeg, Nat.reduceAdd, not_false_eq_true, not_true_eq_false, decide_true, decide_false, Bool.not_true, Bool.not_false, Bool.true_and, Bool.false_and, Bool.and_true, Bool.and_false, Bool.true_or, Bool.false_or, Bool.or_true, Bool.or_false, Bool.not_not, decide_not, Decidable.not_not, ite_not, b2i_t, b2i_f, ne_eq, Bool.not_eq_true, Bool.not_eq_false, decide_eq_true_eq, decide_eq_false_iff_not, Bool.false_eq_true, Bool.true_eq_false, reduceCtorEq, if_true, if_false, ite_self, ite_b0, ite_b1, ite_0b, ite_1b, ite_bb, x_done, x_blk, x_lp, x_er, erL_0, erL_t, erL_f, kl_n, kl_i, kl_r, kl_l, bd_i, bd_r, bk_i, bk_e, bk_n, bk_r, bd_ite, bk_ite, lk_i, lk_e, lk_n, lk_r, lk_ite, ite_nx, b2i_i, b2i_n, b2i_0, b2i_1, b2i_e, bres_r, bres_ite, mres_v, mres_n, sF_1, sF_2, sA_1, sA_2, x_iload_n1, x_iconst, x_aload_n0, m_get, fM_17, x_isub, z_call3, x_if_ne, x_goto, x_zreturn, e]
theorem e_noSentence_0 {l : Launch} {δ : Dl} {w0 : Hp} {o : Nat} {σ : MS} {z : Nat × Nat} {s : Int} (hr : -2147483648 ≤ s ∧ s ≤ 2147483647) (h0 : ¬ (0 ≤ s ∧ s < σ.1 17)) (h1 : 0 ≤ σ.1 17 ∧ σ.1 17 ≤ 20) : (M_X1_noSentence l δ).1 [.inr (.inr (some o)), .inl (s)] (mw w0 o σ, z) = some (.inl (some (.inl (1))), mw w0 o (σ), z) := by
  have e := e_in (l := l) (δ := δ) (w0 := w0) (o := o) (σ := σ) (z := z) (v := s) (lo := 0) (hi := σ.1 17 - 1) (by omega) (by omega) (by omega)
  rw [decide_eq_false (by omega)] at e
  rw [N_X1_noSentence]; unfold B_X1_noSentence
  simp (disch := first | rfl | (simp only [wt_c, wt_0, vc_i, vc_l, vc_r] <;> decide) | omega | exact i32_r _ | exact b2i_r _ | exact b2i_01 _ | exact zAnd_r _ _ | exact zOr_r _ _ | exact zXor_r _ _ | exact zShl_r _ _ | exact zShr_r _ _ | exact zByte_r _ | exact zcmp_r _ _ | decide) only [Bool.decide_eq_true, Bool.decide_eq_false, ↓if_pos, ↓if_neg, ↓reduceIte, Nat.reduceEqDiff, Int.reduceLE, Int.reduceLT, Int.reduceEq, Int.reduceNe, Nat.reduceBEq, Int.reduceAdd, Int.reduceMul, Int.reduceSub, Int.reduceNeg, Nat.reduceAdd, not_false_eq_true, not_true_eq_false, decide_true, decide_false, Bool.not_true, Bool.not_false, Bool.true_and, Bool.false_and, Bool.and_true, Bool.and_false, Bool.true_or, Bool.false_or, Bool.or_true, Bool.or_false, Bool.not_not, decide_not, Decidable.not_not, ite_not, b2i_t, b2i_f, ne_eq, Bool.not_eq_true, Bool.not_eq_false, decide_eq_true_eq, decide_eq_false_iff_not, Bool.false_eq_true, Bool.true_eq_false, reduceCtorEq, if_true, if_false, ite_self, ite_b0, ite_b1, ite_0b, ite_1b, ite_bb, x_done, x_blk, x_lp, x_er, erL_0, erL_t, erL_f, kl_n, kl_i, kl_r, kl_l, bd_i, bd_r, bk_i, bk_e, bk_n, bk_r, bd_ite, bk_ite, lk_i, lk_e, lk_n, lk_r, lk_ite, ite_nx, b2i_i, b2i_n, b2i_0, b2i_1, b2i_e, bres_r, bres_ite, mres_v, mres_n, sF_1, sF_2, sA_1, sA_2, x_iload_n1, x_iconst, x_aload_n0, m_get, fM_17, x_isub, z_call3, x_if_ne, x_goto, x_zreturn, e]
theorem e_asked {l : Launch} {δ : Dl} {w0 : Hp} {o : Nat} {σ : MS} {z : Nat × Nat}  : (M_X1_asked l δ).1 [.inr (.inr (some o))] (mw w0 o σ, z) = some (.inl (some (.inl (σ.1 44))), mw w0 o (σ), z) := by
  rw [N_X1_asked]; unfold B_X1_asked
  simp (disch := first | rfl | (simp only [wt_c, wt_0, vc_i, vc_l, vc_r] <;> decide) | omega | exact i32_r _ | exact b2i_r _ | exact b2i_01 _ | exact zAnd_r _ _ | exact zOr_r _ _ | exact zXor_r _ _ | exact zShl_r _ _ | exact zShr_r _ _ | exact zByte_r _ | exact zcmp_r _ _ | decide) only [Bool.decide_eq_true, Bool.decide_eq_false, ↓if_pos, ↓if_neg, ↓reduceIte, Nat.reduceEqDiff, Int.reduceLE, Int.reduceLT, Int.reduceEq, Int.reduceNe, Nat.reduceBEq, Int.reduceAdd, Int.reduceMul, Int.reduceSub, Int.reduceNeg, Nat.reduceAdd, not_false_eq_true, not_true_eq_false, decide_true, decide_false, Bool.not_true, Bool.not_false, Bool.true_and, Bool.false_and, Bool.and_true, Bool.and_false, Bool.true_or, Bool.false_or, Bool.or_true, Bool.or_false, Bool.not_not, decide_not, Decidable.not_not, ite_not, b2i_t, b2i_f, ne_eq, Bool.not_eq_true, Bool.not_eq_false, decide_eq_true_eq, decide_eq_false_iff_not, Bool.false_eq_true, Bool.true_eq_false, reduceCtorEq, if_true, if_false, ite_self, ite_b0, ite_b1, ite_0b, ite_1b, ite_bb, x_done, x_blk, x_lp, x_er, erL_0, erL_t, erL_f, kl_n, kl_i, kl_r, kl_l, bd_i, bd_r, bk_i, bk_e, bk_n, bk_r, bd_ite, bk_ite, lk_i, lk_e, lk_n, lk_r, lk_ite, ite_nx, b2i_i, b2i_n, b2i_0, b2i_1, b2i_e, bres_r, bres_ite, mres_v, mres_n, sF_1, sF_2, sA_1, sA_2, x_aload_n0, m_get, fM_44, x_ireturn]
theorem e_holds_0 {l : Launch} {δ : Dl} {w0 : Hp} {o : Nat} {σ : MS} {z : Nat × Nat} (hI : WI σ) {s w : Int} (hr : -2147483648 ≤ s ∧ s ≤ 2147483647) (hq : -2147483648 ≤ w ∧ w ≤ 2147483647) (h1 : 0 ≤ σ.1 17 ∧ σ.1 17 ≤ 20) (h0 : ¬ ((0 ≤ s ∧ s < σ.1 17) ∧ (0 ≤ w ∧ w ≤ 5) ∧ σ.2 0 w ≠ 0)) : (M_X1_holds l δ).1 [.inr (.inr (some o)), .inl (s), .inl (w)] (mw w0 o σ, z) = some (.inl (some (.inl (-1))), mw w0 o (σ), z) := by
  rw [N_X1_holds]; unfold B_X1_holds
  by_cases h : 0 ≤ s ∧ s < σ.1 17
  · simp (disch := first | rfl | (simp only [wt_c, wt_0, vc_i, vc_l, vc_r] <;> decide) | omega | exact i32_r _ | exact b2i_r _ | exact b2i_01 _ | exact zAnd_r _ _ | exact zOr_r _ _ | exact zXor_r _ _ | exact zShl_r _ _ | exact zShr_r _ _ | exact zByte_r _ | exact zcmp_r _ _ | decide) only [Bool.decide_eq_true, Bool.decide_eq_false, ↓if_pos, ↓if_neg, ↓reduceIte, Nat.reduceEqDiff, Int.reduceLE, Int.reduceLT, Int.reduceEq, Int.reduceNe, Nat.reduceBEq, Int.reduceAdd, Int.reduceMul, Int.reduceSub, Int.reduceNeg, Nat.reduceAdd, not_false_eq_true, not_true_eq_false, decide_true, decide_false, Bool.not_true, Bool.not_false, Bool.true_and, Bool.false_and, Bool.and_true, Bool.and_false, Bool.true_or, Bool.false_or, Bool.or_true, Bool.or_false, Bool.not_not, decide_not, Decidable.not_not, ite_not, b2i_t, b2i_f, ne_eq, Bool.not_eq_true, Bool.not_eq_false, decide_eq_true_eq, decide_eq_false_iff_not, Bool.false_eq_true, Bool.true_eq_false, reduceCtorEq, if_true, if_false, ite_self, ite_b0, ite_b1, ite_0b, ite_1b, ite_bb, x_done, x_blk, x_lp, x_er, erL_0, erL_t, erL_f, kl_n, kl_i, kl_r, kl_l, bd_i, bd_r, bk_i, bk_e, bk_n, bk_r, bd_ite, bk_ite, lk_i, lk_e, lk_n, lk_r, lk_ite, ite_nx, b2i_i, b2i_n, b2i_0, b2i_1, b2i_e, bres_r, bres_ite, mres_v, mres_n, sF_1, sF_2, sA_1, sA_2, x_aload_n0, x_iload_n1, m_call1, x_if_ne, x_iload_n2, x_if_eq, x_iconst, x_ireturn, x_sipush, x_imul, x_istore_n3, m_puti, x_istore4, x_iload4, x_if_lt, x_dup, m_get, fM_45, x_iadd, x_ldcW, x_icmp_le, x_bipush, x_iload_n3, x_istore5, fM_19, x_iload5, x_icmp_lt, m_call2, m_call3, x_goto, fM_39, fM_38, fM_40, fM_41, fM_22, x_icmp_eq, x_icmp_ne, fM_46, fM_20, x_iinc4, fM_47, m_ld19, m_st19, m_ld20, m_st20, m_ld22, m_st22, m_ld39, m_st39, m_ld40, m_st40, m_ld41, m_st41, m_ld46, m_st46, e_noSentence_1 h h1.2, e_noWorld_0 hI]
  · simp (disch := first | rfl | (simp only [wt_c, wt_0, vc_i, vc_l, vc_r] <;> decide) | omega | exact i32_r _ | exact b2i_r _ | exact b2i_01 _ | exact zAnd_r _ _ | exact zOr_r _ _ | exact zXor_r _ _ | exact zShl_r _ _ | exact zShr_r _ _ | exact zByte_r _ | exact zcmp_r _ _ | decide) only [Bool.decide_eq_true, Bool.decide_eq_false, ↓if_pos, ↓if_neg, ↓reduceIte, Nat.reduceEqDiff, Int.reduceLE, Int.reduceLT, Int.reduceEq, Int.reduceNe, Nat.reduceBEq, Int.reduceAdd, Int.reduceMul, Int.reduceSub, Int.reduceNeg, Nat.reduceAdd, not_false_eq_true, not_true_eq_false, decide_true, decide_false, Bool.not_true, Bool.not_false, Bool.true_and, Bool.false_and, Bool.and_true, Bool.and_false, Bool.true_or, Bool.false_or, Bool.or_true, Bool.or_false, Bool.not_not, decide_not, Decidable.not_not, ite_not, b2i_t, b2i_f, ne_eq, Bool.not_eq_true, Bool.not_eq_false, decide_eq_true_eq, decide_eq_false_iff_not, Bool.false_eq_true, Bool.true_eq_false, reduceCtorEq, if_true, if_false, ite_self, ite_b0, ite_b1, ite_0b, ite_1b, ite_bb, x_done, x_blk, x_lp, x_er, erL_0, erL_t, erL_f, kl_n, kl_i, kl_r, kl_l, bd_i, bd_r, bk_i, bk_e, bk_n, bk_r, bd_ite, bk_ite, lk_i, lk_e, lk_n, lk_r, lk_ite, ite_nx, b2i_i, b2i_n, b2i_0, b2i_1, b2i_e, bres_r, bres_ite, mres_v, mres_n, sF_1, sF_2, sA_1, sA_2, x_aload_n0, x_iload_n1, m_call1, x_if_ne, x_iload_n2, x_if_eq, x_iconst, x_ireturn, x_sipush, x_imul, x_istore_n3, m_puti, x_istore4, x_iload4, x_if_lt, x_dup, m_get, fM_45, x_iadd, x_ldcW, x_icmp_le, x_bipush, x_iload_n3, x_istore5, fM_19, x_iload5, x_icmp_lt, m_call2, m_call3, x_goto, fM_39, fM_38, fM_40, fM_41, fM_22, x_icmp_eq, x_icmp_ne, fM_46, fM_20, x_iinc4, fM_47, m_ld19, m_st19, m_ld20, m_st20, m_ld22, m_st22, m_ld39, m_st39, m_ld40, m_st40, m_ld41, m_st41, m_ld46, m_st46, e_noSentence_0 hr h h1]
section RH4
variable {l : Launch} {δ : Dl} {w0 : Hp} {o : Nat} {z : Nat × Nat} {s w : Int}
/-- holds -/
theorem e_holds (hs : 0 ≤ s) {σ : MS} (hI : WI σ) (hw : 0 ≤ w ∧ w ≤ 5) (hw0 : σ.2 0 w ≠ 0) (h17 : s < σ.1 17 ∧ σ.1 17 ≤ 20) {f : Fo} (hf : Fo.wf f false 0) (hT : TAs σ s f 0) (hsz : Fo.sz f ≤ 600) (hht : Fo.ht f ≤ 50) : match askF (fun s => Fo.hd (wd σ w) f false s) (fun _ => 0, 0) with
    | none => ∃ σ', (M_X1_holds l δ).1 [.inr (.inr (some o)), .inl s, .inl w] (mw w0 o σ, z) = some (.inl (some (.inl (-6))), mw w0 o σ', z) ∧ HF 0 σ σ'
    | some y => ∃ σ', (M_X1_holds l δ).1 [.inr (.inr (some o)), .inl s, .inl w] (mw w0 o σ, z) = some (.inl (some (.inl (b2i y.1))), mw w0 o (sF (sF σ' 47 (b2i y.1)) 44 y.2.2), z) ∧ HF 0 σ σ' := by
  have hwn := hI.1 w (by omega) (by omega)
  have hF0 : HF 0 σ (sF (sF σ 45 0) 38 0) := HF.f45.tr HF.f38
  have hx := (e_hold (l := l) (δ := δ) (w0 := w0) (o := o) (z := z) (s := s) (w := w) (A := wd σ w) ⟨hs, by omega⟩ hw (show 1 ≤ σ.2 0 w by omega) hf).1 rfl ⟨by omega, by omega⟩ (sF (sF σ 45 0) 38 0) (fun _ => 0, 0) 0 0 (hF0.WI hI) (hF0.wd w) (hF0.TA hT) ⟨by omega, by omega⟩ ⟨by omega, by omega⟩ ⟨rfl, rfl, fun m h1 h2 => by omega⟩ ⟨by decide, by decide⟩
  cases ho : askF (fun s => Fo.hd (wd σ w) f false s) (fun _ => 0, 0) with
  | none =>
    rw [ho] at hx
    obtain ⟨σ', h1, h2⟩ := hx
    unfold LpH at h1
    refine ⟨σ', ?_, hF0.tr h2⟩
    rw [N_X1_holds]; unfold B_X1_holds
    simp (disch := first | rfl | (simp only [wt_c, wt_0, vc_i, vc_l, vc_r] <;> decide) | omega | exact i32_r _ | exact b2i_r _ | exact b2i_01 _ | exact zAnd_r _ _ | exact zOr_r _ _ | exact zXor_r _ _ | exact zShl_r _ _ | exact zShr_r _ _ | exact zByte_r _ | exact zcmp_r _ _ | decide) only [Bool.decide_eq_true, Bool.decide_eq_false, ↓if_pos, ↓if_neg, ↓reduceIte, Nat.reduceEqDiff, Int.reduceLE, Int.reduceLT, Int.reduceEq, Int.reduceNe, Nat.reduceBEq, Int.reduceAdd, Int.reduceMul, Int.reduceSub, Int.reduceNeg, Nat.reduceAdd, not_false_eq_true, not_true_eq_false, decide_true, decide_false, Bool.not_true, Bool.not_false, Bool.true_and, Bool.false_and, Bool.and_true, Bool.and_false, Bool.true_or, Bool.false_or, Bool.or_true, Bool.or_false, Bool.not_not, decide_not, Decidable.not_not, ite_not, b2i_t, b2i_f, ne_eq, Bool.not_eq_true, Bool.not_eq_false, decide_eq_true_eq, decide_eq_false_iff_not, Bool.false_eq_true, Bool.true_eq_false, reduceCtorEq, if_true, if_false, ite_self, ite_b0, ite_b1, ite_0b, ite_1b, ite_bb, x_done, x_blk, x_lp, x_er, erL_0, erL_t, erL_f, kl_n, kl_i, kl_r, kl_l, bd_i, bd_r, bk_i, bk_e, bk_n, bk_r, bd_ite, bk_ite, lk_i, lk_e, lk_n, lk_r, lk_ite, ite_nx, b2i_i, b2i_n, b2i_0, b2i_1, b2i_e, bres_r, bres_ite, mres_v, mres_n, sF_1, sF_2, sA_1, sA_2, x_aload_n0, x_iload_n1, m_call1, x_if_ne, x_iload_n2, x_if_eq, x_iconst, x_ireturn, x_sipush, x_imul, x_istore_n3, m_puti, x_istore4, x_iload4, x_if_lt, x_dup, m_get, fM_45, x_iadd, x_ldcW, x_icmp_le, x_bipush, x_iload_n3, x_istore5, fM_19, x_iload5, x_icmp_lt, m_call2, m_call3, x_goto, fM_39, fM_38, fM_40, fM_41, fM_22, x_icmp_eq, x_icmp_ne, fM_46, fM_20, x_iinc4, fM_47, m_ld19, m_st19, m_ld20, m_st20, m_ld22, m_st22, m_ld39, m_st39, m_ld40, m_st40, m_ld41, m_st41, m_ld46, m_st46, e_noSentence_1, e_noWorld_1 hI, h1]
  | some y =>
    rw [ho] at hx
    obtain ⟨σ', h1, h2, h3⟩ := hx
    have hl := h3 _ (rt_done (b := y.1) ⟨hs, by omega⟩ h2.1)
    unfold LpH at hl
    have h45 : σ'.1 45 = y.2.2 := h2.2.1
    refine ⟨σ', ?_, hF0.tr h1⟩
    rw [N_X1_holds]; unfold B_X1_holds
    cases hy : y.1 <;> (rw [hy] at hl; simp (disch := first | rfl | (simp only [wt_c, wt_0, vc_i, vc_l, vc_r] <;> decide) | omega | exact i32_r _ | exact b2i_r _ | exact b2i_01 _ | exact zAnd_r _ _ | exact zOr_r _ _ | exact zXor_r _ _ | exact zShl_r _ _ | exact zShr_r _ _ | exact zByte_r _ | exact zcmp_r _ _ | decide) only [Bool.decide_eq_true, Bool.decide_eq_false, ↓if_pos, ↓if_neg, ↓reduceIte, Nat.reduceEqDiff, Int.reduceLE, Int.reduceLT, Int.reduceEq, Int.reduceNe, Nat.reduceBEq, Int.reduceAdd, Int.reduceMul, Int.reduceSub, Int.reduceNeg, Nat.reduceAdd, not_false_eq_true, not_true_eq_false, decide_true, decide_false, Bool.not_true, Bool.not_false, Bool.true_and, Bool.false_and, Bool.and_true, Bool.and_false, Bool.true_or, Bool.false_or, Bool.or_true, Bool.or_false, Bool.not_not, decide_not, Decidable.not_not, ite_not, b2i_t, b2i_f, ne_eq, Bool.not_eq_true, Bool.not_eq_false, decide_eq_true_eq, decide_eq_false_iff_not, Bool.false_eq_true, Bool.true_eq_false, reduceCtorEq, if_true, if_false, ite_self, ite_b0, ite_b1, ite_0b, ite_1b, ite_bb, x_done, x_blk, x_lp, x_er, erL_0, erL_t, erL_f, kl_n, kl_i, kl_r, kl_l, bd_i, bd_r, bk_i, bk_e, bk_n, bk_r, bd_ite, bk_ite, lk_i, lk_e, lk_n, lk_r, lk_ite, ite_nx, b2i_i, b2i_n, b2i_0, b2i_1, b2i_e, bres_r, bres_ite, mres_v, mres_n, sF_1, sF_2, sA_1, sA_2, x_aload_n0, x_iload_n1, m_call1, x_if_ne, x_iload_n2, x_if_eq, x_iconst, x_ireturn, x_sipush, x_imul, x_istore_n3, m_puti, x_istore4, x_iload4, x_if_lt, x_dup, m_get, fM_45, x_iadd, x_ldcW, x_icmp_le, x_bipush, x_iload_n3, x_istore5, fM_19, x_iload5, x_icmp_lt, m_call2, m_call3, x_goto, fM_39, fM_38, fM_40, fM_41, fM_22, x_icmp_eq, x_icmp_ne, fM_46, fM_20, x_iinc4, fM_47, m_ld19, m_st19, m_ld20, m_st20, m_ld22, m_st22, m_ld39, m_st39, m_ld40, m_st40, m_ld41, m_st41, m_ld46, m_st46, e_noSentence_1, e_noWorld_1 hI, hl, h45])
end RH4
