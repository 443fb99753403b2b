/-! a rule's patterns, one behind the other -/
section ZRch
variable {p b e d : Nat} {w : CW} {τ : TW}
def RCH (p a n : Nat) (u : CW) (σ : TW) (i : Nat) (c : Nat → Nat) (Di : Nat → Nat → Prop) (Sn : Nat → Nat → Int) : Prop :=
  (∀ j, j + 1 < i → tA σ 23 (c j) = c (j + 1)) ∧ (0 < i → tA σ 23 (c (i - 1)) = -4) ∧ (∀ j, j < i → c j < np σ) ∧ (∀ j, j + 1 < i → c j < c (j + 1)) ∧ ∀ j, j < i → PRel p a u σ (Sn j) n (nxt c i (np σ) j) (aR u a j) (c j) (Di j)
/-- how many rows they make -/
def prF (τ : TW) (c : Nat → Nat) : Nat → Int
  | 0 => 1
  | n + 1 => min 1000 (prF τ c n * tA τ 26 (c n))
theorem prF_eq {σ : TW} {c c' : Nat → Nat} : ∀ i, (∀ j, j < i → c' j = c j ∧ tA σ 26 (c j) = tA τ 26 (c j)) → prF σ c' i = prF τ c i := by
  intro i
  induction i with
  | zero => intro _; rfl
  | succ i ih =>
    intro h
    unfold prF
    rw [ih (fun j hj => h j (by omega)), (h i (by omega)).1, (h i (by omega)).2]
theorem prF_rg {c : Nat → Nat} : ∀ i, (∀ j, j < i → 1 ≤ tA τ 26 (c j)) → 1 ≤ prF τ c i ∧ prF τ c i ≤ 1000 := by
  intro i
  induction i with
  | zero => intro _; exact ⟨Int.le_refl 1, (by decide : (1 : Int) ≤ 1000)⟩
  | succ i ih =>
    intro h
    have a := ih (fun j hj => h j (by omega))
    have b := h i (by omega)
    unfold prF
    have : 1 ≤ prF τ c i * tA τ 26 (c i) := by
      have := Int.mul_le_mul a.1 b (by decide) (by omega)
      omega
    omega
theorem RCH.mono {a n i : Nat} {c : Nat → Nat} {Di : Nat → Nat → Prop} {Sn : Nat → Nat → Int} {u : CW} {σ : TW} (h : RCH p a n u σ i c Di Sn) : ∀ j k, j < k → k < i → c j < c k := by
  intro j k hjk
  induction k with
  | zero => intro _; omega
  | succ k ih =>
    intro hk
    rcases Nat.lt_or_ge j k with y | y
    · exact Nat.lt_trans (ih y (by omega)) (h.2.2.2.1 k hk)
    · have : j = k := by omega
      subst this
      exact h.2.2.2.1 j hk
/-- all stays, but what neither touches -/
theorem RCH.keep {a b n i : Nat} {c : Nat → Nat} {Di : Nat → Nat → Prop} {Sn : Nat → Nat → Int} {u u' : CW} {σ σ' : TW} {T : List Nat} (h : RCH p a n u σ i c Di Sn) (W : WF p u) (hF : Fr T u u') (hb : b ≤ a) (hT : ∀ x, x ∈ T → x ≤ a ∨ cz u < x ∨ ¬ ptg (tg u x)) (hA : ∀ j : Nat, j < i → aR u' b j = aR u a j) (en : np σ ≤ np σ') (hn : i = 0 ∨ np σ' = np σ ∨ c (i - 1) < np σ)
    (hτ : ∀ f, 17 ≤ f → f ≤ 26 → ∀ x : Nat, x < np σ → tA σ' f x = tA σ f x)
    (hk : nK σ ≤ nK σ' ∧ ∀ k, k < nK σ → kd u' p k = kd u p k ∧ tA σ' 14 k = tA σ 14 k ∧ ∀ i : Nat, (i : Int) < tA σ 14 k → tA σ' 15 (4 * k + i : Nat) = tA σ 15 (4 * k + i : Nat)) :
    (∀ j, j + 1 < i → tA σ' 23 (c j) = c (j + 1)) ∧ (0 < i → tA σ' 23 (c (i - 1)) = -4) ∧ (∀ j, j < i → c j < np σ') ∧ (∀ j, j + 1 < i → c j < c (j + 1)) ∧ ∀ j, j < i → PRel p b u' σ' (Sn j) n (nxt c i (np σ) j) (aR u' b j) (c j) (Di j) := by
  obtain ⟨h1, h2, h3, h4, h5⟩ := h
  refine ⟨fun j hj => by rw [hτ 23 (by decide) (by decide) _ (h3 j (by omega))]; exact h1 j hj, fun z => by rw [hτ 23 (by decide) (by decide) _ (h3 (i - 1) (by omega))]; exact h2 z, fun j hj => Nat.lt_of_lt_of_le (h3 j hj) en, h4, fun j hj => ?_⟩
  rw [hA j hj]
  have hle := nxt_le (N := np σ) (fun j hj => h3 j hj) hj
  refine PRel.fr W hF hb hk n _ _ _ _ (fun x hx => ?_) (fun f hf x q1 q2 => ?_) (fun x q1 q2 => hτ 23 (by decide) (by decide) x (by omega)) (fun _ _ => rfl) (h5 j hj)
  · rcases hT x hx with y | y | y
    · exact Or.inl y
    · exact Or.inr (Or.inl y)
    · exact Or.inr (Or.inr (Or.inl y))
  · simp only [List.mem_cons, List.not_mem_nil, or_false] at hf
    exact hτ f (by omega) (by omega) x (by omega)
/-- one more -/
theorem RCH.add {a n i r : Nat} {u u' u2 : CW} {σ σ' σ2 : TW} {c : Nat → Nat} {Di : Nat → Nat → Prop} {Sn : Nat → Nat → Int} {D : Nat → Prop} {T S2 : List Nat} (h : RCH p a n u σ i c Di Sn) (W : WF p u) (W' : WF p u') (hF : Fr T u u') (hT : ∀ x, x ∈ T → x ≤ a ∨ cz u < x) (U : UT σ σ' 0) (hnp : np σ < np σ')
    (pr : PRel p a u' σ' (SnR σ') n (np σ') r (np σ) D) (e23 : tA σ' 23 (np σ) = -4) (hF2 : Fr [a] u' u2) (hAa : ∀ j : Nat, aR u' a j = aR u a j) (hA : ∀ x (j : Nat), aR u2 x j = if x = a ∧ j = i then r else aR u' x j) (F2 : FT S2 σ' σ2) (hS2 : ∀ f, f ∈ S2 → f = 23 ∨ 40 < f)
    (hk1 : nK σ ≤ nK σ' ∧ ∀ k, k < nK σ → kd u' p k = kd u p k ∧ tA σ' 14 k = tA σ 14 k ∧ ∀ i : Nat, (i : Int) < tA σ 14 k → tA σ' 15 (4 * k + i : Nat) = tA σ 15 (4 * k + i : Nat))
    (hk2 : ∀ k, kd u2 p k = kd u' p k)
    (h0 : i = 0 → ∀ x : Nat, tA σ2 23 x = tA σ' 23 x) (h1 : 0 < i → ∀ x : Nat, tA σ2 23 x = if x = c (i - 1) then (np σ : Int) else tA σ' 23 x) :
    RCH p a n u2 σ2 (i + 1) (fun j => if j = i then np σ else c j) (fun j => if j = i then D else Di j) (fun j => if j = i then SnR σ' else Sn j) := by
  have mono := h.mono
  obtain ⟨c3, c4, c5, c6, c9⟩ := h
  have nS2 : ∀ f, f ≤ 40 → f ≠ 23 → f ∉ S2 := fun f h1 h2 y => by have := hS2 f y; omega
  have np2 : np σ2 = np σ' := np_ft F2 (nS2 _ (by decide) (by decide))
  have nk2 : nK σ2 = nK σ' := by unfold nK; rw [(F2 10 (nS2 _ (by decide) (by decide))).1]
  have kk2 : nK σ' ≤ nK σ2 ∧ ∀ k, k < nK σ' → kd u2 p k = kd u' p k ∧ tA σ2 14 k = tA σ' 14 k ∧ ∀ i : Nat, (i : Int) < tA σ' 14 k → tA σ2 15 (4 * k + i : Nat) = tA σ' 15 (4 * k + i : Nat) := ⟨by omega, fun k _ => ⟨hk2 k, (F2 14 (nS2 _ (by decide) (by decide))).2 _, fun _ _ => (F2 15 (nS2 _ (by decide) (by decide))).2 _⟩⟩
  have kk : nK σ ≤ nK σ2 ∧ ∀ k, k < nK σ → kd u2 p k = kd u p k ∧ tA σ2 14 k = tA σ 14 k ∧ ∀ i : Nat, (i : Int) < tA σ 14 k → tA σ2 15 (4 * k + i : Nat) = tA σ 15 (4 * k + i : Nat) := ⟨by omega, fun k hk => ⟨(hk2 k).trans (hk1.2 k hk).1, ((F2 14 (nS2 _ (by decide) (by decide))).2 _).trans (hk1.2 k hk).2.1, fun j hj => ((F2 15 (nS2 _ (by decide) (by decide))).2 _).trans ((hk1.2 k hk).2.2 j hj)⟩⟩
  have old : ∀ f, 17 ≤ f → f ≤ 26 → ∀ x : Nat, x < np σ → tA σ' f x = tA σ f x := U.1
  have g23 : ∀ x : Nat, (0 < i → x ≠ c (i - 1)) → tA σ2 23 x = tA σ' 23 x := by
    intro x hx
    rcases Nat.eq_zero_or_pos i with z | z
    · rw [h0 z]
    · rw [h1 z, if_neg (hx z)]
  refine ⟨fun j hj => ?_, fun _ => ?_, fun j hj => ?_, fun j hj => ?_, fun j hj => ?_⟩
  · rcases Nat.lt_or_ge (j + 1) i with y | y
    · have hj1 := c5 j (by omega)
      have hm := mono j (i - 1) (by omega) (by omega)
      simp only [if_neg (show ¬ (j = i) by omega), if_neg (show ¬ (j + 1 = i) by omega)]
      rw [g23 _ (fun _ => by omega), old 23 (by decide) (by decide) _ hj1]
      exact c3 j y
    · have ej : j = i - 1 := by omega
      have hi0 : 0 < i := by omega
      simp only [if_neg (show ¬ (j = i) by omega), if_pos (show j + 1 = i by omega)]
      rw [h1 hi0, ej, if_pos rfl]
  · show tA σ2 23 (if i + 1 - 1 = i then np σ else c (i + 1 - 1) : Nat) = -4
    rw [if_pos (by omega), g23 _ (fun z => by have := c5 (i - 1) (by omega); omega)]
    exact e23
  · rw [np2]
    by_cases z : j = i
    · simp only [if_pos z]; omega
    · simp only [if_neg z]
      have := c5 j (by omega)
      omega
  · by_cases z : j + 1 = i
    · simp only [if_neg (show ¬ (j = i) by omega), if_pos z]
      exact c5 j (by omega)
    · simp only [if_neg (show ¬ (j = i) by omega), if_neg z]
      exact c6 j (by omega)
  · by_cases z : j = i
    · subst z
      simp only [if_true]
      rw [hA, if_pos ⟨rfl, rfl⟩, np2]
      have en : nxt (fun k => if k = j then np σ else c k) (j + 1) (np σ') j = np σ' := if_neg (by omega)
      rw [en]
      exact PRel.fr W' hF2 (Nat.le_refl _) kk2 n _ _ _ _ (fun x hx => by rw [List.mem_singleton.mp hx]; exact Or.inl (Nat.le_refl _)) (fun f hf x q1 q2 => by
        simp only [List.mem_cons, List.not_mem_nil, or_false] at hf
        exact (F2 f (nS2 f (by omega) (by omega))).2 _) (fun x q1 q2 => g23 x (fun z => by have := c5 (j - 1) (by omega); omega)) (fun _ _ => rfl) pr
    · have hji : j < i := by omega
      have hjc := c5 j hji
      simp only [if_neg z]
      rw [hA, if_neg (fun y => z y.2)]
      have pj := c9 j hji
      have en : nxt (fun k => if k = i then np σ else c k) (i + 1) (np σ2) j = nxt c i (np σ) j := by
        unfold nxt
        rw [if_pos (by omega)]
        show (if j + 1 = i then np σ else c (j + 1)) = _
        by_cases y : j + 1 = i
        · rw [if_pos y, if_neg (by omega)]
        · rw [if_neg y, if_pos (by omega)]
      rw [en]
      have eaR : aR u' a j = aR u a j := hAa j
      rw [eaR]
      have hle := nxt_le (N := np σ) (fun j hj => c5 j hj) hji
      have hF12 : Fr (a :: T) u u2 := (hF.mono (fun x hx => Or.inl (List.mem_cons.mpr (Or.inr hx)))).trans (hF2.mono (fun x hx => Or.inl (by rw [List.mem_singleton.mp hx]; simp)))
      refine PRel.fr W hF12 (Nat.le_refl _) kk n _ _ _ _ (fun x hx => ?_) (fun f hf x q1 q2 => ?_) (fun x q1 q2 => ?_) (fun _ _ => rfl) pj
      · rcases List.mem_cons.mp hx with y | y
        · rw [y]; exact Or.inl (Nat.le_refl _)
        · rcases hT x y with y2 | y2
          · exact Or.inl y2
          · exact Or.inr (Or.inl y2)
      · simp only [List.mem_cons, List.not_mem_nil, or_false] at hf
        have o1 := old f (by omega) (by omega) x (by omega)
        rw [(F2 f (nS2 f (by omega) (by omega))).2]; exact o1
      · rw [g23 x (fun y => ?_)]
        · exact old 23 (by decide) (by decide) x (by omega)
        · intro ex
          rw [ex] at q1 q2
          rcases Nat.lt_or_ge j (i - 1) with y2 | y2
          · have hn : nxt c i (np σ) j = c (j + 1) := if_pos (by omega)
            rw [hn] at q2
            rcases Nat.lt_or_ge (j + 1) (i - 1) with y3 | y3
            · have := mono (j + 1) (i - 1) y3 (by omega)
              omega
            · have : j + 1 = i - 1 := by omega
              rw [this] at q2; omega
          · have : j = i - 1 := by omega
            rw [this] at q1; omega
end ZRch
