/-! how many ways a pattern has: the component's count is the reference's, but capped at 41 -/
section ZWays
variable {p b e d : Nat} {w : CW} {τ : TW}
theorem cap_add {a t : Int} (ha : 0 ≤ a) (ht : 0 ≤ t) : (if min 41 a + min 41 t < 41 then min 41 a + min 41 t else 41) = min 41 (min 1000 (a + t)) := by
  split <;> omega
theorem cap_mul {a t : Int} (ha : 1 ≤ a) (ht : 1 ≤ t) : (if min 41 a * min 41 t < 41 then min 41 a * min 41 t else 41) = min 41 (min 1000 (a * t)) := by
  by_cases h1 : a < 41
  · by_cases h2 : t < 41
    · rw [show min 41 a = a by omega, show min 41 t = t by omega]
      split <;> omega
    · have e : min 41 t = 41 := by omega
      have q1 : 1 * 41 ≤ min 41 a * 41 := Int.mul_le_mul_of_nonneg_right (by omega) (by decide)
      have q2 : 1 * t ≤ a * t := Int.mul_le_mul_of_nonneg_right ha (by omega)
      rw [e]
      split <;> omega
  · have e : min 41 a = 41 := by omega
    have q1 : 41 * 1 ≤ 41 * min 41 t := Int.mul_le_mul_of_nonneg_left (by omega) (by decide)
    have q2 : a * 1 ≤ a * t := Int.mul_le_mul_of_nonneg_left ht (by omega)
    rw [e]
    split <;> omega
theorem cap_rg {a t : Int} (ha : 1 ≤ a) (ht : 1 ≤ t) : 0 ≤ min 41 a * min 41 t ∧ min 41 a * min 41 t ≤ 1681 := by
  have q1 : 0 ≤ min 41 a * min 41 t := Int.mul_nonneg (by omega) (by omega)
  have q2 : min 41 a * min 41 t ≤ 41 * 41 := Int.mul_le_mul (by omega) (by omega) (by omega) (by decide)
  omega
theorem rwF_prF {c : Nat → Nat} (m : Nat) (h : ∀ j, j < m → tA τ 26 (c j) ≤ 1000) : ∀ i, i < m → rwF true τ c i = prF τ c (i + 1) := by
  intro i
  induction i with
  | zero =>
    intro hi
    have := h 0 hi
    show tA τ 26 (c 0) = min 1000 (1 * tA τ 26 (c 0))
    omega
  | succ i ih =>
    intro hi
    show min 1000 (rwF true τ c i * tA τ 26 (c (i + 1))) = min 1000 (prF τ c (i + 1) * tA τ 26 (c (i + 1)))
    rw [ih (by omega)]
/-- what a pattern's ways come to -/
def WAY (p d : Nat) (w : CW) (τ : TW) (r q : Nat) : Prop := ∀ e, d ≤ e → ∀ Q : ZRes → CW → Prop, Q (.inl (some (ai (min 41 (tA τ 26 q))))) w → wpC p e (vm0 (tg w r)) [ar r] w Q
theorem sC_product {a m : Nat} {c : Nat → Nat} (hA : tg w a = 114 ∧ ln w a = m) (hm : m ≤ 100) (ht : ∀ j, j < m → 1 ≤ tA τ 26 (c j)) (hC : ∀ j, j < m → WAY p d w τ (aR w a j) (c j)) {Q : ZRes → CW → Prop} (hQ : Q (.inl (some (ai (min 41 (prF τ c m))))) w) : wpC p (d + 1) 43 [ar a] w Q := by
  refine wC_X0_product (Nat.zero_le _) (bC_X0_product_0 ⟨by rw [hA.1]; decide, fa ?_⟩)
  rw [hA.2]
  refine bC_X0_product_10 ?_
  intro I hI
  have key : ∀ k i : Nat, i + k = m → I (min 41 (prF τ c i)) (i : Int) w := by
    intro k
    induction k with
    | zero =>
      intro i hi
      have e : i = m := by omega
      rw [e]
      exact hI _ _ _ (br1 (by omega) (bC_X0_product_41 hQ))
    | succ k ih =>
      intro i hi
      have hj : i < m := by omega
      refine hI _ _ _ (br0 (by omega) ⟨⟨by rw [hA.1]; decide, by omega, by rw [hA.2]; omega⟩, fa ?_⟩)
      have ht' := ht i hj
      have hp := (prF_rg (τ := τ) (c := c) i (fun j hj => ht j (by omega))).1
      have rg := cap_rg hp ht'
      refine hC i hj _ (Nat.le_refl _) _ (fa (fa ?_))
      rw [w32_s (by omega) (by omega), w32_s (by omega) (by omega), cap_mul hp ht']
      have := ih (i + 1) (by omega)
      have ei : ((i : Int) + 1) = ((i + 1 : Nat) : Int) := by omega
      rw [ei]
      exact this
  exact key m 0 (by omega)
theorem rwF_ge {c : Nat → Nat} (m : Nat) (h : ∀ j, j < m → 1 ≤ tA τ 26 (c j)) : ∀ i, i < m → 1 ≤ rwF false τ c i := by
  intro i
  induction i with
  | zero => intro hi; exact h 0 hi
  | succ i ih =>
    intro hi
    have q1 := ih (by omega)
    have q2 := h (i + 1) hi
    show 1 ≤ min 1000 (rwF false τ c i + tA τ 26 (c (i + 1)))
    omega
theorem sC_waysE {a m x : Nat} {c : Nat → Nat} (hx : tg w x = 9) (ea : fR w 73 x = a) (hA : tg w a = 114 ∧ ln w a = m) (h1 : 1 ≤ m) (hm : m ≤ 100) (ht : ∀ j, j < m → 1 ≤ tA τ 26 (c j) ∧ tA τ 26 (c j) ≤ 1000) (hC : ∀ j, j < m → WAY p d w τ (aR w a j) (c j)) {Q : ZRes → CW → Prop} (hQ : Q (.inl (some (ai (min 41 (rwF false τ c (m - 1)))))) w) : wpC p (d + 1) 108 [ar x] w Q := by
  refine wC_X11_ways (Nat.zero_le _) (bC_X11_ways_0 ⟨by rw [hx]; decide, fa ?_⟩)
  rw [ea]
  refine ⟨by rw [hA.1]; decide, fa ?_⟩
  rw [hA.2]
  refine bC_X11_ways_13 ?_
  intro I hI
  have key : ∀ k i : Nat, i + k = m → I (if i = 0 then 0 else min 41 (rwF false τ c (i - 1))) (i : Int) w := by
    intro k
    induction k with
    | zero =>
      intro i hi
      have e : i = m := by omega
      rw [e, if_neg (by omega)]
      exact hI _ _ _ (br1 (by omega) (bC_X11_ways_44 hQ))
    | succ k ih =>
      intro i hi
      have hj : i < m := by omega
      refine hI _ _ _ (br0 (by omega) ⟨⟨by rw [hA.1]; decide, by omega, by rw [hA.2]; omega⟩, fa ?_⟩)
      have ht' := ht i hj
      have := ih (i + 1) (by omega)
      rw [if_neg (by omega)] at this
      have ei : ((i : Int) + 1) = ((i + 1 : Nat) : Int) := by omega
      refine hC i hj _ (Nat.le_refl _) _ (fa (fa ?_))
      rw [w32_s (a := (i : Int) + 1) (by omega) (by omega), ei]
      rcases Nat.eq_zero_or_pos i with z | z
      · subst z
        rw [if_pos rfl, w32_s (by omega) (by omega)]
        have e2 : (if (0 : Int) + min 41 (tA τ 26 (c 0)) < 41 then 0 + min 41 (tA τ 26 (c 0)) else 41) = min 41 (rwF false τ c (0 + 1 - 1)) := by
          show _ = min 41 (tA τ 26 (c 0))
          split <;> omega
        rw [e2]
        exact this
      · have hp := rwF_ge m (fun j hj => (ht j hj).1) (i - 1) (by omega)
        rw [if_neg (show ¬ (i = 0) by omega), w32_s (by omega) (by omega), cap_add (by omega) (by omega)]
        have e2 : min 1000 (rwF false τ c (i - 1) + tA τ 26 (c i)) = rwF false τ c (i + 1 - 1) := by
          obtain ⟨n, rfl⟩ : ∃ n, i = n + 1 := ⟨i - 1, by omega⟩
          rfl
        rw [e2]
        exact this
  have := key m 0 (by omega)
  rw [if_pos rfl] at this
  exact this
theorem WAY.leaf {r q : Nat} (h : tg w r = 6 ∨ tg w r = 7 ∨ tg w r = 10 ∨ tg w r = 11 ∨ tg w r = 12) (h26 : tA τ 26 q = 1) : WAY p (d + 1) w τ r q := by
  intro e he Q hQ
  obtain ⟨d', rfl⟩ : ∃ d', e = d' + 1 := ⟨e - 1, by omega⟩
  have e : vm0 (tg w r) = 92 := by rcases h with h | h | h | h | h <;> (rw [h]; rfl)
  rw [e]
  rw [h26] at hQ
  exact wC_X6_ways (Nat.zero_le _) hQ
theorem pcore_way {P : Nat → Nat → Nat → (Nat → Prop) → Prop} {Sn : Nat → Int} {N r q : Nat} {D : Nat → Prop} {nm : Int} (hK : ∀ k, k < nK τ → tA τ 14 k ≤ 4) (h : PCore P p b w τ Sn N r q D nm) (hP : ∀ N r q D, P N r q D → WAY p d w τ r q ∧ 1 ≤ tA τ 26 q ∧ tA τ 26 q ≤ 1000) : WAY p (d + 2) w τ r q := by
  obtain ⟨_, _, _, _, h⟩ := h
  rcases h with ⟨h1, h2, h3, -⟩ | ⟨h1, h2, h3, -⟩ | ⟨h1, h2, h3, -⟩ | ⟨h1, h2, h3, -⟩ | ⟨h1, h2, h3, -⟩ | ⟨h1, h2, h3, k, m, c, k1, k2, k3, k4, k5, k6, k7, k8, k9, Di, x1, x2⟩ | ⟨h1, h2, m, c, k1, k2, k3, k4, k5, k6, D0, x1, x2⟩
  · exact WAY.leaf (Or.inl h2) h3
  · exact WAY.leaf (Or.inr (Or.inl h2)) h3
  · exact WAY.leaf (Or.inr (Or.inr (Or.inr (Or.inl h2)))) h3
  · exact WAY.leaf (Or.inr (Or.inr (Or.inl h2))) h3
  · exact WAY.leaf (Or.inr (Or.inr (Or.inr (Or.inr h2)))) h3
  · intro e he Q hQ
    obtain ⟨g, rfl⟩ : ∃ g, e = g + 2 := ⟨e - 2, by omega⟩
    have hm : m ≤ 4 := by
      rcases k5 with y | y
      · omega
      · have := hK k k2; omega
    have e26 : tA τ 26 q = prF τ c m := by
      rcases Nat.eq_zero_or_pos m with e0 | e0
      · rw [k7 e0, e0]; rfl
      · rw [k8 e0, rwF_prF m (fun j hj => (hP _ _ _ _ (x1 j hj).2).2.2) (m - 1) (by omega), show m - 1 + 1 = m by omega]
    rw [show vm0 (tg w r) = 103 by rw [h2]; rfl]
    refine wC_X10_ways (Nat.zero_le _) (bC_X10_ways_0 ⟨by rw [h2]; decide, ?_⟩)
    refine sC_product (τ := τ) (c := c) ⟨k4.1, k4.2.1⟩ (by omega) (fun j hj => (hP _ _ _ _ (x1 j hj).2).2.1) (fun j hj e he => (hP _ _ _ _ (x1 j hj).2).1 e (by omega)) ?_
    rw [← e26]
    exact hQ
  · intro e he Q hQ
    obtain ⟨g, rfl⟩ : ∃ g, e = g + 2 := ⟨e - 2, by omega⟩
    rw [show vm0 (tg w r) = 108 by rw [h2]; rfl]
    refine sC_waysE (τ := τ) (c := c) h2 rfl ⟨k3.1, k3.2.1⟩ k1 (by omega) (fun j hj => (hP _ _ _ _ (x1 j hj).2).2) (fun j hj e he => (hP _ _ _ _ (x1 j hj).2).1 e (by omega)) ?_
    · rw [← k5]
      exact hQ
theorem PRel.way {Sn : Nat → Int} (hK : ∀ k, k < nK τ → tA τ 14 k ≤ 4) : ∀ n N r q D, PRel p b w τ Sn n N r q D → WAY p (d + 3 * n) w τ r q := by
  intro n
  induction n with
  | zero => intro N r q D h; exact h.elim
  | succ n ih =>
    intro N r q D h
    have rg := PRel.rows _ _ _ _ _ h
    obtain ⟨h1, h2, h⟩ := h
    have hP : ∀ N r q D, PRel p b w τ Sn n N r q D → WAY p (d + 3 * n) w τ r q ∧ 1 ≤ tA τ 26 q ∧ tA τ 26 q ≤ 1000 := fun N r q D h => ⟨ih N r q D h, PRel.rows _ _ _ _ _ h⟩
    rcases h with ⟨_, h⟩ | ⟨_, _, g1, g2, g3, g4, g5, h⟩
    · have := pcore_way hK h hP
      exact fun e he => this e (by omega)
    · have := pcore_way hK h hP
      intro e he Q hQ
      obtain ⟨g, rfl⟩ : ∃ g, e = g + 1 := ⟨e - 1, by omega⟩
      rw [show vm0 (tg w r) = 108 by rw [g1]; rfl]
      refine sC_waysE (d := g) (m := 1) (τ := τ) (c := fun _ => q) g1 rfl ⟨g4.1, g4.2.1⟩ (Nat.le_refl _) (by decide) (fun j hj => rg) (fun j hj e he => ?_) hQ
      rw [show j = 0 by omega]
      exact this e (by omega)
end ZWays
