/-! tokens, plainly; the reference's next -/
section ZLex
variable {d : Nat} {τ : TW}
theorem sI_sI (τ : TW) (f : Nat) (v v' : Int) : sI (sI τ f v) f v' = sI τ f v' := by
  unfold sI
  refine Prod.ext (funext fun g => ?_) rfl
  show (if g = f then v' else if g = f then v else τ.1 g) = if g = f then v' else τ.1 g
  by_cases e : g = f
  · rw [if_pos e, if_pos e]
  · rw [if_neg e, if_neg e, if_neg e]
theorem sI_id (τ : TW) (f : Nat) : sI τ f (tI τ f) = τ := by
  unfold sI
  refine Prod.ext (funext fun g => ?_) rfl
  show (if g = f then τ.1 f else τ.1 g) = τ.1 g
  by_cases e : g = f
  · rw [if_pos e, e]
  · rw [if_neg e]
theorem sI_comm (τ : TW) {f g : Nat} (h : f ≠ g) (v v' : Int) : sI (sI τ f v) g v' = sI (sI τ g v') f v := by
  unfold sI
  refine Prod.ext (funext fun q => ?_) rfl
  show (if q = g then v' else if q = f then v else τ.1 q) = if q = f then v else if q = g then v' else τ.1 q
  by_cases e : q = g
  · by_cases e2 : q = f
    · exact absurd (e2.symm.trans e) h
    · rw [if_pos e, if_neg e2, if_pos e]
  · by_cases e2 : q = f
    · rw [if_neg e, if_pos e2, if_pos e2]
    · rw [if_neg e, if_neg e2, if_neg e2, if_neg e]
/-- the tape's letter at a place, as the reference reads it -/
noncomputable def bt (τ : TW) (k : Nat) : Int := ff_byteAt (k : Int) τ
def tpT (τ : TW) : Prop := 0 ≤ tI τ 1 ∧ tI τ 1 ≤ 1600 ∧ ∀ k : Nat, (k : Int) < tI τ 1 → 0 ≤ tA τ 0 k ∧ tA τ 0 k ≤ 255
theorem bt_lt {k : Nat} (h : (k : Int) < tI τ 1) : bt τ k = tA τ 0 k := by
  unfold bt ff_byteAt
  rw [if_pos (by omega)]
theorem bt_ge {k : Nat} (h : tI τ 1 ≤ k) : bt τ k = -1 := by
  unfold bt ff_byteAt
  rw [if_neg (by omega)]
theorem bt_rg (T : tpT τ) (k : Nat) : -1 ≤ bt τ k ∧ bt τ k ≤ 255 := by
  rcases Int.lt_or_le (k : Int) (tI τ 1) with h | h
  · rw [bt_lt h]; have := T.2.2 k h; omega
  · rw [bt_ge h]; omega
theorem bt_nn (T : tpT τ) {k : Nat} (h : bt τ k ≠ -1) : (k : Int) < tI τ 1 := by
  rcases Int.lt_or_le (k : Int) (tI τ 1) with q | q
  · exact q
  · exact absurd (bt_ge q) h
theorem bt_m1 (T : tpT τ) {k : Nat} (h : bt τ k = -1) : tI τ 1 ≤ k := by
  rcases Int.lt_or_le (k : Int) (tI τ 1) with q | q
  · rw [bt_lt q] at h; have := T.2.2 k q; omega
  · exact q
theorem bt_eq {τ' : TW} (h1 : tI τ' 1 = tI τ 1) (h2 : ∀ i, tA τ' 0 i = tA τ 0 i) (k : Nat) : bt τ' k = bt τ k := by
  unfold bt ff_byteAt
  rw [h1, h2]
theorem tpT.fo (T : tpT τ) {x : Int} (h : 0 ≤ x) : fo_byteAt x τ := fun q => ⟨h, by have := T.2.1; have q : ¬ (tI τ 1 ≤ x) := q; omega⟩
abbrev isSm (c : Int) : Prop := 97 ≤ c ∧ c ≤ 122
abbrev isFg (c : Int) : Prop := 48 ≤ c ∧ c ≤ 57
abbrev isUp (c : Int) : Prop := 65 ≤ c ∧ c ≤ 90
abbrev isBl (c : Int) : Prop := c = 32 ∨ c = 10
abbrev isNc (c : Int) : Prop := isSm c ∨ isFg c
abbrev isSg (c : Int) : Prop := c = 59 ∨ c = 44 ∨ c = 40 ∨ c = 41 ∨ c = 123 ∨ c = 125 ∨ c = 58 ∨ c = 124 ∨ c = 95 ∨ c = 60 ∨ c = 61 ∨ c = 62 ∨ c = 43 ∨ c = 45 ∨ c = 42 ∨ c = 47 ∨ c = 37
theorem ff_in_eq (x a b : Int) (w : TW) : ff_in x a b w = if a ≤ x ∧ x ≤ b then 1 else 0 := by
  unfold ff_in
  by_cases h : a ≤ x ∧ x ≤ b
  · rw [if_pos ⟨by omega, by omega⟩, if_pos h]
  · rw [if_neg (by omega), if_neg h]
theorem ff_small (x : Int) (w : TW) : ff_isSmall x w = 0 ↔ ¬ isSm x := by
  unfold ff_isSmall isSm; rw [ff_in_eq]
  by_cases h : 97 ≤ x ∧ x ≤ 122
  · rw [if_pos h]; exact ⟨fun q => (by cases q), fun q => absurd h q⟩
  · rw [if_neg h]; exact ⟨fun _ => h, fun _ => rfl⟩
theorem ff_figure (x : Int) (w : TW) : ff_isFigure x w = 0 ↔ ¬ isFg x := by
  unfold ff_isFigure isFg; rw [ff_in_eq]
  by_cases h : 48 ≤ x ∧ x ≤ 57
  · rw [if_pos h]; exact ⟨fun q => (by cases q), fun q => absurd h q⟩
  · rw [if_neg h]; exact ⟨fun _ => h, fun _ => rfl⟩
theorem ff_upper (x : Int) (w : TW) : ff_in x 65 90 w = 0 ↔ ¬ isUp x := by
  unfold isUp; rw [ff_in_eq]
  by_cases h : 65 ≤ x ∧ x ≤ 90
  · rw [if_pos h]; exact ⟨fun q => (by cases q), fun q => absurd h q⟩
  · rw [if_neg h]; exact ⟨fun _ => h, fun _ => rfl⟩
/-- from k on P holds up to e, not at e -/
def Run (P : Int → Prop) (b : Nat → Int) (k e : Nat) : Prop := k ≤ e ∧ (∀ j, k ≤ j → j < e → P (b j)) ∧ ¬ P (b e)
theorem Run.ex (P : Int → Prop) (b : Nat → Int) (n : Nat) (h : ∀ j, n ≤ j → ¬ P (b j)) (k : Nat) : ∃ e, Run P b k e := by
  have : ∀ m k, n - k ≤ m → ∃ e, Run P b k e := by
    intro m
    induction m with
    | zero => intro k hk; exact ⟨k, Nat.le_refl _, fun j h1 h2 => by omega, h k (by omega)⟩
    | succ m ih =>
      intro k hk
      by_cases hp : P (b k)
      · by_cases hn : n ≤ k
        · exact absurd hp (h k hn)
        · obtain ⟨e, h1, h2, h3⟩ := ih (k + 1) (by omega)
          exact ⟨e, by omega, fun j q1 q2 => by
            rcases Nat.lt_or_ge k j with z | z
            · exact h2 j (by omega) q2
            · have : j = k := by omega
              rw [this]; exact hp, h3⟩
      · exact ⟨k, Nat.le_refl _, fun j h1 h2 => by omega, hp⟩
  exact this _ k (Nat.le_refl _)
theorem Run.step {P : Int → Prop} {b : Nat → Int} {k e : Nat} (h : Run P b k e) (hp : P (b k)) : Run P b (k + 1) e := by
  obtain ⟨h1, h2, h3⟩ := h
  refine ⟨?_, fun j q1 q2 => h2 j (by omega) q2, h3⟩
  rcases Nat.lt_or_ge k e with z | z
  · omega
  · have : e = k := by omega
    rw [this] at h3; exact absurd hp h3
theorem Run.stop {P : Int → Prop} {b : Nat → Int} {k e : Nat} (h : Run P b k e) (hp : ¬ P (b k)) : e = k := by
  obtain ⟨h1, h2, h3⟩ := h
  rcases Nat.lt_or_ge k e with z | z
  · exact absurd (h2 k (Nat.le_refl _) z) hp
  · omega
theorem Run.le (T : tpT τ) {P : Int → Prop} {k e : Nat} (h : Run P (bt τ) k e) (hP : ∀ c, P c → c ≠ -1) (hk : (k : Int) ≤ tI τ 1) : (e : Int) ≤ tI τ 1 := by
  obtain ⟨h1, h2, h3⟩ := h
  rcases Nat.lt_or_ge k e with z | z
  · have := bt_nn T (hP _ (h2 (e - 1) (by omega) (by omega))); omega
  · omega
/-- letters packed -/
noncomputable def pk (b : Nat → Int) (k : Nat) : Nat → Int
  | 0 => 0
  | n + 1 => l_or (l_shl (pk b k n) 8) (b (k + n))
/-- figures' number -/
def nv (b : Nat → Int) (k : Nat) : Nat → Int
  | 0 => 0
  | n + 1 => 10 * nv b k n + b (k + n) - 48
/-- the words' numbers -/
def wdOf (v : Int) : Int := if v = 1802071652 then 0 else (if v = 504363246962 then 1 else (if v = 1936683636 then 2 else (if v = 26982 then 3 else (if v = 24947 then 4 else (if v = 512853240933 then 5 else (if v = 500136506472 then 6 else (if v = 1952807028 then 7 else (if v = 1953658213 then 8 else (if v = 439721161573 then 9 else (if v = 1852796517 then 10 else (-1)))))))))))
/-- the token behind a place: where it begins (f) and ends (t), sort s (7: wrong) and value v -/
def Lx (b : Nat → Int) (a : Nat) (f t s v : Int) : Prop := ∃ k, Run isBl b a k ∧ f = k ∧
  if b k = -1 then s = 0 ∧ t = k
  else if isSm (b k) ∨ isUp (b k) then ∃ e, Run isNc b (k + 1) e ∧ if 8 < e - k then s = 7 else t = e ∧ (if isSm (b k) then (if wdOf (pk b k (e - k)) < 0 then s = 1 ∧ v = pk b k (e - k) else s = 6 ∧ v = wdOf (pk b k (e - k))) else s = 2 ∧ v = pk b k (e - k))
  else if isFg (b k) then ∃ e, Run isFg b k e ∧ if 9 < e - k then s = 7 else t = e ∧ s = 3 ∧ v = nv b k (e - k)
  else if b k = 39 then ∃ e, Run isSm b (k + 1) e ∧ if b e = 39 ∧ e ≤ k + 9 then t = e + 1 ∧ s = 4 ∧ v = pk b (k + 1) (e - (k + 1)) else s = 7
  else if b k = 46 ∧ b (k + 1) = 46 then t = k + 2 ∧ s = 5 ∧ v = 256
  else if isSg (b k) then t = k + 1 ∧ s = 5 ∧ v = b k
  else s = 7
theorem nv_rg {b : Nat → Int} {k : Nat} : ∀ n, n ≤ 9 → (∀ j, k ≤ j → j < k + n → isFg (b j)) → 0 ≤ nv b k n ∧ nv b k n < 10 ^ n := by
  intro n
  induction n with
  | zero => intro _ _; exact ⟨Int.le_refl _, (by decide : (0 : Int) < 10 ^ 0)⟩
  | succ n ih =>
    intro hn h
    have := ih (by omega) (fun j h1 h2 => h j h1 (by omega))
    have h3 := h (k + n) (by omega) (by omega)
    unfold isFg at h3
    show 0 ≤ 10 * nv b k n + b (k + n) - 48 ∧ 10 * nv b k n + b (k + n) - 48 < 10 ^ (n + 1)
    rw [Int.pow_succ]
    omega
theorem sT_name (T : tpT τ) {k e : Nat} (h1600 : tI τ 1 ≤ 1600) (hen : (e : Int) ≤ tI τ 1) (he : Run isNc (bt τ) (k + 1) e) : ∀ Q : ZRes → TW → Prop, pT_name_88 (wpT (d + 2)) (fun w => Q (.inl none) w) (bt τ k) (sI (sI (sI (sI τ 2 k) 5 k) 4 (pk (bt τ) k (min (e - k) 8))) 6 e) → wpT (d + 3) 7 [ai (bt τ k)] (sI (sI (sI (sI τ 2 k) 5 k) 4 0) 6 (w32 ((k : Int) + 1))) Q := by
  intro Q hQ
  refine wT_name (by omega) ?_
  refine fa ?_
  intro I hI
  have key : ∀ m j : Nat, e - (k + j) ≤ m → k + j < e → I (sI (sI (sI (sI τ 2 k) 5 k) 4 (pk (bt τ) k (min j 8))) 6 ((k + j : Nat) : Int)) := by
    intro m
    induction m with
    | zero => intro j h1 h2; omega
    | succ m ih =>
      intro j h1 h2
      apply hI
      refine ⟨fun _ => T.fo (by show (0 : Int) ≤ ((k + j : Nat) : Int); omega), ?_⟩
      refine fa ?_
      refine fa ?_
      refine fa ?_
      have e1 : sI (sI (sI (sI (sI (sI τ 2 k) 5 k) 4 (pk (bt τ) k (min j 8))) 6 ((k + j : Nat) : Int)) 4 (if ¬ (8 ≤ (w32 (((k + j : Nat) : Int) - (k : Int)))) then l_or (l_shl (pk (bt τ) k (min j 8)) 8) (bt τ (k + j)) else pk (bt τ) k (min j 8))) 6 (w32 (((k + j : Nat) : Int) + 1)) = sI (sI (sI (sI τ 2 k) 5 k) 4 (pk (bt τ) k (min (j + 1) 8))) 6 ((k + (j + 1) : Nat) : Int) := by
        have ev : True → (if ¬ (8 ≤ (w32 (((k + j : Nat) : Int) - (k : Int)))) then l_or (l_shl (pk (bt τ) k (min j 8)) 8) (bt τ (k + j)) else pk (bt τ) k (min j 8)) = pk (bt τ) k (min (j + 1) 8) := fun _ => by
          rw [w32_s (by omega) (by omega)]
          by_cases z : j < 8
          · rw [if_pos (by omega), show min j 8 = j by omega, show min (j + 1) 8 = j + 1 by omega]; rfl
          · rw [if_neg (by omega), show min j 8 = 8 by omega, show min (j + 1) 8 = 8 by omega]
        rw [ev trivial, w32_k (by omega)]
        refine Prod.ext (funext fun g => ?_) rfl
        dsimp only [sI]
        repeat' split
        all_goals first | rfl | (exfalso; omega)
      refine ⟨T.fo (by show (0 : Int) ≤ w32 (((k + j : Nat) : Int) + 1); rw [w32_k (by omega)]; omega), fun _ => T.fo (by show (0 : Int) ≤ w32 (((k + j : Nat) : Int) + 1); rw [w32_k (by omega)]; omega), fun h => ?_, fun h => ?_⟩
      · replace h : ¬ (ff_isSmall (ff_byteAt (w32 (((k + j : Nat) : Int) + 1)) τ) τ = 0) ∨ ¬ (ff_isFigure (ff_byteAt (w32 (((k + j : Nat) : Int) + 1)) τ) τ = 0) := h
        rw [w32_k (by omega), ff_small, ff_figure] at h
        replace h : isNc (bt τ (k + (j + 1))) := by
          rcases h with h | h
          · exact Or.inl (Classical.byContradiction h)
          · exact Or.inr (Classical.byContradiction h)
        have := ih (j + 1) (by omega) (by
          rcases Nat.lt_or_ge (k + (j + 1)) e with z | z
          · exact z
          · have : e = k + (j + 1) := by omega
            have h3 := he.2.2
            rw [this] at h3; exact absurd h h3)
        rw [← e1] at this
        exact this
      · replace h : ¬ (¬ (ff_isSmall (ff_byteAt (w32 (((k + j : Nat) : Int) + 1)) τ) τ = 0) ∨ ¬ (ff_isFigure (ff_byteAt (w32 (((k + j : Nat) : Int) + 1)) τ) τ = 0)) := h
        rw [w32_k (by omega), ff_small, ff_figure] at h
        replace h : ¬ isNc (bt τ (k + (j + 1))) := fun q => h (by
          rcases q with q | q
          · exact Or.inl (fun z => z q)
          · exact Or.inr (fun z => z q))
        have e2 : e = k + (j + 1) := by
          rcases Nat.lt_or_ge (k + (j + 1)) e with z | z
          · exact absurd (he.2.1 _ (by omega) z) h
          · omega
        have hQ' := hQ
        rw [show e - k = j + 1 by omega, e2, ← e1] at hQ'
        exact hQ'
  have := key _ 0 (Nat.le_refl _) (by have := he.1; omega)
  have e0 : sI (sI (sI (sI (sI τ 2 k) 5 k) 4 0) 6 (w32 ((k : Int) + 1))) 6 (tI (sI (sI (sI (sI τ 2 k) 5 k) 4 0) 6 (w32 ((k : Int) + 1))) 2) = sI (sI (sI (sI τ 2 k) 5 k) 4 (pk (bt τ) k (min 0 8))) 6 ((k + 0 : Nat) : Int) := by
    show sI (sI (sI (sI (sI τ 2 k) 5 k) 4 0) 6 (w32 ((k : Int) + 1))) 6 (k : Int) = _
    refine Prod.ext (funext fun g => ?_) rfl
    dsimp only [sI]
    repeat' split
    all_goals first | rfl | (exfalso; omega)
  rw [e0]
  exact this
theorem sT_fig (T : tpT τ) {k e : Nat} (h1600 : tI τ 1 ≤ 1600) (hen : (e : Int) ≤ tI τ 1) (he : Run isFg (bt τ) k e) : ∀ Q : TW → Prop, pT_next_223 (wpT (d + 3)) Q (sI (sI (sI (sI (sI τ 2 k) 5 k) 3 3) 4 (nv (bt τ) k (min (e - k) 9))) 6 e) → pT_next_149 (wpT (d + 3)) Q (sI (sI (sI (sI (sI (sI τ 2 k) 5 k) 4 0) 6 (w32 ((k : Int) + 1))) 3 3) 6 k) := by
  intro Q hQ I hI
  have key : ∀ m j : Nat, e - (k + j) ≤ m → k + j ≤ e → I (sI (sI (sI (sI (sI τ 2 k) 5 k) 3 3) 4 (nv (bt τ) k (min j 9))) 6 ((k + j : Nat) : Int)) := by
    intro m
    induction m with
    | zero =>
      intro j h1 h2
      apply hI
      have ej : e = k + j := by omega
      refine ⟨T.fo (by show (0 : Int) ≤ ((k + j : Nat) : Int); omega), fun _ => ?_, fun h => ?_⟩
      · have hQ' := hQ
        rw [show e - k = j by omega, ej] at hQ'
        exact hQ'
      · replace h : ¬ (ff_isFigure (bt τ (k + j)) τ = 0) := h
        rw [ff_figure, ← ej] at h
        exact absurd he.2.2 h
    | succ m ih =>
      intro j h1 h2
      apply hI
      refine ⟨T.fo (by show (0 : Int) ≤ ((k + j : Nat) : Int); omega), fun h => ?_, fun h => ⟨fun _ => T.fo (by show (0 : Int) ≤ ((k + j : Nat) : Int); omega), ?_⟩⟩
      · replace h : ff_isFigure (bt τ (k + j)) τ = 0 := h
        rw [ff_figure] at h
        have ej : e = k + j := by
          rcases Nat.lt_or_ge (k + j) e with z | z
          · exact absurd (he.2.1 _ (by omega) z) h
          · omega
        have hQ' := hQ
        rw [show e - k = j by omega, ej] at hQ'
        exact hQ'
      · refine fa ?_
        refine fa ?_
        refine fa ?_
        replace h : ¬ (ff_isFigure (bt τ (k + j)) τ = 0) := h
        rw [ff_figure] at h
        replace h : isFg (bt τ (k + j)) := Classical.byContradiction h
        have hj : k + j < e := by
          rcases Nat.lt_or_ge (k + j) e with z | z
          · exact z
          · have ej : e = k + j := by omega
            have h3 := he.2.2
            rw [ej] at h3; exact absurd h h3
        have e1 : sI (sI (sI (sI (sI (sI (sI τ 2 k) 5 k) 3 3) 4 (nv (bt τ) k (min j 9))) 6 ((k + j : Nat) : Int)) 4 (if ¬ (9 ≤ (w32 (((k + j : Nat) : Int) - (k : Int)))) then w64 ((w64 ((w64 (10 * (nv (bt τ) k (min j 9)))) + (bt τ (k + j)))) - 48) else nv (bt τ) k (min j 9))) 6 (w32 (((k + j : Nat) : Int) + 1)) = sI (sI (sI (sI (sI τ 2 k) 5 k) 3 3) 4 (nv (bt τ) k (min (j + 1) 9))) 6 ((k + (j + 1) : Nat) : Int) := by
          have ev : True → (if ¬ (9 ≤ (w32 (((k + j : Nat) : Int) - (k : Int)))) then w64 ((w64 ((w64 (10 * (nv (bt τ) k (min j 9)))) + (bt τ (k + j)))) - 48) else nv (bt τ) k (min j 9)) = nv (bt τ) k (min (j + 1) 9) := fun _ => by
            rw [w32_s (by omega) (by omega)]
            by_cases z : j < 9
            · rw [if_pos (by omega), show min j 9 = j by omega, show min (j + 1) 9 = j + 1 by omega]
              have hr := nv_rg (b := bt τ) (k := k) j (by omega) (fun q h1 h2 => he.2.1 q h1 (by omega))
              have hp : (10 : Int) ^ j ≤ 10 ^ 9 := by
                have : (10 : Nat) ^ j ≤ 10 ^ 9 := Nat.pow_le_pow_right (by decide) (by omega)
                exact_mod_cast this
              have hp : (10 : Int) ^ j ≤ 1000000000 := hp
              have hb := h
              unfold isFg at hb
              rw [w64_id (a := 10 * _) (by unfold zrl; omega), w64_id (a := 10 * _ + _) (by unfold zrl; omega), w64_id (by unfold zrl; omega)]
              rfl
            · rw [if_neg (by omega), show min j 9 = 9 by omega, show min (j + 1) 9 = 9 by omega]
          rw [ev trivial, w32_k (by omega)]
          refine Prod.ext (funext fun g => ?_) rfl
          dsimp only [sI]
          repeat' split
          all_goals first | rfl | (exfalso; omega)
        have := ih (j + 1) (by omega) (by omega)
        rw [← e1] at this
        exact this
  have := key _ 0 (Nat.le_refl _) (by have := he.1; omega)
  have e0 : sI (sI (sI (sI (sI (sI τ 2 k) 5 k) 4 0) 6 (w32 ((k : Int) + 1))) 3 3) 6 k = sI (sI (sI (sI (sI τ 2 k) 5 k) 3 3) 4 (nv (bt τ) k (min 0 9))) 6 ((k + 0 : Nat) : Int) := by
    show _ = sI (sI (sI (sI (sI τ 2 k) 5 k) 3 3) 4 0) 6 (k : Int)
    refine Prod.ext (funext fun g => ?_) rfl
    dsimp only [sI]
    repeat' split
    all_goals first | rfl | (exfalso; omega)
  rw [e0]
  exact this
theorem sT_quo (T : tpT τ) {k e : Nat} (h1600 : tI τ 1 ≤ 1600) (hen : (e : Int) ≤ tI τ 1) (he : Run isSm (bt τ) (k + 1) e) : ∀ Q : TW → Prop, pT_next_325 (wpT (d + 3)) Q (sI (sI (sI (sI τ 2 k) 5 k) 4 (pk (bt τ) (k + 1) (min (e - (k + 1)) 8))) 6 e) → pT_next_256 (wpT (d + 3)) Q (sI (sI (sI (sI τ 2 k) 5 k) 4 0) 6 (w32 ((k : Int) + 1))) := by
  intro Q hQ I hI
  have key : ∀ m j : Nat, e - (k + 1 + j) ≤ m → k + 1 + j ≤ e → I (sI (sI (sI (sI τ 2 k) 5 k) 4 (pk (bt τ) (k + 1) (min j 8))) 6 ((k + 1 + j : Nat) : Int)) := by
    intro m
    induction m with
    | zero =>
      intro j h1 h2
      apply hI
      have ej : e = k + 1 + j := by omega
      refine ⟨T.fo (by show (0 : Int) ≤ ((k + 1 + j : Nat) : Int); omega), fun _ => ?_, fun h => ?_⟩
      · have hQ' := hQ
        rw [show e - (k + 1) = j by omega, ej] at hQ'
        exact hQ'
      · replace h : ¬ (ff_isSmall (bt τ (k + 1 + j)) τ = 0) := h
        rw [ff_small, ← ej] at h
        exact absurd he.2.2 h
    | succ m ih =>
      intro j h1 h2
      apply hI
      refine ⟨T.fo (by show (0 : Int) ≤ ((k + 1 + j : Nat) : Int); omega), fun h => ?_, fun h => ⟨fun _ => T.fo (by show (0 : Int) ≤ ((k + 1 + j : Nat) : Int); omega), ?_⟩⟩
      · replace h : ff_isSmall (bt τ (k + 1 + j)) τ = 0 := h
        rw [ff_small] at h
        have ej : e = k + 1 + j := by
          rcases Nat.lt_or_ge (k + 1 + j) e with z | z
          · exact absurd (he.2.1 _ (by omega) z) h
          · omega
        have hQ' := hQ
        rw [show e - (k + 1) = j by omega, ej] at hQ'
        exact hQ'
      · refine fa ?_
        refine fa ?_
        refine fa ?_
        replace h : ¬ (ff_isSmall (bt τ (k + 1 + j)) τ = 0) := h
        rw [ff_small] at h
        replace h : isSm (bt τ (k + 1 + j)) := Classical.byContradiction h
        have hj : k + 1 + j < e := by
          rcases Nat.lt_or_ge (k + 1 + j) e with z | z
          · exact z
          · have ej : e = k + 1 + j := by omega
            have h3 := he.2.2
            rw [ej] at h3; exact absurd h h3
        have e1 : sI (sI (sI (sI (sI (sI τ 2 k) 5 k) 4 (pk (bt τ) (k + 1) (min j 8))) 6 ((k + 1 + j : Nat) : Int)) 4 (if ¬ (9 ≤ (w32 (((k + 1 + j : Nat) : Int) - (k : Int)))) then l_or (l_shl (pk (bt τ) (k + 1) (min j 8)) 8) (bt τ (k + 1 + j)) else pk (bt τ) (k + 1) (min j 8))) 6 (w32 (((k + 1 + j : Nat) : Int) + 1)) = sI (sI (sI (sI τ 2 k) 5 k) 4 (pk (bt τ) (k + 1) (min (j + 1) 8))) 6 ((k + 1 + (j + 1) : Nat) : Int) := by
          have ev : True → (if ¬ (9 ≤ (w32 (((k + 1 + j : Nat) : Int) - (k : Int)))) then l_or (l_shl (pk (bt τ) (k + 1) (min j 8)) 8) (bt τ (k + 1 + j)) else pk (bt τ) (k + 1) (min j 8)) = pk (bt τ) (k + 1) (min (j + 1) 8) := fun _ => by
            rw [w32_s (by omega) (by omega)]
            by_cases z : j < 8
            · rw [if_pos (by omega), show min j 8 = j by omega, show min (j + 1) 8 = j + 1 by omega]; rfl
            · rw [if_neg (by omega), show min j 8 = 8 by omega, show min (j + 1) 8 = 8 by omega]
          rw [ev trivial, w32_k (by omega)]
          refine Prod.ext (funext fun g => ?_) rfl
          dsimp only [sI]
          repeat' split
          all_goals first | rfl | (exfalso; omega)
        have := ih (j + 1) (by omega) (by omega)
        rw [← e1] at this
        exact this
  have := key _ 0 (Nat.le_refl _) (by have := he.1; omega)
  rw [w32_k (by have := he.1; omega)]
  exact this
theorem sT_next (T : tpT τ) (h0 : 0 ≤ tI τ 6) (h1 : tI τ 6 ≤ tI τ 1) : ∃ τ', FT [2, 3, 4, 5, 6] τ τ' ∧ Lx (bt τ) (tI τ 6).toNat (tI τ' 5) (tI τ' 6) (tI τ' 3) (tI τ' 4) ∧ ∀ Q, Q (.inl none) τ' → wpT (d + 4) 4 [] τ Q := by
  have h1600 := T.2.1
  have hst : ∀ P : Int → Prop, (∀ c, P c → c ≠ -1) → ∀ k, ∃ e, Run P (bt τ) k e := fun P hP => Run.ex P (bt τ) (tI τ 1).toNat (fun j hj hp => hP _ hp (bt_ge (by omega)))
  obtain ⟨k, hk⟩ := hst isBl (fun c h => by unfold isBl at h; omega) (tI τ 6).toNat
  have hkn := Run.le T hk (fun c h => by unfold isBl at h; omega) (by omega)
  -- up to the token
  have head : ∀ Q : ZRes → TW → Prop, pT_next_47 (wpT (d + 3)) (fun w => Q (.inl none) w) (sI τ 2 k) → wpT (d + 4) 4 [] τ Q := by
    intro Q hQ
    refine wT_next (by omega) ?_
    refine fa ?_
    intro I hI
    have key : ∀ m j : Nat, k - j ≤ m → Run isBl (bt τ) j k → I (sI τ 2 j) := by
      intro m
      induction m with
      | zero =>
        intro j hj hr
        apply hI
        have : k = j := by have := hr.1; omega
        have hb := hr.2.2
        rw [this] at hb
        refine ⟨T.fo (by show (0 : Int) ≤ j; omega), fun _ => T.fo (by show (0 : Int) ≤ j; omega), fun h => absurd h hb, fun _ => by rw [← this]; exact hQ⟩
      | succ m ih =>
        intro j hj hr
        apply hI
        refine ⟨T.fo (by show (0 : Int) ≤ j; omega), fun _ => T.fo (by show (0 : Int) ≤ j; omega), fun h => ?_, fun h => ?_⟩
        · refine fa ?_
          have hr2 := hr.step h
          have hj2 := bt_nn T (k := j) (fun e => by rcases h with h | h <;> (replace h : bt τ j = _ := h; omega))
          rw [sI_sI]
          show I (sI τ 2 (w32 ((j : Int) + 1)))
          rw [w32_k (by omega)]
          exact ih (j + 1) (by omega) hr2
        · have := hr.stop h
          rw [← this]; exact hQ
    have e0 : ((tI τ 6).toNat : Int) = tI τ 6 := by omega
    have := key k (tI τ 6).toNat (by omega) hk
    rw [e0] at this
    exact this
  have hFT : FT [2, 3, 4, 5, 6] τ (sI (sI (sI (sI τ 2 k) 5 k) 4 0) 6 (w32 ((k : Int) + 1))) := ((((FT.refl _ τ).ssI (by simp)).ssI (by simp)).ssI (by simp)).ssI (by simp)
  have T17 : tpT (sI (sI (sI (sI τ 2 k) 5 k) 4 0) 6 (w32 ((k : Int) + 1))) := T
  have ek1 : True → w32 ((k : Int) + 1) = ((k + 1 : Nat) : Int) := fun _ => w32_k (by omega)
  -- run on at the token
  have tail : ∀ τ', FT [2, 3, 4, 5, 6] τ τ' → tI τ' 5 = k → (if bt τ k = -1 then tI τ' 3 = 0 ∧ tI τ' 6 = k
  else if isSm (bt τ k) ∨ isUp (bt τ k) then ∃ e, Run isNc (bt τ) (k + 1) e ∧ if 8 < e - k then tI τ' 3 = 7 else tI τ' 6 = e ∧ (if isSm (bt τ k) then (if wdOf (pk (bt τ) k (e - k)) < 0 then tI τ' 3 = 1 ∧ tI τ' 4 = pk (bt τ) k (e - k) else tI τ' 3 = 6 ∧ tI τ' 4 = wdOf (pk (bt τ) k (e - k))) else tI τ' 3 = 2 ∧ tI τ' 4 = pk (bt τ) k (e - k))
  else if isFg (bt τ k) then ∃ e, Run isFg (bt τ) k e ∧ if 9 < e - k then tI τ' 3 = 7 else tI τ' 6 = e ∧ tI τ' 3 = 3 ∧ tI τ' 4 = nv (bt τ) k (e - k)
  else if bt τ k = 39 then ∃ e, Run isSm (bt τ) (k + 1) e ∧ if bt τ e = 39 ∧ e ≤ k + 9 then tI τ' 6 = e + 1 ∧ tI τ' 3 = 4 ∧ tI τ' 4 = pk (bt τ) (k + 1) (e - (k + 1)) else tI τ' 3 = 7
  else if bt τ k = 46 ∧ bt τ (k + 1) = 46 then tI τ' 6 = k + 2 ∧ tI τ' 3 = 5 ∧ tI τ' 4 = 256
  else if isSg (bt τ k) then tI τ' 6 = k + 1 ∧ tI τ' 3 = 5 ∧ tI τ' 4 = bt τ k
  else tI τ' 3 = 7) → (∀ Q : TW → Prop, Q τ' → pT_next_47 (wpT (d + 3)) Q (sI τ 2 k)) → ∃ τ', FT [2, 3, 4, 5, 6] τ τ' ∧ Lx (bt τ) (tI τ 6).toNat (tI τ' 5) (tI τ' 6) (tI τ' 3) (tI τ' 4) ∧ ∀ Q, Q (.inl none) τ' → wpT (d + 4) 4 [] τ Q := by
    intro τ' h1 h2 h3 h4
    exact ⟨τ', h1, ⟨k, hk, h2, h3⟩, fun Q hQ => head Q (h4 _ hQ)⟩
  have run : ∀ Q : TW → Prop, ((bt τ k = -1 → ∀ u135 : TW, u135 = sI (sI (sI (sI (sI τ 2 k) 5 k) 4 0) 6 (w32 ((k : Int) + 1))) 3 0 → ∀ u136 : TW, u136 = sI u135 6 (tI u135 2) → Q u136) ∧
      (¬ (bt τ k = -1) → (¬ (ff_isSmall (bt τ k) τ = 0) ∨ ¬ (ff_in (bt τ k) 65 90 τ = 0) → pT_next_121 (wpT (d + 3)) Q (bt τ k) (sI (sI (sI (sI τ 2 k) 5 k) 4 0) 6 (w32 ((k : Int) + 1)))) ∧
        (¬ (¬ (ff_isSmall (bt τ k) τ = 0) ∨ ¬ (ff_in (bt τ k) 65 90 τ = 0)) →
          (ff_isFigure (bt τ k) τ = 0 → (bt τ k = 39 → pT_next_256 (wpT (d + 3)) Q (sI (sI (sI (sI τ 2 k) 5 k) 4 0) 6 (w32 ((k : Int) + 1)))) ∧
            (¬ (bt τ k = 39) → (bt τ k = 46 → fo_byteAt (w32 ((k : Int) + 1)) τ) ∧
              ((bt τ k = 46) ∧ (ff_byteAt (w32 ((k : Int) + 1)) τ = 46) → Q (sI (sI (sI (sI (sI (sI (sI τ 2 k) 5 k) 4 0) 6 (w32 ((k : Int) + 1))) 3 5) 4 256) 6 (w32 ((k : Int) + 2)))) ∧
              (¬ ((bt τ k = 46) ∧ (ff_byteAt (w32 ((k : Int) + 1)) τ = 46)) → pT_next_421 (wpT (d + 3)) Q (bt τ k) (sI (sI (sI (sI τ 2 k) 5 k) 4 0) 6 (w32 ((k : Int) + 1)))))) ∧
          (¬ (ff_isFigure (bt τ k) τ = 0) → pT_next_149 (wpT (d + 3)) Q (sI (sI (sI (sI (sI (sI τ 2 k) 5 k) 4 0) 6 (w32 ((k : Int) + 1))) 3 3) 6 k))))) → pT_next_47 (wpT (d + 3)) Q (sI τ 2 k) := by
    intro Q h
    refine fa ?_
    refine ⟨T.fo (by show (0 : Int) ≤ k; omega), ?_⟩
    refine fa ?_
    refine fa ?_
    refine fa ?_
    refine ⟨h.1, fun h1 => ⟨(h.2 h1).1, fun h2 => ⟨fun h3 => ⟨(((h.2 h1).2 h2).1 h3).1, fun h4 => ⟨((((h.2 h1).2 h2).1 h3).2 h4).1, fun h5 => ?_, ((((h.2 h1).2 h2).1 h3).2 h4).2.2⟩⟩, fun h3 => ?_⟩⟩⟩
    · refine fa ?_
      refine fa ?_
      refine fa ?_
      exact ((((h.2 h1).2 h2).1 h3).2 h4).2.1 h5
    · refine fa ?_
      refine fa ?_
      exact ((h.2 h1).2 h2).2 h3
  by_cases c1 : bt τ k = -1
  · refine tail ?x1 ?_ ?_ ?_ (fun Q hQ => run Q ⟨fun _ => ?_, fun h => absurd c1 h⟩)
    rotate_left 4
    · refine fa ?_
      refine fa ?_
      exact hQ
    · repeat' (first | exact FT.refl _ _ | refine FT.ssI ?_ (by decide) | refine FT.ssA ?_ (by decide))
    · rfl
    · rw [if_pos c1]; exact ⟨rfl, rfl⟩
  by_cases c2 : isSm (bt τ k) ∨ isUp (bt τ k)
  · obtain ⟨e, he⟩ := hst isNc (fun c h => by unfold isNc isSm isFg at h; omega) (k + 1)
    have hk1 := bt_nn T c1
    have hen := Run.le T he (fun c h => by unfold isNc isSm isFg at h; omega) (by omega)
    have c2' : ¬ (ff_isSmall (bt τ k) τ = 0) ∨ ¬ (ff_in (bt τ k) 65 90 τ = 0) := by
      rw [ff_small, ff_upper]; rcases c2 with c | c
      · exact Or.inl (fun h => h c)
      · exact Or.inr (fun h => h c)
    have name := @sT_name d τ T k e h1600 hen he
    have he1 := he.1
    by_cases c3 : 8 < e - k
    · refine tail ?x2 ?_ ?_ ?_ (fun Q hQ => run Q ⟨fun h => absurd h c1, fun _ => ⟨fun _ => name _ ⟨fun h => ?_, fun _ => ?_⟩, fun h => absurd c2' h⟩⟩)
      rotate_left 5
      · refine fa ?_
        exact hQ
      · repeat' (first | exact FT.refl _ _ | refine FT.ssI ?_ (by decide) | refine FT.ssA ?_ (by decide))
      · rfl
      · rw [if_neg c1, if_pos c2]; exact ⟨e, he, by rw [if_pos c3]; rfl⟩
      · exfalso
        replace h : w32 ((e : Int) - (k : Int)) ≤ 8 := h
        rw [w32_s (by omega) (by omega)] at h
        omega
    · have c4 : True → w32 ((e : Int) - (k : Int)) ≤ 8 := fun _ => by rw [w32_s (by omega) (by omega)]; omega
      have ep : min (e - k) 8 = e - k := by omega
      rw [ep] at name
      refine tail ?x3 ?_ ?_ ?_ (fun Q hQ => run Q ⟨fun h => absurd h c1, fun _ => ⟨fun _ => name _ ⟨fun _ => ?_, fun h => absurd (c4 trivial) h⟩, fun h => absurd c2' h⟩⟩)
      rotate_left 4
      · refine fa ?_
        refine fa ?_
        refine fa ?_
        refine fa ?_
        refine fa ?_
        exact hQ
      · repeat' (first | exact FT.refl _ _ | refine FT.ssI ?_ (by decide) | refine FT.ssA ?_ (by decide))
      · rfl
      · rw [if_neg c1, if_pos c2]
        refine ⟨e, he, ?_⟩
        rw [if_neg c3]
        refine ⟨rfl, ?_⟩
        have ew : ∀ u, ff_wordOf (pk (bt τ) k (e - k)) u = wdOf (pk (bt τ) k (e - k)) := fun u => rfl
        show if isSm (bt τ k) then (if wdOf (pk (bt τ) k (e - k)) < 0 then (if ff_isSmall (bt τ k) τ = 0 then 2 else if wdOf (pk (bt τ) k (e - k)) < 0 then (1 : Int) else 6) = 1 ∧ (if (if ff_isSmall (bt τ k) τ = 0 then 2 else if wdOf (pk (bt τ) k (e - k)) < 0 then (1 : Int) else 6) = 6 then wdOf (pk (bt τ) k (e - k)) else pk (bt τ) k (e - k)) = pk (bt τ) k (e - k) else (if ff_isSmall (bt τ k) τ = 0 then 2 else if wdOf (pk (bt τ) k (e - k)) < 0 then (1 : Int) else 6) = 6 ∧ (if (if ff_isSmall (bt τ k) τ = 0 then 2 else if wdOf (pk (bt τ) k (e - k)) < 0 then (1 : Int) else 6) = 6 then wdOf (pk (bt τ) k (e - k)) else pk (bt τ) k (e - k)) = wdOf (pk (bt τ) k (e - k))) else (if ff_isSmall (bt τ k) τ = 0 then 2 else if wdOf (pk (bt τ) k (e - k)) < 0 then (1 : Int) else 6) = 2 ∧ (if (if ff_isSmall (bt τ k) τ = 0 then 2 else if wdOf (pk (bt τ) k (e - k)) < 0 then (1 : Int) else 6) = 6 then wdOf (pk (bt τ) k (e - k)) else pk (bt τ) k (e - k)) = pk (bt τ) k (e - k)
        by_cases z : isSm (bt τ k)
        · have z' : ¬ (ff_isSmall (bt τ k) τ = 0) := fun q => (ff_small _ _).mp q z
          rw [if_pos z, if_neg z']
          by_cases y : wdOf (pk (bt τ) k (e - k)) < 0
          · rw [if_pos y, if_pos y]; exact ⟨rfl, by rw [if_neg (by decide)]⟩
          · rw [if_neg y, if_neg y]; exact ⟨rfl, by rw [if_pos rfl]⟩
        · have z' : ff_isSmall (bt τ k) τ = 0 := (ff_small _ _).mpr z
          rw [if_neg z, if_pos z']
          exact ⟨rfl, by rw [if_neg (by decide)]⟩
  have c2' : ¬ (¬ (ff_isSmall (bt τ k) τ = 0) ∨ ¬ (ff_in (bt τ k) 65 90 τ = 0)) := by
    rw [ff_small, ff_upper]
    intro h
    rcases h with h | h
    · exact c2 (Or.inl (Classical.byContradiction h))
    · exact c2 (Or.inr (Classical.byContradiction h))
  have hk1 := bt_nn T c1
  by_cases c3 : isFg (bt τ k)
  · obtain ⟨e, he⟩ := hst isFg (fun c h => by unfold isFg at h; omega) k
    have hen := Run.le T he (fun c h => by unfold isFg at h; omega) (by omega)
    have c3' : ¬ (ff_isFigure (bt τ k) τ = 0) := fun h => (ff_figure _ _).mp h c3
    have fig := @sT_fig d τ T k e h1600 hen he
    have he1 := he.1
    by_cases c4 : 9 < e - k
    · refine tail ?x4 ?_ ?_ ?_ (fun Q hQ => run Q ⟨fun h => absurd h c1, fun _ => ⟨fun h => absurd h c2', fun _ => ⟨fun h => absurd h c3', fun _ => fig _ ?_⟩⟩⟩)
      rotate_left 4
      · refine fa ?_
        refine fa ?_
        exact hQ
      · repeat' (first | exact FT.refl _ _ | refine FT.ssI ?_ (by decide) | refine FT.ssA ?_ (by decide))
      · rfl
      · rw [if_neg c1, if_neg c2, if_pos c3]
        refine ⟨e, he, ?_⟩
        rw [if_pos c4]
        show (if ¬ (w32 ((e : Int) - (k : Int)) ≤ 9) then (7 : Int) else 3) = 7
        rw [w32_s (by omega) (by omega), if_pos (by omega)]
    · refine tail ?x5 ?_ ?_ ?_ (fun Q hQ => run Q ⟨fun h => absurd h c1, fun _ => ⟨fun h => absurd h c2', fun _ => ⟨fun h => absurd h c3', fun _ => fig _ ?_⟩⟩⟩)
      rotate_left 4
      · refine fa ?_
        refine fa ?_
        exact hQ
      · repeat' (first | exact FT.refl _ _ | refine FT.ssI ?_ (by decide) | refine FT.ssA ?_ (by decide))
      · rfl
      · rw [if_neg c1, if_neg c2, if_pos c3]
        refine ⟨e, he, ?_⟩
        rw [if_neg c4]
        refine ⟨rfl, ?_, ?_⟩
        · show (if ¬ (w32 ((e : Int) - (k : Int)) ≤ 9) then (7 : Int) else 3) = 3
          rw [w32_s (by omega) (by omega), if_neg (by omega)]
        · show nv (bt τ) k (min (e - k) 9) = _
          rw [show min (e - k) 9 = e - k by omega]
  have c3' : ff_isFigure (bt τ k) τ = 0 := (ff_figure _ _).mpr c3
  by_cases c4 : bt τ k = 39
  · obtain ⟨e, he⟩ := hst isSm (fun c h => by unfold isSm at h; omega) (k + 1)
    have hen := Run.le T he (fun c h => by unfold isSm at h; omega) (by omega)
    have quo := @sT_quo d τ T k e h1600 hen he
    have he1 := he.1
    have hfo : fo_byteAt (e : Int) τ := T.fo (by omega)
    refine tail ?x6 ?_ ?_ ?_ (fun Q hQ => run Q ⟨fun h => absurd h c1, fun _ => ⟨fun h => absurd h c2', fun _ => ⟨fun _ => ⟨fun _ => quo _ ⟨hfo, ?_⟩, fun h => absurd c4 h⟩, fun h => absurd c3' h⟩⟩⟩)
    rotate_left 4
    · refine fa ?_
      refine fa ?_
      refine fa ?_
      exact hQ
    · repeat' (first | exact FT.refl _ _ | refine FT.ssI ?_ (by decide) | refine FT.ssA ?_ (by decide))
    · rfl
    · rw [if_neg c1, if_neg c2, if_neg c3, if_pos c4]
      refine ⟨e, he, ?_⟩
      by_cases z : bt τ e = 39 ∧ e ≤ k + 9
      · rw [if_pos z]
        refine ⟨?_, ?_, ?_⟩
        · show w32 ((e : Int) + 1) = _
          rw [w32_s (by omega) (by omega)]
        · show (if (bt τ e = 39) ∧ (¬ (9 < (w32 ((e : Int) - (k : Int))))) then (4 : Int) else 7) = 4
          rw [w32_s (by omega) (by omega), if_pos ⟨z.1, by omega⟩]
        · show pk (bt τ) (k + 1) (min (e - (k + 1)) 8) = _
          rw [show min (e - (k + 1)) 8 = e - (k + 1) by omega]
      · rw [if_neg z]
        show (if (bt τ e = 39) ∧ (¬ (9 < (w32 ((e : Int) - (k : Int))))) then (4 : Int) else 7) = 7
        rw [w32_s (by omega) (by omega), if_neg (fun q => z ⟨q.1, by omega⟩)]
  by_cases c5 : bt τ k = 46 ∧ bt τ (k + 1) = 46
  · have c5' : (bt τ k = 46) ∧ (ff_byteAt (w32 ((k : Int) + 1)) τ = 46) := ⟨c5.1, by rw [ek1 trivial]; exact c5.2⟩
    refine tail ?x7 ?_ ?_ ?_ (fun Q hQ => run Q ⟨fun h => absurd h c1, fun _ => ⟨fun h => absurd h c2', fun _ => ⟨fun _ => ⟨fun h => absurd h c4, fun _ => ⟨fun _ => T.fo (by rw [ek1 trivial]; omega), fun _ => ?_, fun h => absurd c5' h⟩⟩, fun h => absurd c3' h⟩⟩⟩)
    rotate_left 4
    · exact hQ
    · repeat' (first | exact FT.refl _ _ | refine FT.ssI ?_ (by decide) | refine FT.ssA ?_ (by decide))
    · rfl
    · rw [if_neg c1, if_neg c2, if_neg c3, if_neg c4, if_pos c5]
      refine ⟨?_, rfl, rfl⟩
      show w32 ((k : Int) + 2) = _
      rw [w32_s (by omega) (by omega)]
  have c5' : ¬ ((bt τ k = 46) ∧ (ff_byteAt (w32 ((k : Int) + 1)) τ = 46)) := fun h => c5 ⟨h.1, by have := h.2; rw [ek1 trivial] at this; exact this⟩
  refine tail ?x8 ?_ ?_ ?_ (fun Q hQ => run Q ⟨fun h => absurd h c1, fun _ => ⟨fun h => absurd h c2', fun _ => ⟨fun _ => ⟨fun h => absurd h c4, fun _ => ⟨fun _ => T.fo (by rw [ek1 trivial]; omega), fun h => absurd h c5', fun _ => ?_⟩⟩, fun h => absurd c3' h⟩⟩⟩)
  rotate_left 4
  · refine fa ?_
    refine fa ?_
    refine fa ?_
    refine fa ?_
    exact hQ
  · repeat' (first | exact FT.refl _ _ | refine FT.ssI ?_ (by decide) | refine FT.ssA ?_ (by decide))
  · rfl
  · rw [if_neg c1, if_neg c2, if_neg c3, if_neg c4, if_neg c5]
    have hv : ∀ c : Prop, [Decidable c] → (if ¬ ((if c then (1 : Int) else 0) = 0) then (5 : Int) else 7) = if c then 5 else 7 := by
      intro c _
      by_cases h : c
      · rw [if_pos h, if_pos h, if_pos (by decide)]
      · rw [if_neg h, if_neg h, if_neg (by decide)]
    by_cases z : isSg (bt τ k)
    · rw [if_pos z]
      refine ⟨ek1 trivial, ?_, rfl⟩
      refine (hv (isSg (bt τ k))).trans ?_
      rw [if_pos z]
    · rw [if_neg z]
      refine (hv (isSg (bt τ k))).trans ?_
      rw [if_neg z]
end ZLex
