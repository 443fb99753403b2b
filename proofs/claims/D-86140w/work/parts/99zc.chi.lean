/-! patterns within others, one behind the other -/
section ZChi
variable {p b e d : Nat} {w : CW} {τ : TW}
/-- what opens -/
theorem sT_opens {o q : Nat} {pl : Int} (h32 : tI τ 32 = (o : Nat)) (ho : o < 8) : ∃ σ', FT [32, 33, 34, 35, 36, 37, 38, 39] τ σ' ∧ tI σ' 32 = ((o + 1 : Nat) : Int) ∧ (∀ f, 33 ≤ f → f ≤ 39 → ∀ x : Nat, x ≠ o → tA σ' f x = tA τ f x) ∧ tA σ' 33 o = q ∧ tA σ' 34 o = 0 ∧ tA σ' 35 o = -4 ∧ tA σ' 36 o = pl ∧ tA σ' 37 o = tI τ 31 ∧ tA σ' 38 o = 0 ∧ tA σ' 39 o = 0 ∧ ∀ Q, Q (.inl none) σ' → wpT (d + 1) 32 [ai q, ai pl] τ Q := by
  have r : (0 : Int) ≤ (o : Int) ∧ (o : Int) < 8 := by omega
  have e1 : w32 ((o : Int) + 1) = ((o + 1 : Nat) : Int) := w32_k (by omega)
  refine ⟨sI (sA (sA (sA (sA (sA (sA (sA τ 33 o q) 34 o 0) 35 o (-4)) 36 o pl) 37 o (tI τ 31)) 38 o 0) 39 o (zb 0)) 32 ((o + 1 : Nat) : Int), ?_, ?_, fun f h1 h2 x hx => ?_, ?_, ?_, ?_, ?_, ?_, ?_, ?_, fun Q hQ => wT_opens (Nat.zero_le _) (bT_opens_0 ?_)⟩
  · exact ((((((((FT.refl _ τ).ssA (by decide)).ssA (by decide)).ssA (by decide)).ssA (by decide)).ssA (by decide)).ssA (by decide)).ssA (by decide)).ssI (by decide)
  · exact (tI_sI _ _ _ _).trans (if_pos rfl)
  · have hx' : ¬ ((x : Int) = (o : Int)) := by omega
    simp only [tA_sI, tA_sA, hx', and_false, if_false]
  · simp [tA_sI, tA_sA]
  · simp [tA_sI, tA_sA]
  · simp [tA_sI, tA_sA]
  · simp [tA_sI, tA_sA]
  · simp [tA_sI, tA_sA]
  · simp [tA_sI, tA_sA]
  · simp [tA_sI, tA_sA]; rfl
  · refine ⟨by omega, fun u1 h1 => ?_⟩
    rw [h32] at h1
    have k1 : tI u1 32 = o := by rw [h1]; exact h32
    refine ⟨by omega, fun u2 h2 => ?_⟩
    rw [k1] at h2
    have k2 : tI u2 32 = o := by rw [h2]; exact k1
    refine ⟨by omega, fun u3 h3 => ?_⟩
    rw [k2] at h3
    have k3 : tI u3 32 = o := by rw [h3]; exact k2
    refine ⟨by omega, fun u4 h4 => ?_⟩
    rw [k3] at h4
    have k4 : tI u4 32 = o ∧ tI u4 31 = tI τ 31 := by rw [h4, h3, h2, h1]; exact ⟨h32, rfl⟩
    refine ⟨by omega, fun u5 h5 => ?_⟩
    rw [k4.1, k4.2] at h5
    have k5 : tI u5 32 = o := by rw [h5]; exact k4.1
    refine ⟨by omega, fun u6 h6 => ?_⟩
    rw [k5] at h6
    have k6 : tI u6 32 = o := by rw [h6]; exact k5
    refine ⟨by omega, fun u7 h7 => ?_⟩
    rw [k6] at h7
    have k7 : tI u7 32 = o := by rw [h7]; exact k6
    intro u8 h8
    rw [k7, e1] at h8
    rw [h8, h7, h6, h5, h4, h3, h2, h1]
    exact hQ
/-- the first i patterns within the row q: the objects in the array a, the rows c, what they bind, of which sorts -/
def CHI (p a n : Nat) (mul : Bool) (u : CW) (σ : TW) (q i : Nat) (c : Nat → Nat) (Di : Nat → Nat → Prop) (Sn : Nat → Nat → Int) : Prop :=
  (i = 0 → tA σ 22 q = -4) ∧ (0 < i → tA σ 22 q = c 0) ∧ (∀ j, j + 1 < i → tA σ 23 (c j) = c (j + 1)) ∧ (0 < i → tA σ 23 (c (i - 1)) = -4) ∧ (∀ j, j < i → q < c j ∧ c j < np σ) ∧ (∀ j, j + 1 < i → c j < c (j + 1)) ∧ (0 < i → tA σ 26 q = rwF mul σ c (i - 1)) ∧ (∀ j, j < i → 1 ≤ rwF mul σ c j ∧ rwF mul σ c j ≤ 1000) ∧
    ∀ j, j < i → PRel p a u σ (Sn j) n (nxt c i (np σ) j) (aR u a j) (c j) (Di j)
theorem rwF_eq {mul : Bool} {σ : TW} {c c' : Nat → Nat} {τ : TW} : ∀ i, (∀ j, j ≤ i → c' j = c j ∧ tA σ 26 (c j) = tA τ 26 (c j)) → rwF mul σ c' i = rwF mul τ c i := by
  intro i
  induction i with
  | zero => intro h; unfold rwF; rw [(h 0 (Nat.le_refl _)).1]; exact (h 0 (Nat.le_refl _)).2
  | succ i ih =>
    intro h
    unfold rwF
    rw [ih (fun j hj => h j (by omega)), (h (i + 1) (Nat.le_refl _)).1, show tA σ 26 (c (i + 1)) = tA τ 26 (c (i + 1)) from (h (i + 1) (Nat.le_refl _)).2]
/-- how many rows a pattern makes: at least one -/
theorem PCore.rows {P : Nat → Nat → Nat → (Nat → Prop) → Prop} {b N r q : Nat} {D : Nat → Prop} {nm : Int} {Sn : Nat → Int} (h : PCore P p b w τ Sn N r q D nm) (hP : ∀ M a c E, P M a c E → 1 ≤ tA τ 26 c ∧ tA τ 26 c ≤ 1000) : 1 ≤ tA τ 26 q ∧ tA τ 26 q ≤ 1000 := by
  have rg : ∀ (mul : Bool) (c : Nat → Nat) (m : Nat), (∀ i, i < m → 1 ≤ tA τ 26 (c i) ∧ tA τ 26 (c i) ≤ 1000) → ∀ i, i < m → 1 ≤ rwF mul τ c i ∧ rwF mul τ c i ≤ 1000 := by
    intro mul c m hc i
    induction i with
    | zero => intro hi; exact hc 0 hi
    | succ i ih =>
      intro hi
      have a1 := ih (by omega)
      have a2 := hc (i + 1) hi
      have a2' : 1 ≤ tA τ 26 (c (i + 1)) ∧ tA τ 26 (c (i + 1)) ≤ 1000 := a2
      unfold rwF
      cases mul with
      | true =>
        have : 1 ≤ rwF true τ c i * tA τ 26 (c (i + 1)) := by
          have := Int.mul_le_mul a1.1 a2'.1 (by decide) (by omega)
          omega
        simp only [if_true]
        omega
      | false =>
        simp only [Bool.false_eq_true, if_false]
        omega
  rcases h.2.2.2.2 with z | z | z | z | z | ⟨z1, z2, z3, k, m, c, y1, y2, y3, y4, y5, y6, y7, y8, y9, Di, x1, x2, x3⟩ | ⟨z1, z2, m, c, y1, y2, y3, y4, y5, y6, D0, x1, x2, x3⟩
  · have := z.2.2.1; have e : tA τ 26 q = 1 := this; omega
  · have := z.2.2.1; have e : tA τ 26 q = 1 := this; omega
  · have := z.2.2.1; have e : tA τ 26 q = 1 := this; omega
  · have := z.2.2.1; have e : tA τ 26 q = 1 := this; omega
  · have := z.2.2.1; have e : tA τ 26 q = 1 := this; omega
  · rcases Nat.eq_zero_or_pos m with e0 | e0
    · have e : tA τ 26 q = 1 := y7 e0
      omega
    · have e : tA τ 26 q = rwF true τ c (m - 1) := y8 e0
      rw [e]
      exact rg true c m (fun i hi => hP _ _ _ _ (x1 i hi).2) (m - 1) (by omega)
  · have e : tA τ 26 q = rwF false τ c (m - 1) := y5
    rw [e]
    exact rg false c m (fun i hi => hP _ _ _ _ (x1 i hi).2) (m - 1) (by omega)
theorem PRel.rows {b : Nat} {Sn : Nat → Int} : ∀ n N r q D, PRel p b w τ Sn n N r q D → 1 ≤ tA τ 26 q ∧ tA τ 26 q ≤ 1000 := by
  intro n
  induction n with
  | zero => intro N r q D h; exact h.elim
  | succ n ih =>
    intro N r q D h
    obtain ⟨h1, h2, h⟩ := h
    rcases h with ⟨_, h⟩ | ⟨_, _, _, _, _, _, _, h⟩
    · exact h.rows (fun M a c E k => ih M a c E k)
    · exact h.rows (fun M a c E k => ih M a c E k)
theorem PRel.lt {b n N r q : Nat} {Sn : Nat → Int} {D : Nat → Prop} (h : PRel p b w τ Sn n N r q D) : q < N ∧ b < r ∧ (6 ≤ tg w r ∧ tg w r ≤ 12) := by
  cases n with
  | zero => exact h.elim
  | succ n =>
    obtain ⟨h1, h2, h⟩ := h
    rcases h with ⟨_, h⟩ | ⟨_, _, a, b', _, _, _, h⟩
    · exact ⟨h.1, h.2.1, h.tg⟩
    · exact ⟨h.1, b', by rw [a]; decide⟩
theorem nxt_le {c : Nat → Nat} {m N i : Nat} (h : ∀ j, j < m → c j < N) (hi : i < m) : nxt c m N i ≤ N := by
  unfold nxt
  split
  · rename_i z; exact Nat.le_of_lt (h _ z)
  · exact Nat.le_refl _
/-- one more -/
theorem CHI.add {a n q i r o : Nat} {mul : Bool} {u u' u2 : CW} {σ σ' σ2 : TW} {c : Nat → Nat} {Di : Nat → Nat → Prop} {Sn : Nat → Nat → Int} {D : Nat → Prop} {T : List Nat} (h : CHI p a n mul u σ q i c Di Sn) (hq : q < np σ) (W : WF p u) (W' : WF p u') (hF : Fr T u u') (hT : ∀ x, x ∈ T → x ≤ a ∨ cz u < x) (U : UT σ σ' o) (hnp : np σ < np σ')
    (pr : PRel p a u' σ' (SnR σ') n (np σ') r (np σ) D) (e23 : tA σ' 23 (np σ) = -4) (hF2 : Fr [a] u' u2) (hAa : ∀ j : Nat, aR u' a j = aR u a j) (hA : ∀ x (j : Nat), aR u2 x j = if x = a ∧ j = i then r else aR u' x j) (F2 : FT [22, 23, 26, 34, 35] σ' σ2)
    (hk1 : nK σ ≤ nK σ' ∧ ∀ k, k < nK σ → kd u' p k = kd u p k ∧ tA σ' 14 k = tA σ 14 k ∧ ∀ i : Nat, (i : Int) < tA σ 14 k → tA σ' 15 (4 * k + i : Nat) = tA σ 15 (4 * k + i : Nat))
    (hk2 : ∀ k, kd u2 p k = kd u' p k)
    (h0 : i = 0 → (∀ x : Nat, tA σ2 22 x = if x = q then (np σ : Int) else tA σ' 22 x) ∧ (∀ x, tA σ2 23 x = tA σ' 23 x) ∧ ∀ x : Nat, tA σ2 26 x = if x = q then tA σ' 26 (np σ) else tA σ' 26 x)
    (h1 : 0 < i → (∀ x, tA σ2 22 x = tA σ' 22 x) ∧ (∀ x : Nat, tA σ2 23 x = if x = c (i - 1) then (np σ : Int) else tA σ' 23 x) ∧ ∀ x : Nat, tA σ2 26 x = if x = q then min 1000 (if mul then tA σ' 26 q * tA σ' 26 (np σ) else tA σ' 26 q + tA σ' 26 (np σ)) else tA σ' 26 x) :
    CHI p a n mul u2 σ2 q (i + 1) (fun j => if j = i then np σ else c j) (fun j => if j = i then D else Di j) (fun j => if j = i then SnR σ' else Sn j) := by
  obtain ⟨c1, c2, c3, c4, c5, c6, c7, c8, c9⟩ := h
  have np2 : np σ2 = np σ' := np_ft F2 (by decide)
  have nk2 : nK σ2 = nK σ' := by unfold nK; rw [(F2 10 (by decide)).1]
  have kk2 : nK σ' ≤ nK σ2 ∧ ∀ k, k < nK σ' → kd u2 p k = kd u' p k ∧ tA σ2 14 k = tA σ' 14 k ∧ ∀ i : Nat, (i : Int) < tA σ' 14 k → tA σ2 15 (4 * k + i : Nat) = tA σ' 15 (4 * k + i : Nat) := ⟨by omega, fun k _ => ⟨hk2 k, (F2 14 (by decide)).2 _, fun _ _ => (F2 15 (by decide)).2 _⟩⟩
  have kk : nK σ ≤ nK σ2 ∧ ∀ k, k < nK σ → kd u2 p k = kd u p k ∧ tA σ2 14 k = tA σ 14 k ∧ ∀ i : Nat, (i : Int) < tA σ 14 k → tA σ2 15 (4 * k + i : Nat) = tA σ 15 (4 * k + i : Nat) := ⟨by omega, fun k hk => ⟨(hk2 k).trans (hk1.2 k hk).1, ((F2 14 (by decide)).2 _).trans (hk1.2 k hk).2.1, fun j hj => ((F2 15 (by decide)).2 _).trans ((hk1.2 k hk).2.2 j hj)⟩⟩
  have hN := nK σ
  have r26 := PRel.rows _ _ _ _ _ pr
  -- what other rows hold stays
  have g22 : ∀ x : Nat, x ≠ q → tA σ2 22 x = tA σ' 22 x := by
    intro x hx
    rcases Nat.eq_zero_or_pos i with z | z
    · rw [(h0 z).1, if_neg hx]
    · rw [(h1 z).1]
  have g26 : ∀ x : Nat, x ≠ q → tA σ2 26 x = tA σ' 26 x := by
    intro x hx
    rcases Nat.eq_zero_or_pos i with z | z
    · rw [(h0 z).2.2, if_neg hx]
    · rw [(h1 z).2.2, if_neg hx]
  have g23 : ∀ x : Nat, (0 < i → x ≠ c (i - 1)) → tA σ2 23 x = tA σ' 23 x := by
    intro x hx
    rcases Nat.eq_zero_or_pos i with z | z
    · rw [(h0 z).2.1]
    · rw [(h1 z).2.1, if_neg (hx z)]
  have old : ∀ f, 17 ≤ f → f ≤ 26 → ∀ x : Nat, x < np σ → tA σ' f x = tA σ f x := U.1
  have mono : ∀ j k, j < k → k < i → c j < c k := by
    intro j k hjk
    induction k with
    | zero => intro _; omega
    | succ k ih =>
      intro hk
      rcases Nat.lt_or_ge j k with y | y
      · exact Nat.lt_trans (ih y (by omega)) (c6 k hk)
      · have : j = k := by omega
        subst this
        exact c6 j hk
  have rwo : ∀ j, j < i → rwF mul σ2 (fun j => if j = i then np σ else c j) j = rwF mul σ c j := fun j hj => rwF_eq j (fun k hk => by
    have hkc := c5 k (by omega)
    exact ⟨if_neg (by omega), by rw [g26 _ (by omega), old 26 (by decide) (by decide) _ hkc.2]⟩)
  have e26 : tA σ2 26 q = rwF mul σ2 (fun j => if j = i then np σ else c j) i := by
    have k26 : tA σ2 26 (np σ) = tA σ' 26 (np σ) := g26 _ (by omega)
    rcases Nat.eq_zero_or_pos i with z | z
    · subst z
      rw [(h0 rfl).2.2, if_pos rfl]
      show _ = tA σ2 26 (if 0 = 0 then np σ else c 0)
      rw [if_pos rfl, k26]
    · rw [(h1 z).2.2, if_pos rfl, old 26 (by decide) (by decide) q hq, c7 z]
      obtain ⟨m, hm⟩ : ∃ m, i = m + 1 := ⟨i - 1, by omega⟩
      subst hm
      have ef : (fun j => if j = m + 1 then np σ else c j) (m + 1) = np σ := if_pos rfl
      show _ = min 1000 (if mul then rwF mul σ2 (fun j => if j = m + 1 then np σ else c j) m * tA σ2 26 (((fun j => if j = m + 1 then np σ else c j) (m + 1) : Nat) : Int) else rwF mul σ2 (fun j => if j = m + 1 then np σ else c j) m + tA σ2 26 (((fun j => if j = m + 1 then np σ else c j) (m + 1) : Nat) : Int))
      rw [ef, rwo m (by omega), k26]
      rfl
  have rwb : ∀ j, j < i + 1 → 1 ≤ rwF mul σ2 (fun j => if j = i then np σ else c j) j ∧ rwF mul σ2 (fun j => if j = i then np σ else c j) j ≤ 1000 := by
    intro j hj
    rcases Nat.lt_or_ge j i with y | y
    · rw [rwo j y]; exact c8 j y
    · have ej : j = i := by omega
      subst ej
      rw [← e26]
      rcases Nat.eq_zero_or_pos j with z | z
      · rw [(h0 z).2.2, if_pos rfl]; exact r26
      · rw [(h1 z).2.2, if_pos rfl, old 26 (by decide) (by decide) q hq, c7 z]
        have b1 := c8 (j - 1) (by omega)
        cases mul with
        | true =>
          have : 1 ≤ rwF true σ c (j - 1) * tA σ' 26 (np σ) := by
            have := Int.mul_le_mul b1.1 r26.1 (by decide) (by omega)
            omega
          simp only [if_true]
          omega
        | false =>
          simp only [Bool.false_eq_true, if_false]
          omega
  refine ⟨fun z => by omega, fun _ => ?_, fun j hj => ?_, fun _ => ?_, fun j hj => ?_, fun j hj => ?_, fun _ => ?_, rwb, fun j hj => ?_⟩
  · rcases Nat.eq_zero_or_pos i with z | z
    · show tA σ2 22 q = ((if 0 = i then np σ else c 0 : Nat) : Int)
      rw [(h0 z).1, if_pos rfl, if_pos z.symm]
    · show tA σ2 22 q = ((if 0 = i then np σ else c 0 : Nat) : Int)
      rw [(h1 z).1, old 22 (by decide) (by decide) q hq, c2 z, if_neg (by omega)]
  · rcases Nat.lt_or_ge (j + 1) i with y | y
    · have hj1 := c5 j (by omega)
      have hm := mono j (i - 1) (by omega) (by omega)
      simp only [if_neg (show ¬ (j = i) by omega), if_neg (show ¬ (j + 1 = i) by omega)]
      rw [g23 _ (fun _ => by omega), old 23 (by decide) (by decide) _ hj1.2]
      exact c3 j y
    · have ej : j = i - 1 := by omega
      have hi0 : 0 < i := by omega
      simp only [if_neg (show ¬ (j = i) by omega), if_pos (show j + 1 = i by omega)]
      rw [(h1 hi0).2.1, ej, if_pos rfl]
  · show tA σ2 23 (if i + 1 - 1 = i then np σ else c (i + 1 - 1) : Nat) = -4
    rw [if_pos (by omega), g23 _ (fun z => by have := c5 (i - 1) (by omega); omega)]
    exact e23
  · rw [np2]
    by_cases z : j = i
    · simp only [if_pos z]; omega
    · simp only [if_neg z]
      have := c5 j (by omega)
      omega
  · by_cases z : j + 1 = i
    · simp only [if_neg (show ¬ (j = i) by omega), if_pos z]
      exact (c5 j (by omega)).2
    · simp only [if_neg (show ¬ (j = i) by omega), if_neg z]
      exact c6 j (by omega)
  · rw [show i + 1 - 1 = i by omega]; exact e26
  · by_cases z : j = i
    · subst z
      simp only [if_true]
      rw [hA, if_pos ⟨rfl, rfl⟩, np2]
      have en : nxt (fun k => if k = j then np σ else c k) (j + 1) (np σ') j = np σ' := if_neg (by omega)
      rw [en]
      exact PRel.fr W' hF2 (Nat.le_refl _) kk2 n _ _ _ _ (fun x hx => by rw [List.mem_singleton.mp hx]; exact Or.inl (Nat.le_refl _)) (fun f hf x q1 q2 => by
        simp only [List.mem_cons, List.not_mem_nil, or_false] at hf
        by_cases f22 : f = 22
        · subst f22; exact g22 x (by omega)
        · by_cases f26 : f = 26
          · subst f26; exact g26 x (by omega)
          · exact (F2 f (by simp only [List.mem_cons, List.not_mem_nil, or_false]; omega)).2 _) (fun x q1 q2 => g23 x (fun z => by have := c5 (j - 1) (by omega); omega)) (fun _ _ => rfl) pr
    · have hji : j < i := by omega
      have hjc := c5 j hji
      simp only [if_neg z]
      rw [hA, if_neg (fun y => z y.2)]
      have pj := c9 j hji
      have en : nxt (fun k => if k = i then np σ else c k) (i + 1) (np σ2) j = nxt c i (np σ) j := by
        unfold nxt
        rw [if_pos (by omega)]
        show (if j + 1 = i then np σ else c (j + 1)) = _
        by_cases y : j + 1 = i
        · rw [if_pos y, if_neg (by omega)]
        · rw [if_neg y, if_pos (by omega)]
      rw [en]
      have eaR : aR u' a j = aR u a j := hAa j
      rw [eaR]
      have hle := nxt_le (N := np σ) (fun j hj => (c5 j hj).2) hji
      have hF12 : Fr (a :: T) u u2 := (hF.mono (fun x hx => Or.inl (List.mem_cons.mpr (Or.inr hx)))).trans (hF2.mono (fun x hx => Or.inl (by rw [List.mem_singleton.mp hx]; simp)))
      refine PRel.fr W hF12 (Nat.le_refl _) kk n _ _ _ _ (fun x hx => ?_) (fun f hf x q1 q2 => ?_) (fun x q1 q2 => ?_) (fun _ _ => rfl) pj
      · rcases List.mem_cons.mp hx with y | y
        · rw [y]; exact Or.inl (Nat.le_refl _)
        · rcases hT x y with y2 | y2
          · exact Or.inl y2
          · exact Or.inr (Or.inl y2)
      · simp only [List.mem_cons, List.not_mem_nil, or_false] at hf
        have o1 := old f (by omega) (by omega) x (by omega)
        by_cases f22 : f = 22
        · subst f22; rw [g22 x (by omega)]; exact o1
        · by_cases f26 : f = 26
          · subst f26; rw [g26 x (by omega)]; exact o1
          · rw [(F2 f (by simp only [List.mem_cons, List.not_mem_nil, or_false]; omega)).2]; exact o1
      · rw [g23 x (fun y => ?_)]
        · exact old 23 (by decide) (by decide) x (by omega)
        · intro ex
          rw [ex] at q1 q2
          rcases Nat.lt_or_ge j (i - 1) with y2 | y2
          · have hn : nxt c i (np σ) j = c (j + 1) := if_pos (by omega)
            rw [hn] at q2
            rcases Nat.lt_or_ge (j + 1) (i - 1) with y3 | y3
            · have := mono (j + 1) (i - 1) y3 (by omega)
              omega
            · have : j + 1 = i - 1 := by omega
              rw [this] at q2; omega
          · have : j = i - 1 := by omega
            rw [this] at q1; omega
theorem KRs.sqR {m a : Nat} {i : Int} {v : Nat} (h : KRs p w τ m) (ha : a ≠ fR w 0 p) : KRs p (qR w a i v) τ m := by
  have e : ∀ j, kd (qR w a i v) p j = kd w p j := by
    intro j
    show aR (qR w a i v) (fR w 0 p) j = aR w (fR w 0 p) j
    rw [aR_qR, if_neg (fun y => ha y.1.symm)]
  unfold KRs KL at *
  simp only [e]
  exact h
/-- a token more: all stays -/
theorem CHI.nx {a n q i : Nat} {mul : Bool} {u u' : CW} {σ σ' : TW} {c : Nat → Nat} {Di : Nat → Nat → Prop} {Sn : Nat → Nat → Int} {S S' : List Nat} (h : CHI p a n mul u σ q i c Di Sn) (W : WF p u) (K : KA p u) (hp : p < a) (ta : tg u a ≠ 0) (cc : CF p [] S S' u σ u' σ') (h0 : 0 ∉ S := by decide) (hS' : ∀ f, f ∈ S' → f < 10 ∨ 26 < f := by decide) : CHI p a n mul u' σ' q i c Di Sn := by
  obtain ⟨c1, c2, c3, c4, c5, c6, c7, c8, c9⟩ := h
  have F := cc.2.2.2.1
  have g : ∀ f, 10 ≤ f → f ≤ 26 → ∀ x, tA σ' f x = tA σ f x := fun f h1 h2 => (F f (fun y => by have := hS' f y; omega)).2
  have g16 : np σ' = np σ := np_ft F (fun y => by have := hS' _ y; omega)
  have rw' : ∀ j, rwF mul σ' c j = rwF mul σ c j := fun j => rwF_eq j (fun k _ => ⟨rfl, g 26 (by decide) (by decide) _⟩)
  have oa := cc.1.2.2.2.2 a (W.le ta) (by simp; omega)
  have kk : nK σ ≤ nK σ' ∧ ∀ k, k < nK σ → kd u' p k = kd u p k ∧ tA σ' 14 k = tA σ 14 k ∧ ∀ i : Nat, (i : Int) < tA σ 14 k → tA σ' 15 (4 * k + i : Nat) = tA σ 15 (4 * k + i : Nat) := ⟨by unfold nK; rw [(F 10 (fun y => by have := hS' _ y; omega)).1]; exact Nat.le_refl _, fun k _ => ⟨kd_fr2 K cc.1 (cc.2.1 0 h0).2 (by have := K.2.2.1; have : p < fR u 0 p := this; simp; omega) k, g 14 (by decide) (by decide) _, fun _ _ => g 15 (by decide) (by decide) _⟩⟩
  refine ⟨fun z => by rw [g 22 (by decide) (by decide)]; exact c1 z, fun z => by rw [g 22 (by decide) (by decide)]; exact c2 z, fun j hj => by rw [g 23 (by decide) (by decide)]; exact c3 j hj, fun z => by rw [g 23 (by decide) (by decide)]; exact c4 z, fun j hj => by rw [g16]; exact c5 j hj, c6, fun z => by rw [g 26 (by decide) (by decide), rw']; exact c7 z, fun j hj => by rw [rw']; exact c8 j hj, fun j hj => ?_⟩
  rw [g16, ob.eaR oa]
  exact PRel.fr W cc.1 (Nat.le_refl _) kk n _ _ _ _ (fun x hx => by rw [List.mem_singleton.mp hx]; left; omega) (fun f hf x _ _ => g f (by simp only [List.mem_cons, List.not_mem_nil, or_false] at hf; omega) (by simp only [List.mem_cons, List.not_mem_nil, or_false] at hf; omega) _) (fun x _ _ => g 23 (by decide) (by decide) _) (fun _ _ => rfl) (c9 j hj)
/-- all of them are there -/
theorem CHI.fin {a n q m r b : Nat} {mul : Bool} {u u' : CW} {σ σ' : TW} {c : Nat → Nat} {Di : Nat → Nat → Prop} {Sn : Nat → Nat → Int} {Sn' : Nat → Int} (h : CHI p a n mul u σ q m c Di Sn) (W : WF p u) (K : KA p u) (hp : p < a) (hb : b ≤ a) (ta : tg u a ≠ 0) (hF : Fr [p] u u') (hp0 : fR u' 0 p = fR u 0 p) {S' : List Nat} (F : FT S' σ σ') (hS' : ∀ f, f ∈ S' → f < 10 ∨ 26 < f) (hr : cz u < r) (hSn : ∀ j, j < m → ∀ x, Di j x → Sn' x = Sn j x) :
    Chn σ' (np σ') q m c ∧ (0 < m → tA σ' 26 q = rwF mul σ' c (m - 1)) ∧ ∀ j, j < m → aR u' a j < r ∧ PRel p b u' σ' Sn' n (nxt c m (np σ') j) (aR u' a j) (c j) (Di j) := by
  obtain ⟨c1, c2, c3, c4, c5, c6, c7, c8, c9⟩ := h
  have g : ∀ f, 10 ≤ f → f ≤ 26 → ∀ x, tA σ' f x = tA σ f x := fun f h1 h2 => (F f (fun y => by have := hS' f y; omega)).2
  have g16 : np σ' = np σ := np_ft F (fun y => by have := hS' _ y; omega)
  have rw' : ∀ j, rwF mul σ' c j = rwF mul σ c j := fun j => rwF_eq j (fun k _ => ⟨rfl, g 26 (by decide) (by decide) _⟩)
  have oa := hF.2.2.2.2 a (W.le ta) (by simp; omega)
  have kk : nK σ ≤ nK σ' ∧ ∀ k, k < nK σ → kd u' p k = kd u p k ∧ tA σ' 14 k = tA σ 14 k ∧ ∀ i : Nat, (i : Int) < tA σ 14 k → tA σ' 15 (4 * k + i : Nat) = tA σ 15 (4 * k + i : Nat) := ⟨by unfold nK; rw [(F 10 (fun y => by have := hS' _ y; omega)).1]; exact Nat.le_refl _, fun k _ => ⟨kd_fr2 K hF hp0 (by have := K.2.2.1; have : p < fR u 0 p := this; simp; omega) k, g 14 (by decide) (by decide) _, fun _ _ => g 15 (by decide) (by decide) _⟩⟩
  refine ⟨⟨fun z => (g 22 (by decide) (by decide) _).trans (c1 z), fun z => (g 22 (by decide) (by decide) _).trans (c2 z), fun j hj => (g 23 (by decide) (by decide) _).trans (c3 j hj), fun z => (g 23 (by decide) (by decide) _).trans (c4 z), fun j hj => by rw [g16]; exact c5 j hj⟩, fun z => by rw [g 26 (by decide) (by decide), rw']; exact c7 z, fun j hj => ?_⟩
  have pj := c9 j hj
  rw [g16, ob.eaR oa]
  refine ⟨by have := W.le (r := aR u a j) (by have := pj.lt.2.2; omega); omega, PRel.fr W hF hb kk n _ _ _ _ (fun x hx => by rw [List.mem_singleton.mp hx]; left; omega) (fun f hf x _ _ => g f (by simp only [List.mem_cons, List.not_mem_nil, or_false] at hf; omega) (by simp only [List.mem_cons, List.not_mem_nil, or_false] at hf; omega) _) (fun x _ _ => g 23 (by decide) (by decide) _) (fun x hx => hSn j hj x hx) pj⟩
end ZChi
