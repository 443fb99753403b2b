/-! functions of both -/
section ZFunc1
variable {p b e d : Nat} {w : CW} {τ : TW}
/-- the functions' objects; their number -/
def fnr (w : CW) (p f : Nat) : Nat := aR w (fR w 5 p) f
def nF (τ : TW) : Nat := (tI τ 41).toNat
def FA (p : Nat) (w : CW) : Prop := tg w (fR w 5 p) = 111 ∧ ln w (fR w 5 p) = 12 ∧ p < fR w 5 p ∧ fR w 5 p ≤ p + 8
/-- a function's head, its columns, its rules -/
def FH (p : Nat) (w : CW) (τ : TW) (f F : Nat) : Prop := (tg w F = 4 ∧ p + 8 < F ∧ fI w 43 F = f ∧ fI w 44 F = tA τ 42 f ∧ fR w 55 F = p) ∧ (fR w 45 F = F + 1 ∧ IArr p w (F + 1) 3) ∧ (fR w 47 F = F + 2 ∧ tg w (F + 2) = 117 ∧ ln w (F + 2) = 16) ∧ (fR w 50 F = F + 3 ∧ tg w (F + 3) = 115 ∧ ln w (F + 3) = 900)
def FC (w : CW) (τ : TW) (f F m : Nat) : Prop := tA τ 43 f = m ∧ fI w 46 F = m ∧ m ≤ 3 ∧ ∀ j : Nat, j < m → aI w (F + 1) j = tA τ 44 (3 * f + j : Nat) ∧ 0 ≤ tA τ 44 (3 * f + j : Nat) ∧ tA τ 44 (3 * f + j : Nat) < 3 + nK τ
def FRs (p : Nat) (w : CW) (τ : TW) (f F k lo hi : Nat) : Prop := tA τ 45 f = k ∧ fI w 48 F = k ∧ k ≤ 16 ∧ ∃ s : Nat → Nat, (lo ≤ s 0 ∧ s k ≤ hi) ∧ ∀ i : Nat, i < k → s i ≤ s (i + 1) ∧ RuR p w τ f i (aR w (F + 2) i) (s i) (s (i + 1))
def FL (p : Nat) (w : CW) (τ : TW) (f lo hi : Nat) : Prop := ∃ m k, FH p w τ f (fnr w p f) ∧ FC w τ f (fnr w p f) m ∧ 1 ≤ m ∧ FRs p w τ f (fnr w p f) k lo hi ∧ fI w 51 (fnr w p f) = 0
def FN (p : Nat) (w : CW) (τ : TW) : Prop := FA p w ∧ fI w 6 p = nF τ ∧ tI τ 41 = nF τ ∧ nF τ ≤ 12 ∧ (∃ S : Nat → Nat, S (nF τ) ≤ np τ ∧ ∀ f, f < nF τ → S f ≤ S (f + 1) ∧ FL p w τ f (S f) (S (f + 1))) ∧ ∀ f g : Nat, f < g → g < nF τ → tA τ 42 f ≠ tA τ 42 g
theorem FH.fr {T : List Nat} {w' : CW} {τ' : TW} {f F : Nat} (h : FH p w τ f F) (W : WF p w) (hF : Fr T w w') (hT : ∀ x, x ∈ T → x ≤ p + 8 ∨ cz w < x) (e42 : tA τ' 42 f = tA τ 42 f) : FH p w' τ' f F := by
  obtain ⟨⟨a1, a2, a3, a4, a5⟩, ⟨b1, b2⟩, ⟨c1, c2, c3⟩, ⟨d1, d2, d3⟩⟩ := h
  have no : ∀ r, p + 8 < r → tg w r ≠ 0 → r ∉ T := fun r h1 h2 hm => by
    have := W.le h2
    rcases hT r hm with y | y <;> omega
  have oF := hF.2.2.2.2 F (W.le (by rw [a1]; decide)) (no F a2 (by rw [a1]; decide))
  have o1 := b2.fr W hF (no _ b2.2.2 (by rw [b2.1]; decide))
  have t2 := hF.2.2.2.1 (F + 2) (W.le (by rw [c2]; decide))
  have t3 := hF.2.2.2.1 (F + 3) (W.le (by rw [d2]; decide))
  exact ⟨⟨by rw [ob.etg oF]; exact a1, a2, by rw [ob.efI oF]; exact a3, by rw [ob.efI oF, e42]; exact a4, by rw [ob.efR oF]; exact a5⟩, ⟨by rw [ob.efR oF]; exact b1, o1.1⟩, ⟨by rw [ob.efR oF]; exact c1, t2.1.trans c2, t2.2.trans c3⟩, ⟨by rw [ob.efR oF]; exact d1, t3.1.trans d2, t3.2.trans d3⟩⟩
theorem FC.fr {T : List Nat} {w' : CW} {τ' : TW} {f F m : Nat} (h : FC w τ f F m) (hH : FH p w τ f F) (W : WF p w) (hF : Fr T w w') (hT : ∀ x, x ∈ T → x ≤ p + 8 ∨ cz w < x) (e43 : tA τ' 43 f = tA τ 43 f) (e44 : ∀ j : Nat, j < 3 → tA τ' 44 (3 * f + j : Nat) = tA τ 44 (3 * f + j : Nat)) (nk : nK τ ≤ nK τ') : FC w' τ' f F m := by
  obtain ⟨a1, a2, a3, a4⟩ := h
  obtain ⟨⟨h1, h2, h3, h4, h5⟩, ⟨b1, b2⟩, -⟩ := hH
  have no : ∀ r, p + 8 < r → tg w r ≠ 0 → r ∉ T := fun r h1 h2 hm => by
    have := W.le h2
    rcases hT r hm with y | y <;> omega
  have oF := hF.2.2.2.2 F (W.le (by rw [h1]; decide)) (no F h2 (by rw [h1]; decide))
  have o1 := b2.fr W hF (no _ b2.2.2 (by rw [b2.1]; decide))
  refine ⟨by rw [e43]; exact a1, by rw [ob.efI oF]; exact a2, a3, fun j hj => ?_⟩
  rw [o1.2, e44 j (by omega)]
  have := a4 j hj
  exact ⟨this.1, this.2.1, by omega⟩
theorem FRs.fr {T : List Nat} {w' : CW} {τ' : TW} {f F k lo hi : Nat} (h : FRs p w τ f F k lo hi) (hH : FH p w τ f F) (W : WF p w) (hF : Fr T w w') (hT : ∀ x, x ∈ T → x ≤ p + 8 ∨ cz w < x) (e45 : tA τ' 45 f = tA τ 45 f) (hk : KdK p w w' τ τ') (hU : ∀ i, i < 16 → URk τ τ' f i) : FRs p w' τ' f F k lo hi := by
  obtain ⟨a1, a2, a3, s, a5, a4⟩ := h
  obtain ⟨⟨h1, h2, h3, h4, h5⟩, -, ⟨c1, c2, c3⟩, -⟩ := hH
  have no : ∀ r, p + 8 < r → tg w r ≠ 0 → r ∉ T := fun r h1 h2 hm => by
    have := W.le h2
    rcases hT r hm with y | y <;> omega
  have oF := hF.2.2.2.2 F (W.le (by rw [h1]; decide)) (no F h2 (by rw [h1]; decide))
  have o2 := hF.2.2.2.2 (F + 2) (W.le (by rw [c2]; decide)) (no _ (by omega) (by rw [c2]; decide))
  refine ⟨by rw [e45]; exact a1, by rw [ob.efI oF]; exact a2, a3, s, a5, fun i hi => ⟨(a4 i hi).1, ?_⟩⟩
  rw [ob.eaR o2]
  exact (a4 i hi).2.fr W hF (fun x hx => by rcases hT x hx with y | y; exact Or.inl y; exact Or.inr (Or.inl y)) hk (hU i (by omega))
/-- a function stays -/
theorem FL.fr {T : List Nat} {w' : CW} {τ' : TW} {f lo hi : Nat} (h : FL p w τ f lo hi) (W : WF p w) (hF : Fr T w w') (hT : ∀ x, x ∈ T → x ≤ p + 8 ∨ cz w < x) (ef : fnr w' p f = fnr w p f) (e42 : tA τ' 42 f = tA τ 42 f) (e45 : tA τ' 45 f = tA τ 45 f) (hk : KdK p w w' τ τ') (hU : ∀ i, i < 16 → URk τ τ' f i) : FL p w' τ' f lo hi := by
  obtain ⟨m, k, h1, h2, h3, h4, h5⟩ := h
  have u0 := hU 0 (by decide)
  have oF := hF.2.2.2.2 (fnr w p f) (W.le (by rw [h1.1.1]; decide)) (fun hm => by
    have := W.le (r := fnr w p f) (by rw [h1.1.1]; decide)
    have := h1.1.2.1
    rcases hT _ hm with y | y <;> omega)
  rw [← ef] at h1 h2 h4 h5 oF
  refine ⟨m, k, h1.fr W hF hT e42, h2.fr h1 W hF hT u0.2.2.2.2.2.2.2.1 u0.2.2.2.2.2.2.2.2 hk.1, h3, h4.fr h1 W hF hT e45 hk hU, by rw [ob.efI oF]; exact h5⟩
theorem FN.fl (h : FN p w τ) {f : Nat} (hf : f < nF τ) : ∃ lo hi, FL p w τ f lo hi := by
  obtain ⟨S, _, s2⟩ := h.2.2.2.2.1
  exact ⟨_, _, (s2 f hf).2⟩
/-- functions by names -/
def fnN (τ : TW) (v : Int) : Nat → Int
  | 0 => -4
  | n + 1 => if tA τ 42 n = v then (n : Int) else fnN τ v n
theorem fnN_spec (v : Int) : ∀ n, (fnN τ v n = -4 ∧ ∀ k : Nat, k < n → tA τ 42 k ≠ v) ∨ ∃ k : Nat, k < n ∧ fnN τ v n = k ∧ tA τ 42 k = v := by
  intro n
  induction n with
  | zero => exact Or.inl ⟨rfl, fun k hk => by omega⟩
  | succ n ih =>
    unfold fnN
    by_cases z : tA τ 42 n = v
    · exact Or.inr ⟨n, by omega, by rw [if_pos z], z⟩
    · rw [if_neg z]
      rcases ih with ⟨a, b⟩ | ⟨k, a, b, c⟩
      · refine Or.inl ⟨a, fun k hk => ?_⟩
        rcases Nat.lt_or_ge k n with y | y
        · exact b k y
        · have : k = n := by omega
          rw [this]; exact z
      · exact Or.inr ⟨k, by omega, b, c⟩
def fnB (τ : TW) (v : Int) : Int := fnN τ v (nF τ)
theorem sT_functionOf {v : Int} {Q : ZRes → TW → Prop} (h1 : tI τ 41 = nF τ) (h2 : nF τ ≤ 12) (hQ : Q (.inl (some (ai (fnB τ v)))) τ) : wpT (d + 1) 22 [al v] τ Q := by
  refine wT_functionOf (Nat.zero_le _) (bT_functionOf_0 (bT_functionOf_6 ?_))
  intro I hI
  have key : ∀ m j : Nat, nF τ - j ≤ m → j ≤ nF τ → I (fnN τ v j) (j : Int) τ := by
    intro m
    induction m with
    | zero =>
      intro j q1 q2
      have e : j = nF τ := by omega
      rw [e]
      exact hI _ _ _ (br1 (by omega) (bT_functionOf_40 hQ))
    | succ m ih =>
      intro j q1 q2
      by_cases hj : j = nF τ
      · rw [hj]
        exact hI _ _ _ (br1 (by omega) (bT_functionOf_40 hQ))
      · refine hI _ _ _ (br0 (by omega) ⟨by omega, fa (fa ?_)⟩)
        rw [w32_k (by omega)]
        exact ih (j + 1) (by omega) (by omega)
  exact key (nF τ) 0 (by omega) (by omega)
/-- what the functions' names say, of the component -/
def FNm (p : Nat) (w : CW) (τ : TW) : Prop := FA p w ∧ fI w 6 p = nF τ ∧ nF τ ≤ 12 ∧ (∀ f, f < nF τ → tg w (fnr w p f) = 4 ∧ fI w 44 (fnr w p f) = tA τ 42 f) ∧ ∀ f g : Nat, f < g → g < nF τ → tA τ 42 f ≠ tA τ 42 g
theorem FN.nm (h : FN p w τ) : FNm p w τ := ⟨h.1, h.2.1, h.2.2.2.1, fun f hf => by
  obtain ⟨_, _, m, k, h1, -⟩ := h.fl hf
  exact ⟨h1.1.1, h1.1.2.2.2.1⟩, h.2.2.2.2.2⟩
theorem sC_functionOf {v : Int} {Q : ZRes → CW → Prop} (h : FNm p w τ) (r : Nat) (hr : (fnB τ v = -4 ∧ r = 0) ∨ ∃ k : Nat, fnB τ v = k ∧ k < nF τ ∧ r = fnr w p k) (hQ : Q (.inl (some (ar r))) w) : wpC p (d + 1) 20 [ar p, al v] w Q := by
  obtain ⟨⟨a1, a2, a3, a4⟩, b1, b2, b3, b4⟩ := h
  refine wC_X0_functionOf (Nat.zero_le _) (bC_X0_functionOf_0 (bC_X0_functionOf_2 ?_))
  intro I hI
  have bd : ∀ j : Nat, j < nF τ → (111 ≤ tg w (fR w 5 p) ∧ tg w (fR w 5 p) ≤ 119) ∧ 0 ≤ (j : Int) ∧ (j : Int) < (ln w (fR w 5 p) : Nat) := fun j hj => ⟨by rw [a1]; decide, by omega, by rw [a2]; omega⟩
  have ext : ∀ j : Nat, aR w (fR w 5 p) j = fnr w p j := fun j => rfl
  have key : ∀ m j : Nat, nF τ - j ≤ m → j ≤ nF τ → (∀ q, q < j → tA τ 42 q ≠ v) → I (j : Int) w := by
    intro m
    induction m with
    | zero =>
      intro j q1 q2 hn
      have e : j = nF τ := by omega
      refine hI _ _ (br1 (by rw [b1]; omega) (bC_X0_functionOf_37 ?_))
      rcases hr with ⟨r1, r2⟩ | ⟨k, r1, r2, r3⟩
      · rw [← r2]; exact hQ
      · exfalso
        rcases fnN_spec v (nF τ) (τ := τ) with ⟨y1, y2⟩ | ⟨k', y1, y2, y3⟩
        · unfold fnB at r1; omega
        · exact hn k' (by omega) y3
    | succ m ih =>
      intro j q1 q2 hn
      by_cases hj : j = nF τ
      · refine hI _ _ (br1 (by rw [b1]; omega) (bC_X0_functionOf_37 ?_))
        rcases hr with ⟨r1, r2⟩ | ⟨k, r1, r2, r3⟩
        · rw [← r2]; exact hQ
        · exfalso
          rcases fnN_spec v (nF τ) (τ := τ) with ⟨y1, y2⟩ | ⟨k', y1, y2, y3⟩
          · unfold fnB at r1; omega
          · exact hn k' (by omega) y3
      · have hj2 : j < nF τ := by omega
        refine hI _ _ (br0 (by rw [b1]; omega) ⟨bd j hj2, by rw [ext, (b3 j hj2).1]; decide, ?_⟩)
        rw [ext, (b3 j hj2).2]
        by_cases z : tA τ 42 j = v
        · refine br1 z (bC_X0_functionOf_24 ⟨bd j hj2, ?_⟩)
          rw [ext]
          rcases hr with ⟨r1, r2⟩ | ⟨k, r1, r2, r3⟩
          · exfalso
            rcases fnN_spec v (nF τ) (τ := τ) with ⟨y1, y2⟩ | ⟨k', y1, y2, y3⟩
            · exact y2 j hj2 z
            · unfold fnB at r1; omega
          · rcases fnN_spec v (nF τ) (τ := τ) with ⟨y1, y2⟩ | ⟨k', y1, y2, y3⟩
            · exact absurd z (y2 j hj2)
            · unfold fnB at r1
              have e1 : k' = k := by omega
              subst e1
              have e2 : j = k' := by
                rcases Nat.lt_trichotomy j k' with y | y | y
                · exact absurd (z.trans y3.symm) (b4 j k' y y1)
                · exact y
                · exact absurd (y3.trans z.symm) (b4 k' j y hj2)
              rw [e2, ← r3]; exact hQ
        · refine br0 z (fa ?_)
          rw [w32_k (by omega)]
          exact ih (j + 1) (by omega) (by omega) (fun q hq => by
            rcases Nat.lt_or_ge q j with y | y
            · exact hn q y
            · have : q = j := by omega
              rw [this]; exact z)
  exact key (nF τ) 0 (by omega) (by omega) (fun q hq => by omega)
end ZFunc1
