/-! a row's tests: what lies above stands ahead -/
section ZOrder
variable {p b e d f : Nat} {w : CW} {τ σ : TW}
theorem app_split {α : Type} {A B l1 l2 : List α} {x : α} (h : A ++ B = l1 ++ x :: l2) : (∃ l, A = l1 ++ x :: l) ∨ ∃ l, l1 = A ++ l ∧ B = l ++ x :: l2 := by
  rcases List.append_eq_append_iff.mp h with ⟨a, h1, h2⟩ | ⟨a, h1, h2⟩
  · exact Or.inr ⟨a, h1, h2⟩
  · cases a with
    | nil => exact Or.inr ⟨[], by simpa using h1.symm, by simpa using h2.symm⟩
    | cons y a =>
      simp at h2
      exact Or.inl ⟨a, by rw [h1, h2.1]⟩
/-- above e there is a test ahead of it -/
def UPt (τ : TW) (l1 : List (Pa × Nat)) (e : Pa × Nat) : Prop := ∃ k i σ, e.1 = (k, i) :: σ ∧ ∃ e0, e0 ∈ l1 ∧ e0.1 = σ ∧ tA τ 17 e0.2 = 5 ∧ tA τ 19 e0.2 = (k : Nat) ∧ k < nK τ ∧ (i : Int) < tA τ 14 k
theorem UPt.mono {l l' : List (Pa × Nat)} {e : Pa × Nat} (h : UPt τ l e) (hl : ∀ x, x ∈ l → x ∈ l') : UPt τ l' e := by
  obtain ⟨k, i, σ, h1, e0, h2, h3⟩ := h
  exact ⟨k, i, σ, h1, e0, hl e0 h2, h3⟩
theorem tsL_ord {g : Nat → Nat → Pa → List (Pa × Nat)} {k : Nat} {π : Pa} : ∀ (cs : List Nat) (j w : Nat), ∀ l1 e l2, tsL g τ k π j cs w = l1 ++ e :: l2 → ∃ i c l1', cs[i]? = some c ∧ (∃ l2', g c ((w / prN τ (cs.drop (i + 1))) % rw' τ c) ((k, j + i) :: π) = l1' ++ e :: l2') ∧ ∀ x, x ∈ l1' → x ∈ l1 := by
  intro cs
  induction cs with
  | nil =>
    intro j w l1 e l2 h
    have : ([] : List (Pa × Nat)) = l1 ++ e :: l2 := h
    exact absurd this (by simp)
  | cons c cs ih =>
    intro j w l1 e l2 h
    have h : g c ((w / prN τ cs) % rw' τ c) ((k, j) :: π) ++ tsL g τ k π (j + 1) cs w = l1 ++ e :: l2 := h
    rcases app_split h with ⟨l, h1⟩ | ⟨l, h1, h2⟩
    · exact ⟨0, c, l1, rfl, ⟨l, h1⟩, fun x hx => hx⟩
    · obtain ⟨i, c', l1', g1, ⟨l2', g2⟩, g3⟩ := ih (j + 1) w l e l2 h2
      exact ⟨i + 1, c', l1', g1, ⟨l2', by rw [show j + (i + 1) = j + 1 + i by omega]; exact g2⟩, fun x hx => by rw [h1]; exact List.mem_append_right _ (g3 x hx)⟩
theorem tst_ord : ∀ n q w π, WP τ n q → w < rw' τ q → ∀ l1 e l2, tst τ n q w π = l1 ++ e :: l2 → e.1 = π ∨ UPt τ l1 e := by
  intro n
  induction n with
  | zero => intro q w π h; exact h.elim
  | succ n ih =>
    intro q w π h hw l1 e l2 he
    obtain ⟨⟨a1, a2, a3, a4, a5⟩, -, -, -, -, -, -, h5, h6⟩ := id h
    have rc := rw_c a4
    unfold tst at he
    by_cases z6 : tA τ 17 q = 6
    · rw [if_pos z6] at he
      obtain ⟨b1, b2, b3, b4⟩ := h6 z6
      have s := selA_ok (τ := τ) (kids τ q) w (by omega)
      exact ih _ _ π (b4 _ s.1).1 s.2 l1 e l2 he
    · rw [if_neg z6] at he
      by_cases z0 : tA τ 17 q = 0
      · rw [if_pos z0] at he
        exact absurd he (by simp)
      · rw [if_neg z0] at he
        cases l1 with
        | nil =>
          simp at he
          exact Or.inl (by rw [← he.1])
        | cons y l1 =>
          simp at he
          obtain ⟨e1, e2⟩ := he
          obtain ⟨i, c, l1', g1, ⟨l2', g2⟩, g3⟩ := tsL_ord (kids τ q) 0 w l1 e l2 e2
          rw [Nat.zero_add] at g2
          have hil := (List.getElem?_eq_some_iff.mp g1).1
          have z5 : tA τ 17 q = 5 := by
            refine Decidable.byContradiction (fun z5 => ?_)
            have : kids τ q = [] := by
              unfold kids
              rw [if_neg (fun y => y.elim z5 z6)]
            rw [this] at hil
            exact absurd hil (by simp)
          obtain ⟨b1, b2, b3, ⟨k, b4, b5, b6, b7⟩, b8, b9⟩ := h5 z5
          have hWc := b9 c (List.mem_of_getElem? g1)
          have h1c : 1 ≤ rw' τ c := by
            cases n with
            | zero => exact hWc.elim
            | succ n => have := rw_c hWc.1.2.2.2.1; have := hWc.1.2.2.2.1; omega
          have ek : (tA τ 19 q).toNat = k := by rw [b4, Int.toNat_natCast]
          rw [ek] at g2
          have part : (i : Int) < tA τ 14 k := by
            rcases b6 with y | y
            · rw [y] at hil; exact absurd hil (by simp)
            · omega
          rcases ih c _ ((k, i) :: π) hWc (Nat.mod_lt _ (by omega)) l1' e l2' g2 with g | g
          · refine Or.inr ⟨k, i, π, g, (π, q), ?_, rfl, z5, b4, b5, part⟩
            rw [e1]
            exact List.mem_cons_self ..
          · exact Or.inr (g.mono (fun x hx => List.mem_cons_of_mem _ (g3 x hx)))
theorem tsR_ord {R m way : Nat} (h : RP τ R m) {l1 l2 : List (Pa × Nat)} {e : Pa × Nat} (he : tsR τ R way = l1 ++ e :: l2) : (∃ i, e.1 = [(24, i)]) ∨ UPt τ l1 e := by
  obtain ⟨h1, h2, h3, h4, h5, h6⟩ := h
  obtain ⟨i, c, l1', g1, ⟨l2', g2⟩, g3⟩ := tsL_ord (cks τ R) 0 way l1 e l2 he
  rw [Nat.zero_add] at g2
  have hWc := h4 c (List.mem_of_getElem? g1)
  have h1c : 1 ≤ rw' τ c := by have := rw_c hWc.1.2.2.2.1; have := hWc.1.2.2.2.1; omega
  rcases tst_ord 7 c _ [(24, i)] hWc (Nat.mod_lt _ (by omega)) l1' e l2' g2 with g | g
  · exact Or.inl ⟨i, g⟩
  · exact Or.inr (g.mono g3)
/-- as row_at, of a test all ahead of which is alive -/
theorem row_at2 {P : Sp} (hU : UnT τ) (hL : LfP τ) {R m way : Nat} (h : RP τ R m) : ∀ (ρ : Pa) (l1 l2 : List (Pa × Nat)) (e : Pa × Nat), tsR τ R way = l1 ++ e :: l2 → (∀ e', e' ∈ l1 → stn τ P e' ≠ 2) → opn τ P ρ → ixs ρ = ixs e.1 → ρ = e.1 := by
  intro ρ
  induction ρ with
  | nil =>
    intro l1 l2 e he _ _ hix
    cases hx : e.1 with
    | nil => rfl
    | cons y π => rw [hx] at hix; exact absurd hix (by simp [ixs])
  | cons x ρ ih =>
    obtain ⟨k, i⟩ := x
    intro l1 l2 e he hlv ho hix
    rcases tsR_ord h he with ⟨i', e1⟩ | ⟨k', i', σ, e1, e0, y2, y3, y4, y5, y6, y7⟩
    · rw [e1] at hix ⊢
      have hix : i :: ixs ρ = i' :: ([] : List Nat) := hix
      injection hix with a1 a2
      have : ρ = [] := by
        cases ρ with
        | nil => rfl
        | cons z ρ => exact absurd a2 (by simp [ixs])
      rcases ho.2.2 with ⟨z1, z2⟩ | ⟨z1, -⟩
      · rw [this, a1, z2]
      · exact absurd this z1
    · rw [e1] at hix ⊢
      have hix : i :: ixs ρ = i' :: ixs σ := hix
      injection hix with a1 a2
      obtain ⟨m1, m2, hm⟩ := List.append_of_mem y2
      have e3 : ρ = σ := by
        rw [← y3]
        refine ih m1 (m2 ++ e :: l2) e0 (by rw [he, hm]; simp) (fun e' he' => hlv e' (by rw [hm]; exact List.mem_append_left _ he')) ho.2.1 (by rw [y3]; exact a2)
      subst e3
      rcases ho.2.2 with ⟨z1, z2⟩ | ⟨z1, z2, z3, b, z4, z5⟩
      · have he0 : e0 ∈ tsR τ R way := by rw [he]; exact List.mem_append_left _ y2
        obtain ⟨-, k2, i2, σ2, f1, -⟩ := tsR_ext h he0
        rw [y3, z1] at f1
        cases f1
      · have ne2 := hlv e0 y2
        have hs : sat τ b e0.2 := Classical.byContradiction (fun no => ne2 (stn_2 (by rw [y3]; exact z4) no))
        have : k = k' := by
          rcases hs with q | q | q | q | q
          · omega
          · omega
          · omega
          · omega
          · obtain ⟨-, -, q3⟩ := q
            rw [z5, y5] at q3
            exact ofT_leaf hU hL z2 y6 (by omega) q3
        rw [this, a1]
theorem lk2 (hU : UnT τ) (hL : LfP τ) {P : Sp} (hP : PSd τ f P) {R m way : Nat} (h : RP τ R m) {l1 l2 : List (Pa × Nat)} {e : Pa × Nat} (he : tsR τ R way = l1 ++ e :: l2) (hlv : ∀ e', e' ∈ l1 → stn τ P e' ≠ 2) : lkc P (cod e.1) = lkp P e.1 := by
  cases hc : lkc P (cod e.1) with
  | none => exact (lkc_none hc).symm
  | some b =>
    obtain ⟨ρ, r1, r2⟩ := lkc_some hc hP
    have o := (hP.opn r2).1
    have ok := (tsR_ext h (e := e) (way := way) (by rw [he]; simp)).1.1
    rw [row_at2 hU hL h ρ l1 l2 e he hlv o (cod_ix (opn_ok o) ok r1)] at r2
    exact r2.symm
end ZOrder
