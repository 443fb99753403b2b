/-! trees, plainly: codes stand for paths -/
section ZTree2
variable {p b e d : Nat} {w : CW} {τ : TW}
/-- indices along a path -/
def ixs (π : Pa) : List Nat := π.map (fun x => x.2)
def okP (π : Pa) : Prop := ∀ x, x ∈ π → x.2 < 7
theorem cod_ix : ∀ {π π' : Pa}, okP π → okP π' → cod π = cod π' → ixs π = ixs π' := by
  intro π
  induction π with
  | nil =>
    intro π' _ _ h
    cases π' with
    | nil => rfl
    | cons y π' => obtain ⟨k, i⟩ := y; exact absurd (show 0 = 8 * cod π' + i + 1 from h) (by omega)
  | cons x π ih =>
    intro π' h1 h2 h
    obtain ⟨k, i⟩ := x
    cases π' with
    | nil => exact absurd (show 8 * cod π + i + 1 = 0 from h) (by omega)
    | cons y π' =>
      obtain ⟨k', i'⟩ := y
      have h : 8 * cod π + i + 1 = 8 * cod π' + i' + 1 := h
      have a := h1 (k, i) (List.mem_cons_self ..)
      have b := h2 (k', i') (List.mem_cons_self ..)
      simp only at a b
      have e1 : cod π = cod π' := by omega
      have e2 : i = i' := by omega
      have := ih (fun x hx => h1 x (List.mem_cons_of_mem _ hx)) (fun x hx => h2 x (List.mem_cons_of_mem _ hx)) e1
      show i :: ixs π = i' :: ixs π'
      rw [this, e2]
theorem cod_of_ix {π π' : Pa} (h : ixs π = ixs π') : cod π = cod π' := by
  induction π generalizing π' with
  | nil =>
    cases π' with
    | nil => rfl
    | cons y π' => exact absurd h (by simp [ixs])
  | cons x π ih =>
    obtain ⟨k, i⟩ := x
    cases π' with
    | nil => exact absurd h (by simp [ixs])
    | cons y π' =>
      obtain ⟨k', i'⟩ := y
      have h : i :: ixs π = i' :: ixs π' := h
      injection h with h1 h2
      show 8 * cod π + i + 1 = 8 * cod π' + i' + 1
      rw [ih h2, h1]
/-- of those side by side: which one it comes from -/
theorem tsL_mem {f : Nat → Nat → Pa → List (Pa × Nat)} {k : Nat} {π : Pa} : ∀ (cs : List Nat) (j w : Nat) (e : Pa × Nat), e ∈ tsL f τ k π j cs w → ∃ i c, cs[i]? = some c ∧ e ∈ f c ((w / prN τ (cs.drop (i + 1))) % rw' τ c) ((k, j + i) :: π) := by
  intro cs
  induction cs with
  | nil => intro j w e h; cases h
  | cons c cs ih =>
    intro j w e h
    rcases List.mem_append.mp h with h | h
    · exact ⟨0, c, rfl, h⟩
    · obtain ⟨i, c', h1, h2⟩ := ih (j + 1) w e h
      exact ⟨i + 1, c', h1, by rw [show j + (i + 1) = j + 1 + i by omega]; exact h2⟩
theorem mem_tsL {f : Nat → Nat → Pa → List (Pa × Nat)} {k : Nat} {π : Pa} : ∀ (cs : List Nat) (j w : Nat) (i c : Nat) (e : Pa × Nat), cs[i]? = some c → e ∈ f c ((w / prN τ (cs.drop (i + 1))) % rw' τ c) ((k, j + i) :: π) → e ∈ tsL f τ k π j cs w := by
  intro cs
  induction cs with
  | nil => intro j w i c e h; simp at h
  | cons x cs ih =>
    intro j w i c e h1 h2
    cases i with
    | zero =>
      have ex : x = c := by simpa using h1
      subst ex
      exact List.mem_append.mpr (Or.inl h2)
    | succ i =>
      refine List.mem_append.mpr (Or.inr (ih (j + 1) w i c e (by simpa using h1) ?_))
      rw [show j + 1 + i = j + (i + 1) by omega]
      exact h2
/-- tests lie at or below the pattern's place; what lies between is a kind's test -/
theorem tst_ext : ∀ n q w π, WP τ n q → w < rw' τ q → ∀ e, e ∈ tst τ n q w π → (∃ s, e.1 = s ++ π ∧ okP s) ∧ (e.2 < np τ ∧ tA τ 17 e.2 ≠ 0 ∧ tA τ 17 e.2 ≠ 6 ∧ ∃ m, WP τ (m + 1) e.2) ∧ (e.1 ≠ π → ∃ k i σ, e.1 = (k, i) :: σ ∧ ∃ e0, e0 ∈ tst τ n q w π ∧ e0.1 = σ ∧ tA τ 17 e0.2 = 5 ∧ tA τ 19 e0.2 = (k : Nat) ∧ k < nK τ ∧ (i : Int) < tA τ 14 k ∧ tA τ 18 e.2 = tA τ 15 (4 * k + i : Nat)) ∧ (e.1 = π → tA τ 18 e.2 = tA τ 18 q) := by
  intro n
  induction n with
  | zero => intro q w π h; exact h.elim
  | succ n ih =>
    intro q w π h hw e he
    obtain ⟨⟨a1, a2, a3, a4, a5⟩, -, -, -, -, -, -, h5, h6⟩ := id h
    have rc := rw_c a4
    unfold tst at he
    by_cases z6 : tA τ 17 q = 6
    · rw [if_pos z6] at he
      obtain ⟨b1, b2, b3, b4⟩ := h6 z6
      have s := selA_ok (τ := τ) (kids τ q) w (by omega)
      have := ih _ _ π (b4 _ s.1).1 s.2 e he
      refine ⟨this.1, this.2.1, fun ne => ?_, fun eq => (this.2.2.2 eq).trans (b4 _ s.1).2⟩
      obtain ⟨k, i, σ, c1, e0, c2, c3⟩ := this.2.2.1 ne
      refine ⟨k, i, σ, c1, e0, ?_, c3⟩
      unfold tst
      rw [if_pos z6]
      exact c2
    · rw [if_neg z6] at he
      by_cases z0 : tA τ 17 q = 0
      · rw [if_pos z0] at he; cases he
      · rw [if_neg z0] at he
        have etst : tst τ (n + 1) q w π = (π, q) :: tsL (tst τ n) τ (tA τ 19 q).toNat π 0 (kids τ q) w := by
          conv => lhs; unfold tst
          rw [if_neg z6, if_neg z0]
        rw [etst]
        rcases List.mem_cons.mp he with he | he
        · subst he
          exact ⟨⟨[], rfl, fun x hx => by cases hx⟩, ⟨a1, z0, z6, n, h⟩, fun ne => absurd rfl ne, fun _ => rfl⟩
        · obtain ⟨i, c, hc, hm⟩ := tsL_mem _ _ _ _ he
          rw [Nat.zero_add] at hm
          have hil := (List.getElem?_eq_some_iff.mp hc).1
          have z5 : tA τ 17 q = 5 := by
            refine Decidable.byContradiction (fun z5 => ?_)
            have : kids τ q = [] := by
              unfold kids
              rw [if_neg (fun y => y.elim z5 z6)]
            rw [this] at hil
            exact absurd hil (by simp)
          obtain ⟨b1, b2, b3, ⟨k, b4, b5, b6, b7⟩, b8, b9⟩ := h5 z5
          have hcm : c ∈ kids τ q := List.mem_of_getElem? hc
          have hWc := b9 c hcm
          have h1c : 1 ≤ rw' τ c := by
            cases n with
            | zero => exact hWc.elim
            | succ n => have := rw_c hWc.1.2.2.2.1; have := hWc.1.2.2.2.1; omega
          have ek : (tA τ 19 q).toNat = k := by rw [b4, Int.toNat_natCast]
          rw [ek] at hm ⊢
          obtain ⟨⟨s, c1, c2⟩, c3, c4, c5⟩ := ih c _ ((k, i) :: π) hWc (Nat.mod_lt _ (by omega)) e hm
          have part : (i : Int) < tA τ 14 k := by
            rcases b6 with y | y
            · rw [y] at hil; exact absurd hil (by simp)
            · omega
          refine ⟨⟨s ++ [(k, i)], by rw [c1]; simp, fun x hx => ?_⟩, c3, fun ne => ?_, fun eq => ?_⟩
          · rcases List.mem_append.mp hx with y | y
            · exact c2 x y
            · rw [List.mem_singleton.mp y]; show i < 7; omega
          · by_cases z : e.1 = (k, i) :: π
            · refine ⟨k, i, π, z, (π, q), List.mem_cons_self .., rfl, z5, b4, b5, part, ?_⟩
              rw [c5 z]
              exact b7 i c hc
            · obtain ⟨k', i', σ, d1, e0, d2, d3⟩ := c4 z
              refine ⟨k', i', σ, d1, e0, List.mem_cons_of_mem _ ?_, d3⟩
              exact mem_tsL _ 0 _ i c e0 hc (by rw [Nat.zero_add]; exact d2)
          · exfalso
            rw [c1] at eq
            have := congrArg List.length eq
            simp at this
            omega
theorem ixs_append (a b : Pa) : ixs (a ++ b) = ixs a ++ ixs b := by unfold ixs; rw [List.map_append]
/-- within a row indices tell a test -/
theorem tst_one : ∀ n q w π, WP τ n q → w < rw' τ q → ∀ e e', e ∈ tst τ n q w π → e' ∈ tst τ n q w π → ixs e.1 = ixs e'.1 → e = e' := by
  intro n
  induction n with
  | zero => intro q w π h; exact h.elim
  | succ n ih =>
    intro q w π h hw e e' he he' hix
    obtain ⟨⟨a1, a2, a3, a4, a5⟩, -, -, -, -, -, -, h5, h6⟩ := id h
    have rc := rw_c a4
    unfold tst at he he'
    by_cases z6 : tA τ 17 q = 6
    · rw [if_pos z6] at he he'
      obtain ⟨b1, b2, b3, b4⟩ := h6 z6
      have s := selA_ok (τ := τ) (kids τ q) w (by omega)
      exact ih _ _ π (b4 _ s.1).1 s.2 e e' he he' hix
    · rw [if_neg z6] at he he'
      by_cases z0 : tA τ 17 q = 0
      · rw [if_pos z0] at he; cases he
      · rw [if_neg z0] at he he'
        have low : ∀ e, e ∈ tsL (tst τ n) τ (tA τ 19 q).toNat π 0 (kids τ q) w → ∃ i c s, (kids τ q)[i]? = some c ∧ WP τ n c ∧ (w / prN τ ((kids τ q).drop (i + 1))) % rw' τ c < rw' τ c ∧ e ∈ tst τ n c ((w / prN τ ((kids τ q).drop (i + 1))) % rw' τ c) (((tA τ 19 q).toNat, i) :: π) ∧ e.1 = s ++ ((tA τ 19 q).toNat, i) :: π := by
          intro e he
          obtain ⟨i, c, hc, hm⟩ := tsL_mem _ _ _ _ he
          rw [Nat.zero_add] at hm
          have hil := (List.getElem?_eq_some_iff.mp hc).1
          have z5 : tA τ 17 q = 5 := by
            refine Decidable.byContradiction (fun z5 => ?_)
            have : kids τ q = [] := by
              unfold kids
              rw [if_neg (fun y => y.elim z5 z6)]
            rw [this] at hil
            exact absurd hil (by simp)
          obtain ⟨b1, b2, b3, ⟨k, b4, b5, b6, b7⟩, b8, b9⟩ := h5 z5
          have hWc := b9 c (List.mem_of_getElem? hc)
          have h1c : 1 ≤ rw' τ c := by
            cases n with
            | zero => exact hWc.elim
            | succ n => have := rw_c hWc.1.2.2.2.1; have := hWc.1.2.2.2.1; omega
          have lt := Nat.mod_lt (w / prN τ ((kids τ q).drop (i + 1))) (show rw' τ c > 0 by omega)
          obtain ⟨⟨s, c1, c2⟩, -⟩ := tst_ext n c _ _ hWc lt e hm
          exact ⟨i, c, s, hc, hWc, lt, hm, c1⟩
        have len : ∀ e, e ∈ tsL (tst τ n) τ (tA τ 19 q).toNat π 0 (kids τ q) w → ixs e.1 ≠ ixs π := by
          intro e he hq
          obtain ⟨i, c, s, -, -, -, -, c1⟩ := low e he
          have := congrArg List.length hq
          rw [c1, ixs_append] at this
          simp [ixs] at this
          omega
        rcases List.mem_cons.mp he with he | he
        · rcases List.mem_cons.mp he' with he' | he'
          · rw [he, he']
          · rw [he] at hix
            exact absurd hix.symm (len e' he')
        · rcases List.mem_cons.mp he' with he' | he'
          · rw [he'] at hix
            exact absurd hix (len e he)
          · obtain ⟨i, c, s, d1, d2, d3, d4, d5⟩ := low e he
            obtain ⟨i', c', s', f1, f2, f3, f4, f5⟩ := low e' he'
            have hix2 := hix
            rw [d5, f5, ixs_append, ixs_append] at hix2
            have hl := congrArg List.length hix2
            simp [ixs] at hl
            have hinj := List.append_inj hix2 (by unfold ixs; simp; omega)
            have hi : i = i' := by
              have := hinj.2
              have : i :: ixs π = i' :: ixs π := this
              injection this
            subst hi
            rw [d1] at f1
            injection f1 with f1
            subst f1
            exact ih c _ _ d2 d3 e e' d4 f4 hix
end ZTree2
