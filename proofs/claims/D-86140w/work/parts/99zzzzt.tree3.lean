/-! trees, plainly: rows and what is known -/
section ZTree3
variable {p b e d f : Nat} {w : CW} {τ : TW}
theorem tst_dep : ∀ n q w π, WP τ n q → w < rw' τ q → ∀ e, e ∈ tst τ n q w π → e.1.length + 1 ≤ π.length + n := by
  intro n
  induction n with
  | zero => intro q w π h; exact h.elim
  | succ n ih =>
    intro q w π h hw e he
    obtain ⟨⟨a1, a2, a3, a4, a5⟩, -, -, -, -, -, -, h5, h6⟩ := id h
    have rc := rw_c a4
    unfold tst at he
    by_cases z6 : tA τ 17 q = 6
    · rw [if_pos z6] at he
      obtain ⟨b1, b2, b3, b4⟩ := h6 z6
      have s := selA_ok (τ := τ) (kids τ q) w (by omega)
      have := ih _ _ π (b4 _ s.1).1 s.2 e he
      omega
    · rw [if_neg z6] at he
      by_cases z0 : tA τ 17 q = 0
      · rw [if_pos z0] at he; cases he
      · rw [if_neg z0] at he
        rcases List.mem_cons.mp he with he | he
        · rw [he]; show π.length + 1 ≤ _; omega
        · obtain ⟨i, c, hc, hm⟩ := tsL_mem _ _ _ _ he
          rw [Nat.zero_add] at hm
          have hil := (List.getElem?_eq_some_iff.mp hc).1
          have z5 : tA τ 17 q = 5 := by
            refine Decidable.byContradiction (fun z5 => ?_)
            have : kids τ q = [] := by
              unfold kids
              rw [if_neg (fun y => y.elim z5 z6)]
            rw [this] at hil
            exact absurd hil (by simp)
          have hWc := (h5 z5).2.2.2.2.2 c (List.mem_of_getElem? hc)
          have h1c : 1 ≤ rw' τ c := by
            cases n with
            | zero => exact hWc.elim
            | succ n => have := rw_c hWc.1.2.2.2.1; have := hWc.1.2.2.2.1; omega
          have := ih c _ _ hWc (Nat.mod_lt _ (by omega)) e hm
          simp at this
          omega
theorem cod_lt {π : Pa} (h : okP π) : cod π < 8 ^ π.length := by
  induction π with
  | nil => decide
  | cons x π ih =>
    obtain ⟨k, i⟩ := x
    have := ih (fun x hx => h x (List.mem_cons_of_mem _ hx))
    have a := h (k, i) (List.mem_cons_self ..)
    simp only at a
    show 8 * cod π + i + 1 < 8 ^ (π.length + 1)
    rw [Nat.pow_succ]
    omega
/-- a row's tests: where they lie -/
theorem tsR_ext {R m way : Nat} (h : RP τ R m) {e : Pa × Nat} (he : e ∈ tsR τ R way) : (okP e.1 ∧ e.1.length ≤ 7 ∧ e.2 < np τ ∧ tA τ 17 e.2 ≠ 0 ∧ tA τ 17 e.2 ≠ 6 ∧ ∃ n, WP τ (n + 1) e.2) ∧ ∃ k i σ, e.1 = (k, i) :: σ ∧ ((σ = [] ∧ k = 24 ∧ i < m ∧ ∃ c, (cks τ R)[i]? = some c ∧ tA τ 18 e.2 = tA τ 18 c) ∨ (σ ≠ [] ∧ ∃ e0, e0 ∈ tsR τ R way ∧ e0.1 = σ ∧ tA τ 17 e0.2 = 5 ∧ tA τ 19 e0.2 = (k : Nat) ∧ k < nK τ ∧ (i : Int) < tA τ 14 k ∧ tA τ 18 e.2 = tA τ 15 (4 * k + i : Nat))) := by
  obtain ⟨h1, h2, h3, h4, h5, h6⟩ := h
  obtain ⟨i, c, hc, hm⟩ := tsL_mem _ _ _ _ he
  rw [Nat.zero_add] at hm
  have hil := (List.getElem?_eq_some_iff.mp hc).1
  have hWc := h4 c (List.mem_of_getElem? hc)
  have h1c : 1 ≤ rw' τ c := by have := rw_c hWc.1.2.2.2.1; have := hWc.1.2.2.2.1; omega
  have lt := Nat.mod_lt (way / prN τ ((cks τ R).drop (i + 1))) (show rw' τ c > 0 by omega)
  obtain ⟨⟨s, c1, c2⟩, ⟨c3, c4, c5, c6⟩, c7, c8⟩ := tst_ext 7 c _ _ hWc lt e hm
  have dep := tst_dep 7 c _ _ hWc lt e hm
  refine ⟨⟨fun x hx => ?_, by simp at dep; omega, c3, c4, c5, c6⟩, ?_⟩
  · rw [c1] at hx
    rcases List.mem_append.mp hx with y | y
    · exact c2 x y
    · rw [List.mem_singleton.mp y]; show i < 7; omega
  · by_cases z : e.1 = [(24, i)]
    · exact ⟨24, i, [], z, Or.inl ⟨rfl, rfl, by omega, c, hc, c8 z⟩⟩
    · obtain ⟨k, i', σ, d1, e0, d2, d3, d4, d5, d6, d7, d8⟩ := c7 z
      refine ⟨k, i', σ, d1, Or.inr ⟨?_, e0, mem_tsL _ 0 _ i c e0 hc (by rw [Nat.zero_add]; exact d2), d3, d4, d5, d6, d7, d8⟩⟩
      obtain ⟨⟨s0, g1, -⟩, -⟩ := tst_ext 7 c _ _ hWc lt e0 d2
      rw [← d3, g1]
      simp
theorem tsR_one {R m way : Nat} (h : RP τ R m) {e e' : Pa × Nat} (he : e ∈ tsR τ R way) (he' : e' ∈ tsR τ R way) (hix : ixs e.1 = ixs e'.1) : e = e' := by
  obtain ⟨h1, h2, h3, h4, h5, h6⟩ := h
  have low : ∀ e, e ∈ tsR τ R way → ∃ i c s, (cks τ R)[i]? = some c ∧ WP τ 7 c ∧ (way / prN τ ((cks τ R).drop (i + 1))) % rw' τ c < rw' τ c ∧ e ∈ tst τ 7 c ((way / prN τ ((cks τ R).drop (i + 1))) % rw' τ c) [(24, i)] ∧ e.1 = s ++ [(24, i)] := by
    intro e he
    obtain ⟨i, c, hc, hm⟩ := tsL_mem _ _ _ _ he
    rw [Nat.zero_add] at hm
    have hWc := h4 c (List.mem_of_getElem? hc)
    have h1c : 1 ≤ rw' τ c := by have := rw_c hWc.1.2.2.2.1; have := hWc.1.2.2.2.1; omega
    have lt := Nat.mod_lt (way / prN τ ((cks τ R).drop (i + 1))) (show rw' τ c > 0 by omega)
    obtain ⟨⟨s, c1, c2⟩, -⟩ := tst_ext 7 c _ _ hWc lt e hm
    exact ⟨i, c, s, hc, hWc, lt, hm, c1⟩
  obtain ⟨i, c, s, d1, d2, d3, d4, d5⟩ := low e he
  obtain ⟨i', c', s', f1, f2, f3, f4, f5⟩ := low e' he'
  have hix2 := hix
  rw [d5, f5, ixs_append, ixs_append] at hix2
  have hl := congrArg List.length hix2
  simp [ixs] at hl
  have hinj := List.append_inj hix2 (by unfold ixs; simp; omega)
  have hi : i = i' := by
    have := hinj.2
    have : [i] = [i'] := this
    injection this
  subst hi
  rw [d1] at f1
  injection f1 with f1
  subst f1
  exact tst_one 7 c _ _ d2 d3 e e' d4 f4 hix
/-- a kind with parts: nothing is under it -/
def LfP (τ : TW) : Prop := ∀ j k : Nat, j < nK τ → k < nK τ → tA τ 13 j = k → tA τ 14 k = 0
theorem ofT_leaf (hU : UnT τ) (hL : LfP τ) {a k : Nat} (ha : a < nK τ) (hk : k < nK τ) (h14 : 0 < tA τ 14 k) (h : ofT τ a k) : a = k := by
  obtain ⟨n, hn⟩ := h
  have key : ∀ n (a : Nat), a < nK τ → upN τ n a = k → a = k := by
    intro n
    induction n with
    | zero =>
      intro a _ h
      have : (a : Int) = k := h
      omega
    | succ n ih =>
      intro a ha h
      unfold upN at h
      rw [if_neg (by omega)] at h
      rcases (hU a ha).2 with y | ⟨u, u1, u2⟩
      · have y : tA τ 13 a = -4 := y
        rw [show tA τ 13 (a : Int) = -4 from y, upN_neg (by decide)] at h
        omega
      · have u2 : tA τ 13 a = u := u2
        rw [show tA τ 13 (a : Int) = u from u2] at h
        have := ih u (by omega) h
        subst this
        have := hL a u ha hk u2
        omega
  exact key n a ha hn
/-- a place may be met: all above it is known to be so -/
def opn (τ : TW) (P : Sp) : Pa → Prop
  | [] => True
  | (k, i) :: σ => i < 7 ∧ opn τ P σ ∧ ((σ = [] ∧ k = 24) ∨ (σ ≠ [] ∧ k < nK τ ∧ 0 < tA τ 14 k ∧ ∃ b, lkp P σ = some b ∧ b.1 = (k : Nat)))
/-- the steps are sound -/
def PSd (τ : TW) (f : Nat) : Sp → Prop
  | [] => True
  | .inl _ :: P => PSd τ f P
  | .inr (π, b) :: P => PSd τ f P ∧ lkp P π = none ∧ opn τ P π ∧ π ≠ [] ∧ π.length ≤ 7 ∧ (srP τ f π < 3 ∨ b.1 = -4 ∨ ∃ k : Nat, b.1 = k ∧ k < nK τ)
theorem opn_ok {P : Sp} : ∀ {π : Pa}, opn τ P π → okP π := by
  intro π
  induction π with
  | nil => intro _ x hx; cases hx
  | cons x π ih =>
    obtain ⟨k, i⟩ := x
    intro h x hx
    rcases List.mem_cons.mp hx with y | y
    · rw [y]; exact h.1
    · exact ih h.2.1 x y
theorem opn_up {P Q : Sp} (h : ∀ σ b, lkp P σ = some b → lkp Q σ = some b) : ∀ {π : Pa}, opn τ P π → opn τ Q π := by
  intro π
  induction π with
  | nil => intro _; trivial
  | cons x π ih =>
    obtain ⟨k, i⟩ := x
    intro g
    refine ⟨g.1, ih g.2.1, ?_⟩
    rcases g.2.2 with y | ⟨y1, y2, y3, b, y4, y5⟩
    · exact Or.inl y
    · exact Or.inr ⟨y1, y2, y3, b, h _ _ y4, y5⟩
theorem lkp_up {P : Sp} {x : Nat ⊕ (Pa × Br)} (h : PSd τ f (x :: P)) {σ : Pa} {b : Br} (hk : lkp P σ = some b) : lkp (x :: P) σ = some b := by
  cases x with
  | inl g => exact hk
  | inr y =>
    obtain ⟨π, b'⟩ := y
    show (if π = σ then some b' else lkp P σ) = some b
    by_cases z : π = σ
    · rw [← z, h.2.1] at hk; cases hk
    · rw [if_neg z]; exact hk
theorem PSd.tl {P : Sp} {x : Nat ⊕ (Pa × Br)} (h : PSd τ f (x :: P)) : PSd τ f P := by
  cases x with
  | inl g => exact h
  | inr y => obtain ⟨π, b'⟩ := y; exact h.1
theorem PSd.opn {P : Sp} (h : PSd τ f P) : ∀ {ρ : Pa} {b : Br}, lkp P ρ = some b → opn τ P ρ ∧ ρ ≠ [] ∧ ρ.length ≤ 7 := by
  induction P with
  | nil => intro ρ b hk; cases hk
  | cons x P ih =>
    intro ρ b hk
    have up := fun σ b => lkp_up (σ := σ) (b := b) h
    cases x with
    | inl g =>
      obtain ⟨a1, a2⟩ := ih h.tl hk
      exact ⟨opn_up up a1, a2⟩
    | inr y =>
      obtain ⟨π, b'⟩ := y
      have hk : (if π = ρ then some b' else lkp P ρ) = some b := hk
      by_cases z : π = ρ
      · rw [← z]
        exact ⟨opn_up up h.2.2.1, h.2.2.2.1, h.2.2.2.2.1⟩
      · rw [if_neg z] at hk
        obtain ⟨a1, a2⟩ := ih h.tl hk
        exact ⟨opn_up up a1, a2⟩
/-- of what sort a place is -/
theorem tsR_sort {R m way : Nat} (h : RP τ R m) (h24 : nK τ ≤ 24) (hSo : ∀ i c : Nat, (cks τ R)[i]? = some c → tA τ 18 c = tA τ 44 (3 * f + i : Nat)) {e : Pa × Nat} (he : e ∈ tsR τ R way) : tA τ 18 e.2 = srP τ f e.1 := by
  obtain ⟨-, k, i, σ, e1, h2⟩ := tsR_ext h he
  rw [e1]
  rcases h2 with ⟨y1, y2, y3, c, y4, y5⟩ | ⟨y1, e0, y2, y3, y4, y5, y6, y7, y8⟩
  · rw [y5, hSo i c y4, y2]
    rfl
  · rw [y8]
    show _ = if k = 24 then _ else _
    rw [if_neg (by omega)]
theorem PSd.br {P : Sp} (h : PSd τ f P) : ∀ {ρ : Pa} {b : Br}, lkp P ρ = some b → srP τ f ρ < 3 ∨ b.1 = -4 ∨ ∃ k : Nat, b.1 = k ∧ k < nK τ := by
  induction P with
  | nil => intro ρ b hk; cases hk
  | cons x P ih =>
    intro ρ b hk
    cases x with
    | inl g => exact ih h.tl hk
    | inr y =>
      obtain ⟨π, b'⟩ := y
      have hk : (if π = ρ then some b' else lkp P ρ) = some b := hk
      by_cases z : π = ρ
      · rw [if_pos z] at hk
        injection hk with hk
        rw [← z, ← hk]
        exact h.2.2.2.2.2
      · rw [if_neg z] at hk
        exact ih h.tl hk
theorem opn_un {P : Sp} : ∀ {π ρ : Pa}, opn τ P π → opn τ P ρ → ixs π = ixs ρ → π = ρ := by
  intro π
  induction π with
  | nil =>
    intro ρ _ _ h
    cases ρ with
    | nil => rfl
    | cons y ρ => exact absurd h (by simp [ixs])
  | cons x π ih =>
    obtain ⟨k, i⟩ := x
    intro ρ h1 h2 h
    cases ρ with
    | nil => exact absurd h (by simp [ixs])
    | cons y ρ =>
      obtain ⟨k', i'⟩ := y
      have h : i :: ixs π = i' :: ixs ρ := h
      injection h with e1 e2
      have e3 := ih h1.2.1 h2.2.1 e2
      subst e3
      have : k = k' := by
        rcases h1.2.2 with ⟨y1, y2⟩ | ⟨y1, y2, y3, b, y4, y5⟩
        · rcases h2.2.2 with ⟨z1, z2⟩ | ⟨z1, z2⟩
          · omega
          · exact absurd y1 z1
        · rcases h2.2.2 with ⟨z1, z2⟩ | ⟨z1, z2, z3, b2, z4, z5⟩
          · exact absurd z1 y1
          · rw [y4] at z4
            injection z4 with z4
            rw [z4] at y5
            omega
      rw [this, e1]
/-- a live row's test of the indices of a place that may be met lies there -/
theorem row_at {P : Sp} (hU : UnT τ) (hL : LfP τ) {R m way : Nat} (h : RP τ R m) (hlv : ∀ e, e ∈ tsR τ R way → stn τ P e ≠ 2) : ∀ (ρ : Pa) (e : Pa × Nat), e ∈ tsR τ R way → opn τ P ρ → ixs ρ = ixs e.1 → ρ = e.1 := by
  intro ρ
  induction ρ with
  | nil =>
    intro e he _ hix
    cases hx : e.1 with
    | nil => rfl
    | cons y π => rw [hx] at hix; exact absurd hix (by simp [ixs])
  | cons x ρ ih =>
    obtain ⟨k, i⟩ := x
    intro e he ho hix
    obtain ⟨-, k', i', σ, e1, h2⟩ := tsR_ext h he
    rw [e1] at hix ⊢
    have hix : i :: ixs ρ = i' :: ixs σ := hix
    injection hix with a1 a2
    rcases h2 with ⟨y1, y2, -⟩ | ⟨y1, e0, y2, y3, y4, y5, y6, y7, y8⟩
    · have : ρ = [] := by
        cases ρ with
        | nil => rfl
        | cons z ρ => rw [y1] at a2; exact absurd a2 (by simp [ixs])
      rcases ho.2.2 with ⟨z1, z2⟩ | ⟨z1, -⟩
      · rw [this, y1, a1, y2, z2]
      · exact absurd this z1
    · have e3 : ρ = σ := by
        rw [← y3]
        exact ih e0 y2 ho.2.1 (by rw [y3]; exact a2)
      subst e3
      rcases ho.2.2 with ⟨z1, z2⟩ | ⟨z1, z2, z3, b, z4, z5⟩
      · exact absurd z1 y1
      · have ne2 := hlv e0 y2
        have hs : sat τ b e0.2 := Classical.byContradiction (fun no => ne2 (stn_2 (by rw [y3]; exact z4) no))
        have : k = k' := by
          rcases hs with q | q | q | q | q
          · omega
          · omega
          · omega
          · omega
          · obtain ⟨-, -, q3⟩ := q
            rw [z5, y5] at q3
            exact ofT_leaf hU hL z2 y6 (by omega) q3
        rw [this, a1]
end ZTree3
