/-! the reference's trees: what is asked next -/
section ZAsks
variable {p b e d f : Nat} {w : CW} {τ σ : TW} {rs : List (Nat × Nat)}
/-- nothing is left at a place or above it -/
def clr (τ : TW) (P : Sp) (x : Nat × Nat) : Pa → Prop
  | [] => True
  | (k, i) :: σ => ¬ lfC τ P x (cod ((k, i) :: σ)) ∧ clr τ P x σ
theorem clr_suf {P : Sp} {x : Nat × Nat} : ∀ {σ : Pa}, clr τ P x σ ↔ ∀ ρ s, ρ ≠ [] → σ = s ++ ρ → ¬ lfC τ P x (cod ρ) := by
  intro σ
  induction σ with
  | nil =>
    constructor
    · intro _ ρ s hne he
      have := List.append_eq_nil_iff.mp he.symm
      exact absurd this.2 hne
    · intro _; trivial
  | cons y σ ih =>
    obtain ⟨k, i⟩ := y
    constructor
    · intro h ρ s hne he
      cases s with
      | nil => rw [← show (k, i) :: σ = ρ from he]; exact h.1
      | cons z s =>
        injection he with h1 h2
        exact ih.mp h.2 ρ s hne h2
    · intro h
      exact ⟨h _ [] (by simp) rfl, ih.mpr (fun ρ s hne he => h ρ ((k, i) :: s) hne (by rw [he]; rfl))⟩
/-- every place above a row's test has a test -/
theorem tsR_abv {R m way : Nat} (h : RP τ R m) : ∀ (s : Pa) (e : Pa × Nat) (ρ : Pa), e ∈ tsR τ R way → ρ ≠ [] → e.1 = s ++ ρ → ∃ e0, e0 ∈ tsR τ R way ∧ e0.1 = ρ := by
  intro s
  induction s with
  | nil => intro e ρ he _ h1; exact ⟨e, he, h1⟩
  | cons y s ih =>
    intro e ρ he hne h1
    obtain ⟨-, k, i, σ, e1, h2⟩ := tsR_ext h he
    rw [e1] at h1
    injection h1 with h3 h4
    rcases h2 with ⟨y1, -⟩ | ⟨y1, e0, y2, y3, -⟩
    · rw [y1] at h4
      have := List.append_eq_nil_iff.mp h4.symm
      exact absurd this.2 hne
    · exact ih e0 ρ y2 hne (by rw [y3]; exact h4)
theorem clr_iff {P : Sp} {R m way : Nat} (h : RP τ R m) {e : Pa × Nat} (he : e ∈ tsR τ R way) {k i : Nat} {σ : Pa} (e1 : e.1 = (k, i) :: σ) : clr τ P (R, way) σ ↔ ∀ e', e' ∈ tsR τ R way → stn τ P e' = 0 → ¬ abv e'.1 e.1 := by
  rw [clr_suf]
  constructor
  · rintro hc e' he' h0 ⟨s, s1, s2⟩
    rw [e1] at s2
    cases s with
    | nil => exact s1 rfl
    | cons y s =>
      injection s2 with q1 q2
      have hne : e'.1 ≠ [] := by
        obtain ⟨-, k', i', σ', g, -⟩ := tsR_ext h he'
        rw [g]; simp
      exact hc e'.1 s hne q2 ⟨e', he', h0, rfl⟩
  · rintro ha ρ s hne hs ⟨e', he', h0, hc⟩
    obtain ⟨e0, g1, g2⟩ := tsR_abv h ((k, i) :: s) e ρ he hne (by rw [e1, hs]; rfl)
    have o1 := (tsR_ext h he').1.1
    have o2 := (tsR_ext h g1).1.1
    have := tsR_one h he' g1 (cod_ix o1 o2 (by rw [hc, g2]))
    refine ha e' he' h0 ⟨(k, i) :: s, by simp, ?_⟩
    rw [this, g2, e1, hs]
    rfl
/-- a test is asked -/
def askC (τ : TW) (P : Sp) (x : Nat × Nat) (e : Pa × Nat) : Prop := stn τ P e = 0 ∧ ∀ e', e' ∈ tsR τ x.1 x.2 → stn τ P e' = 0 → ¬ abv e'.1 e.1
theorem ask_eq (P : Sp) (x : Nat × Nat) : fil (askC τ P x) (tsR τ x.1 x.2) = ask τ P x := rfl
/-- what a choice weighs -/
noncomputable def wth (τ : TW) (wy : Nat) (P : Sp) (rows : List (Nat × Nat)) (e : Pa × Nat) : Int := if wy = 1 then (wrt τ P rows e.1 : Nat) else if wy = 2 then -((brs τ P rows e.1 (tA τ 18 e.2)).length : Nat) else 0
theorem pck_iff {wy : Nat} (hw : wy ≤ 3) {P : Sp} {rows : List (Nat × Nat)} {best e : Pa × Nat} : (wy = 3 ∨ (¬ ((wy : Int) ≤ 0) ∧ ¬ (wth τ wy P rows e ≤ wth τ wy P rows best))) ↔ (wy = 3 ∨ (wy = 1 ∧ wrt τ P rows best.1 < wrt τ P rows e.1) ∨ (wy = 2 ∧ (brs τ P rows e.1 (tA τ 18 e.2)).length < (brs τ P rows best.1 (tA τ 18 best.2)).length)) := by
  unfold wth
  rcases (by omega : wy = 0 ∨ wy = 1 ∨ wy = 2 ∨ wy = 3) with h | h | h | h <;> subst h
  · simp
  · simp
  · simp
  · simp
theorem pck_1 {wy : Nat} (hw : wy ≤ 3) {P : Sp} {rows : List (Nat × Nat)} {best e : Pa × Nat} (h : wy = 3 ∨ (¬ ((wy : Int) ≤ 0) ∧ ¬ (wth τ wy P rows e ≤ wth τ wy P rows best))) : pck τ wy P rows best e = e := by
  unfold pck
  rw [if_pos ((pck_iff hw).mp h)]
theorem pck_0 {wy : Nat} (hw : wy ≤ 3) {P : Sp} {rows : List (Nat × Nat)} {best e : Pa × Nat} (h : ¬ (wy = 3 ∨ (¬ ((wy : Int) ≤ 0) ∧ ¬ (wth τ wy P rows e ≤ wth τ wy P rows best)))) : pck τ wy P rows best e = best := by
  unfold pck
  rw [if_neg (fun y => h ((pck_iff hw).mpr y))]
theorem chs_app {wy : Nat} {P : Sp} {rows : List (Nat × Nat)} {A : List (Pa × Nat)} {best e : Pa × Nat} (h : chs τ wy P rows A = some best) : chs τ wy P rows (A ++ [e]) = some (pck τ wy P rows best e) := by
  cases A with
  | nil => cases h
  | cons a A =>
    injection h with h
    show some ((A ++ [e]).foldl (pck τ wy P rows) a) = _
    rw [List.foldl_append, h]
    rfl
/-- how many live rows want a place -/
theorem wrt_eq (hC : CX τ f rs) {P : Sp} {π : Pa} (ho : opn τ P π) {rs' : List (Nat × Nat)} (hsub : ∀ x, x ∈ rs' → x ∈ rs) : (fil (fun x => lfq τ P x π ≠ none) (fil (liv τ P) rs')).length = (fil (fun x => liv τ P x ∧ lfC τ P x (cod π)) rs').length := by
  obtain ⟨⟨c1, c2, c3, c4⟩, c5, c6, c7⟩ := hC
  have iff : ∀ x, x ∈ rs → liv τ P x → (lfq τ P x π ≠ none ↔ lfC τ P x (cod π)) := fun x hx hl => by
    obtain ⟨-, -, m, hRP, -⟩ := c7 x hx
    have hxe : x = (x.1, x.2) := rfl
    rcases lfq_cs c1 c2 hRP (by rw [← hxe]; exact hl) ho (way := x.2) with ⟨hn, hno⟩ | ⟨q, l1, l2, hq, hsp, hs0, hno⟩
    · constructor
      · intro y; exact absurd hn y
      · rintro ⟨e, h1, h2, h3⟩; exact absurd h3 (hno e h1 h2)
    · constructor
      · intro _; exact ⟨(π, q), by show (π, q) ∈ tsR τ x.1 x.2; rw [hsp]; simp, hs0, rfl⟩
      · intro _ y; rw [show lfq τ P x π = some q from hq] at y; cases y
  induction rs' with
  | nil => rfl
  | cons x rs' ih =>
    have h1 := ih (fun y hy => hsub y (List.mem_cons_of_mem _ hy))
    have hx := hsub x (List.mem_cons_self ..)
    by_cases hl : liv τ P x
    · rw [fil_cons_1 hl]
      by_cases hq : lfq τ P x π ≠ none
      · rw [fil_cons_1 (c := fun x => lfq τ P x π ≠ none) hq, fil_cons_1 ⟨hl, (iff x hx hl).mp hq⟩, List.length_cons, List.length_cons, h1]
      · rw [fil_cons_0 (c := fun x => lfq τ P x π ≠ none) hq, fil_cons_0 (fun y => hq ((iff x hx hl).mpr y.2)), h1]
    · rw [fil_cons_0 hl, fil_cons_0 (fun y => hl y.1), h1]
end ZAsks
