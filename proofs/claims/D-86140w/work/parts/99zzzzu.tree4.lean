/-! trees, plainly: by codes -/
section ZTree4
variable {p b e d f : Nat} {w : CW} {τ : TW}
/-- what is known by a code -/
def lkc : Sp → Nat → Option Br
  | [], _ => none
  | .inl _ :: P, c => lkc P c
  | .inr (ρ, b) :: P, c => if cod ρ = c then some b else lkc P c
theorem lkc_some : ∀ {P : Sp} {c : Nat} {b : Br}, lkc P c = some b → PSd τ f P → ∃ ρ, cod ρ = c ∧ lkp P ρ = some b := by
  intro P
  induction P with
  | nil => intro c b h; cases h
  | cons x P ih =>
    intro c b h hP
    cases x with
    | inl g => exact ih h hP.tl
    | inr y =>
      obtain ⟨π, b'⟩ := y
      have h : (if cod π = c then some b' else lkc P c) = some b := h
      by_cases z : cod π = c
      · rw [if_pos z] at h
        exact ⟨π, z, by show (if π = π then some b' else _) = _; rw [if_pos rfl]; exact h⟩
      · rw [if_neg z] at h
        obtain ⟨ρ, r1, r2⟩ := ih h hP.tl
        exact ⟨ρ, r1, lkp_up hP r2⟩
theorem lkc_none : ∀ {P : Sp} {ρ : Pa}, lkc P (cod ρ) = none → lkp P ρ = none := by
  intro P
  induction P with
  | nil => intro ρ _; rfl
  | cons x P ih =>
    intro ρ h
    cases x with
    | inl g => exact ih h
    | inr y =>
      obtain ⟨π, b'⟩ := y
      have h : (if cod π = cod ρ then some b' else lkc P (cod ρ)) = none := h
      show (if π = ρ then some b' else lkp P ρ) = none
      by_cases z : π = ρ
      · rw [z, if_pos rfl] at h; cases h
      · rw [if_neg z]
        by_cases z2 : cod π = cod ρ
        · rw [if_pos z2] at h; cases h
        · rw [if_neg z2] at h; exact ih h
theorem lkc_lkp {P : Sp} (hP : PSd τ f P) {ρ : Pa} {b : Br} (h : lkp P ρ = some b) : lkc P (cod ρ) = some b := by
  cases hc : lkc P (cod ρ) with
  | none => rw [lkc_none hc] at h; cases h
  | some b' =>
    obtain ⟨ρ', r1, r2⟩ := lkc_some hc hP
    have o1 := (hP.opn h).1
    have o2 := (hP.opn r2).1
    have := opn_un o2 o1 (cod_ix (opn_ok o2) (opn_ok o1) r1)
    rw [this, h] at r2
    exact r2.symm
/-- how a test stands, by its code -/
noncomputable def cstn (τ : TW) (P : Sp) (e : Pa × Nat) : Nat := match lkc P (cod e.1) with | none => 0 | some b => @ite _ (sat τ b e.2) (Classical.propDecidable _) 1 2
theorem cstn_eq {P : Sp} {e : Pa × Nat} (h : lkc P (cod e.1) = lkp P e.1) : cstn τ P e = stn τ P e := by
  unfold cstn stn
  rw [h]
  cases lkp P e.1 <;> rfl
theorem live_lk (hU : UnT τ) (hL : LfP τ) {P : Sp} (hP : PSd τ f P) {R m way : Nat} (h : RP τ R m) (hlv : ∀ e, e ∈ tsR τ R way → stn τ P e ≠ 2) {e : Pa × Nat} (he : e ∈ tsR τ R way) : lkc P (cod e.1) = lkp P e.1 := by
  cases hc : lkc P (cod e.1) with
  | none => exact (lkc_none hc).symm
  | some b =>
    obtain ⟨ρ, r1, r2⟩ := lkc_some hc hP
    have o := (hP.opn r2).1
    have ok := (tsR_ext h he).1.1
    rw [row_at hU hL h hlv ρ e he o (cod_ix (opn_ok o) ok r1)] at r2
    exact r2.symm
theorem live_st (hU : UnT τ) (hL : LfP τ) {P : Sp} (hP : PSd τ f P) {R m way : Nat} (h : RP τ R m) (hlv : ∀ e, e ∈ tsR τ R way → stn τ P e ≠ 2) {e : Pa × Nat} (he : e ∈ tsR τ R way) : cstn τ P e = stn τ P e := cstn_eq (live_lk hU hL hP h hlv he)
/-- alive by codes is alive -/
theorem live_iff (hU : UnT τ) (hL : LfP τ) {P : Sp} (hP : PSd τ f P) {R m way : Nat} (h : RP τ R m) : (∀ e, e ∈ tsR τ R way → cstn τ P e ≠ 2) ↔ (∀ e, e ∈ tsR τ R way → stn τ P e ≠ 2) := by
  constructor
  · intro hc e he h2
    cases hl : lkp P e.1 with
    | none => rw [stn_0.mpr hl] at h2; cases h2
    | some b =>
      have := cstn_eq (τ := τ) ((lkc_lkp hP hl).trans hl.symm)
      exact hc e he (this.trans h2)
  · intro hs e he h2
    rw [live_st hU hL hP h hs he] at h2
    exact hs e he h2
theorem abv_cons {k i : Nat} {σ : Pa} : abv σ ((k, i) :: σ) := ⟨[(k, i)], by simp, rfl⟩
theorem abv_trans {a b c : Pa} (h : abv a b) (k : abv b c) : abv a c := by
  obtain ⟨s, s1, s2⟩ := h
  obtain ⟨t, t1, t2⟩ := k
  exact ⟨t ++ s, by simp [s1], by rw [t2, s2, List.append_assoc]⟩
/-- what the first row asks may be met -/
theorem ask_opn (h24 : nK τ ≤ 24) (hU : UnT τ) (hL : LfP τ) {P : Sp} (hP : PSd τ f P) {R m way : Nat} (h : RP τ R m) (hSo : ∀ i c : Nat, (cks τ R)[i]? = some c → tA τ 18 c = tA τ 44 (3 * f + i : Nat)) (hlv : ∀ e, e ∈ tsR τ R way → stn τ P e ≠ 2) : ∀ (π : Pa) (e : Pa × Nat), e ∈ tsR τ R way → e.1 = π → (∀ e', e' ∈ tsR τ R way → stn τ P e' = 0 → ¬ abv e'.1 π) → opn τ P π := by
  intro π
  induction π with
  | nil => intro e _ _ _; trivial
  | cons x π ih =>
    obtain ⟨k, i⟩ := x
    intro e he e1 hab
    obtain ⟨⟨ok, -⟩, k', i', σ, e2, h2⟩ := tsR_ext h he
    rw [e1] at e2 ok
    injection e2 with a1 a2
    injection a1 with a3 a4
    subst a2
    subst a3
    subst a4
    refine ⟨ok (k, i) (List.mem_cons_self ..), ?_, ?_⟩
    · rcases h2 with ⟨y1, -⟩ | ⟨y1, e0, y2, y3, -⟩
      · rw [y1]; trivial
      · exact ih e0 y2 y3 (fun e' he' h0 hq => hab e' he' h0 (abv_trans hq abv_cons))
    · rcases h2 with ⟨y1, y2, -⟩ | ⟨y1, e0, y2, y3, y4, y5, y6, y7, y8⟩
      · exact Or.inl ⟨y1, y2⟩
      · have n0 : stn τ P e0 ≠ 0 := fun q => hab e0 y2 q (by rw [y3]; exact abv_cons)
        have n2 := hlv e0 y2
        cases hl : lkp P e0.1 with
        | none => exact absurd (stn_0.mpr hl) n0
        | some b =>
          have hs : sat τ b e0.2 := Classical.byContradiction (fun no => n2 (stn_2 hl no))
          rw [y3] at hl
          rcases hs with q | q | q | q | q
          · omega
          · omega
          · omega
          · omega
          · obtain ⟨-, q2, q3⟩ := q
            rw [y5] at q3
            refine Or.inr ⟨y1, y6, by omega, b, hl, ?_⟩
            have so := tsR_sort h h24 hSo y2
            have w0 := (tsR_ext h y2).1.2.2.2.2.2
            obtain ⟨n, hWP⟩ := w0
            have s3 := (hWP.2.2.2.2.2.2.2.1 y4).1
            rw [y3] at so
            rcases hP.br hl with z | z | ⟨k', z1, z2⟩
            · omega
            · exact absurd z q2
            · rw [z1] at q3 ⊢
              rw [ofT_leaf hU hL z2 y6 (by omega) q3]
end ZTree4
