/-! trees, plainly -/
section ZTree1
variable {p b e d : Nat} {w : CW} {τ : TW}
/-- a branch: a kind, a truth, the least; the greatest; a text; whether it is all others -/
abbrev Br : Type := Int × Int × Int × Int
/-- a step down a tree: behind a guard's rule, or a place's branch; the last one ahead -/
abbrev Sp : Type := List (Nat ⊕ (Pa × Br))
/-- what is known of a place -/
def lkp : Sp → Pa → Option Br
  | [], _ => none
  | .inl _ :: P, π => lkp P π
  | .inr (ρ, b) :: P, π => if ρ = π then some b else lkp P π
/-- rules that are out -/
def gds : Sp → List Nat
  | [] => []
  | .inl g :: P => g :: gds P
  | .inr _ :: P => gds P
/-- a test holds by a branch -/
def sat (τ : TW) (b : Br) (q : Nat) : Prop := (tA τ 17 q = 1 ∧ tA τ 19 q ≤ b.1 ∧ b.2.1 ≤ tA τ 20 q) ∨ (tA τ 17 q = 2 ∧ b.1 = tA τ 19 q) ∨ (tA τ 17 q = 3 ∧ b.2.2.2 = 0 ∧ b.2.2.1 = tA τ 21 q) ∨ (tA τ 17 q = 4 ∧ b.1 = -4) ∨ (tA τ 17 q = 5 ∧ b.1 ≠ -4 ∧ ofT τ b.1 (tA τ 19 q))
/-- how a test stands: 0 left, 1 it holds, 2 it can't -/
noncomputable def stn (τ : TW) (P : Sp) (e : Pa × Nat) : Nat := match lkp P e.1 with | none => 0 | some b => @ite _ (sat τ b e.2) (Classical.propDecidable _) 1 2
/-- a row is alive -/
def liv (τ : TW) (P : Sp) (x : Nat × Nat) : Prop := x.1 ∉ gds P ∧ ∀ e, e ∈ tsR τ x.1 x.2 → stn τ P e ≠ 2
noncomputable def fil {α : Type} (c : α → Prop) (l : List α) : List α := l.filter (fun x => @decide (c x) (Classical.propDecidable _))
noncomputable def rws (τ : TW) (RL : List (Nat × Nat)) (P : Sp) : List (Nat × Nat) := fil (liv τ P) RL
/-- a place lies above another -/
def abv (a b : Pa) : Prop := ∃ s : Pa, s ≠ [] ∧ b = s ++ a
/-- the first row's tests that are asked next -/
noncomputable def ask (τ : TW) (P : Sp) (x : Nat × Nat) : List (Pa × Nat) := fil (fun e => stn τ P e = 0 ∧ ∀ e', e' ∈ tsR τ x.1 x.2 → stn τ P e' = 0 → ¬ abv e'.1 e.1) (tsR τ x.1 x.2)
/-- a row's test that is left at a place -/
noncomputable def lfq (τ : TW) (P : Sp) (x : Nat × Nat) (π : Pa) : Option Nat := ((fil (fun e => e.1 = π ∧ stn τ P e = 0) (tsR τ x.1 x.2)).head?).map (fun e => e.2)
/-- unsealed kinds under one -/
noncomputable def lvs (τ : TW) (o : Int) : List Nat := fil (fun k => slN τ k (nK τ) = 0 ∧ ofT τ k o) (List.range (nK τ))
def adT (acc : List Int) (t : Int) : List Int := if t ∈ acc then acc else acc ++ [t]
/-- a number comes to its place among those below and above it -/
def ins : List Int → Int → List Int
  | [], v => [v]
  | x :: l, v => if x < v then x :: ins l v else if x = v then x :: l else v :: x :: l
noncomputable def txs (τ : TW) (P : Sp) (rows : List (Nat × Nat)) (π : Pa) : List Int := rows.foldl (fun acc x => match lfq τ P x π with | some q => adT acc (tA τ 21 q) | none => acc) []
noncomputable def bos (τ : TW) (P : Sp) (rows : List (Nat × Nat)) (π : Pa) : List Int := rows.foldl (fun acc x => match lfq τ P x π with | some q => ins (ins acc (tA τ 19 q - 1)) (tA τ 20 q) | none => acc) []
/-- ranges that end at borders -/
def rgs : Int → List Int → List Br
  | lo, [] => [(lo, 2147483647, 0, 0)]
  | lo, b :: bs => (lo, b, 0, 0) :: rgs (b + 1) bs
/-- the branches of a place -/
noncomputable def brs (τ : TW) (P : Sp) (rows : List (Nat × Nat)) (π : Pa) (s : Int) : List Br :=
  if 3 ≤ s then (-4, 0, 0, 0) :: (lvs τ (s - 3)).map (fun (k : Nat) => (((k : Nat) : Int), 0, 0, 0))
  else if s = 1 then [(0, 0, 0, 0), (1, 0, 0, 0)]
  else if s = 2 then (txs τ P rows π).map (fun t => (0, 0, t, 0)) ++ [(0, 0, 0, 1)]
  else rgs (-2147483648) (bos τ P rows π)
noncomputable def wrt (τ : TW) (P : Sp) (rows : List (Nat × Nat)) (π : Pa) : Nat := (fil (fun x => lfq τ P x π ≠ none) rows).length
/-- of the asked ones one is chosen -/
noncomputable def pck (τ : TW) (wy : Nat) (P : Sp) (rows : List (Nat × Nat)) (best e : Pa × Nat) : Pa × Nat :=
  @ite _ (wy = 3 ∨ (wy = 1 ∧ wrt τ P rows best.1 < wrt τ P rows e.1) ∨ (wy = 2 ∧ (brs τ P rows e.1 (tA τ 18 e.2)).length < (brs τ P rows best.1 (tA τ 18 best.2)).length)) (Classical.propDecidable _) e best
noncomputable def chs (τ : TW) (wy : Nat) (P : Sp) (rows : List (Nat × Nat)) : List (Pa × Nat) → Option (Pa × Nat)
  | [] => none
  | e :: es => some (es.foldl (pck τ wy P rows) e)
/-- what a node is: none, an end, a test -/
noncomputable def ndE (τ : TW) (RL : List (Nat × Nat)) (P : Sp) : Option (Nat × Nat) := (rws τ RL P).head?
noncomputable def ndT' (τ : TW) (RL : List (Nat × Nat)) (wy : Nat) (P : Sp) : Option (Pa × Nat) := match ndE τ RL P with | none => none | some x => chs τ wy P (rws τ RL P) (ask τ P x)
/-- the steps to what lies behind a node -/
noncomputable def chd (τ : TW) (RL : List (Nat × Nat)) (wy : Nat) (P : Sp) : List (Br × Sp) := match ndE τ RL P with
  | none => []
  | some x => match chs τ wy P (rws τ RL P) (ask τ P x) with
    | none => if tA τ 53 (x.1 : Nat) = 0 then [] else [((0, 0, 0, 0), .inl x.1 :: P)]
    | some e => (brs τ P (rws τ RL P) e.1 (tA τ 18 e.2)).map (fun b => (b, .inr (e.1, b) :: P))
/-- how many nodes -/
noncomputable def tsz (τ : TW) (RL : List (Nat × Nat)) (wy : Nat) : Nat → Sp → Nat
  | 0, _ => 0
  | m + 1, P => 1 + ((chd τ RL wy P).map (fun x => tsz τ RL wy m x.2)).sum
theorem mem_fil {α : Type} {c : α → Prop} {l : List α} {x : α} : x ∈ fil c l ↔ x ∈ l ∧ c x := by
  unfold fil
  rw [List.mem_filter]
  constructor
  · intro h
    exact ⟨h.1, by simpa using h.2⟩
  · intro h
    exact ⟨h.1, by simpa using h.2⟩
theorem fil_cons_1 {α : Type} {c : α → Prop} {l : List α} {x : α} (h : c x) : fil c (x :: l) = x :: fil c l := by
  unfold fil
  rw [List.filter_cons_of_pos (by simpa using h)]
theorem fil_cons_0 {α : Type} {c : α → Prop} {l : List α} {x : α} (h : ¬ c x) : fil c (x :: l) = fil c l := by
  unfold fil
  rw [List.filter_cons_of_neg (by simpa using h)]
theorem fil_fil {α : Type} {c c' : α → Prop} (h : ∀ x, c x → c' x) (l : List α) : fil c (fil c' l) = fil c l := by
  induction l with
  | nil => rfl
  | cons x l ih =>
    by_cases h1 : c' x
    · rw [fil_cons_1 h1]
      by_cases h2 : c x
      · rw [fil_cons_1 h2, fil_cons_1 h2, ih]
      · rw [fil_cons_0 h2, fil_cons_0 h2, ih]
    · rw [fil_cons_0 h1, fil_cons_0 (fun y => h1 (h x y)), ih]
theorem fil_append {α : Type} {c : α → Prop} (l l' : List α) : fil c (l ++ l') = fil c l ++ fil c l' := by
  unfold fil
  rw [List.filter_append]
theorem fil_nil {α : Type} {c : α → Prop} : fil c ([] : List α) = [] := rfl
theorem fil_congr {α : Type} {c c' : α → Prop} {l : List α} (h : ∀ x, x ∈ l → (c x ↔ c' x)) : fil c l = fil c' l := by
  induction l with
  | nil => rfl
  | cons x l ih =>
    have hx := h x (List.mem_cons_self ..)
    have hl := ih (fun y hy => h y (List.mem_cons_of_mem _ hy))
    by_cases h1 : c x
    · rw [fil_cons_1 h1, fil_cons_1 (hx.mp h1), hl]
    · rw [fil_cons_0 h1, fil_cons_0 (fun y => h1 (hx.mpr y)), hl]
theorem stn_0 {P : Sp} {e : Pa × Nat} : stn τ P e = 0 ↔ lkp P e.1 = none := by
  unfold stn
  cases h : lkp P e.1 with
  | none => simp
  | some b =>
    simp only [reduceCtorEq, iff_false]
    split <;> decide
theorem stn_1 {P : Sp} {e : Pa × Nat} {b : Br} (h : lkp P e.1 = some b) (hs : sat τ b e.2) : stn τ P e = 1 := by
  unfold stn
  rw [h]
  show (@ite _ (sat τ b e.2) (Classical.propDecidable _) 1 2) = 1
  rw [if_pos hs]
theorem stn_2 {P : Sp} {e : Pa × Nat} {b : Br} (h : lkp P e.1 = some b) (hs : ¬ sat τ b e.2) : stn τ P e = 2 := by
  unfold stn
  rw [h]
  show (@ite _ (sat τ b e.2) (Classical.propDecidable _) 1 2) = 2
  rw [if_neg hs]
theorem stn_le {P : Sp} {e : Pa × Nat} : stn τ P e = 0 ∨ stn τ P e = 1 ∨ stn τ P e = 2 := by
  cases h : lkp P e.1 with
  | none => exact Or.inl (stn_0.mpr h)
  | some b =>
    by_cases hs : sat τ b e.2
    · exact Or.inr (Or.inl (stn_1 h hs))
    · exact Or.inr (Or.inr (stn_2 h hs))
end ZTree1
