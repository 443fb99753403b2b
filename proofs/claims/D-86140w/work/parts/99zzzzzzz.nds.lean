/-! the nodes of a tree in their order -/
section ZNds
variable {p b e d f F n lo wy base : Nat} {w wS : CW} {τ σ ρ : TW} {rs : List (Nat × Nat)} {ps : List Pa} {ro : Nat × Nat → Nat}
noncomputable def nds (τ : TW) (rs : List (Nat × Nat)) (wy : Nat) : Nat → Sp → List (Nat × Sp)
  | 0, _ => []
  | m + 1, P => (m + 1, P) :: ((chd τ rs wy P).map (fun y => nds τ rs wy m y.2)).flatten
theorem flt_len {α β : Type} (g : α → List β) (z : α → Nat) (h : ∀ x, (g x).length = z x) : ∀ cs : List α, ((cs.map g).flatten).length = (cs.map z).sum := by
  intro cs
  induction cs with
  | nil => rfl
  | cons x cs ih => simp only [List.map_cons, List.flatten_cons, List.length_append, List.sum_cons, h x, ih]
theorem nds_len : ∀ (m : Nat) (P : Sp), (nds τ rs wy m P).length = tsz τ rs wy m P := by
  intro m
  induction m with
  | zero => intro P; rfl
  | succ m ih =>
    intro P
    show (((chd τ rs wy P).map (fun y => nds τ rs wy m y.2)).flatten).length + 1 = 1 + ((chd τ rs wy P).map (fun x => tsz τ rs wy m x.2)).sum
    rw [flt_len (fun y : Br × Sp => nds τ rs wy m y.2) (fun y => tsz τ rs wy m y.2) (fun y => ih y.2)]
    omega
theorem flat_idx {α β : Type} (g : α → List β) : ∀ (cs : List α) (i : Nat) (y : β), ((cs.map g).flatten)[i]? = some y → ∃ j x i', cs[j]? = some x ∧ i = ((cs.take j).map (fun x => (g x).length)).sum + i' ∧ (g x)[i']? = some y := by
  intro cs
  induction cs with
  | nil => intro i y h; simp at h
  | cons c cs ih =>
    intro i y h
    simp only [List.map_cons, List.flatten_cons] at h
    by_cases q : i < (g c).length
    · rw [List.getElem?_append_left q] at h
      exact ⟨0, c, i, rfl, by simp, h⟩
    · rw [List.getElem?_append_right (by omega)] at h
      obtain ⟨j, x, i', h1, h2, h3⟩ := ih _ _ h
      refine ⟨j + 1, x, i', h1, ?_, h3⟩
      simp only [List.take_succ_cons, List.map_cons, List.sum_cons]
      omega
theorem idx_flat {α β : Type} (g : α → List β) : ∀ (cs : List α) (j : Nat) (x : α) (i' : Nat) (y : β), cs[j]? = some x → (g x)[i']? = some y → ((cs.map g).flatten)[((cs.take j).map (fun x => (g x).length)).sum + i']? = some y := by
  intro cs
  induction cs with
  | nil => intro j x i' y h; simp at h
  | cons c cs ih =>
    intro j x i' y h h'
    simp only [List.map_cons, List.flatten_cons]
    cases j with
    | zero =>
      have : c = x := by simpa using h
      subst this
      have hl : i' < (g c).length := (List.getElem?_eq_some_iff.mp h').1
      simp only [List.take_zero, List.map_nil, List.sum_nil, Nat.zero_add]
      rw [List.getElem?_append_left hl]
      exact h'
    | succ j =>
      simp only [List.take_succ_cons, List.map_cons, List.sum_cons]
      rw [List.getElem?_append_right (by omega)]
      rw [show (g c).length + ((cs.take j).map (fun x => (g x).length)).sum + i' - (g c).length = ((cs.take j).map (fun x => (g x).length)).sum + i' by omega]
      exact ih j x i' y (by simpa using h) h'
/-- of those behind a node: one by its number -/
theorem TTl.at {T : Sp → Nat → Prop} {z : Sp → Nat} {u : Nat} : ∀ (cs : List (Br × Sp)) (c : Nat), TTl T z σ base u cs c → ∀ (j : Nat) (y : Br × Sp), cs[j]? = some y → tA σ 85 (base + (c + ((cs.take j).map (fun y => z y.2)).sum) : Nat) = (u : Nat) ∧ (tA σ 89 (base + (c + ((cs.take j).map (fun y => z y.2)).sum) : Nat) = y.1.1 ∧ tA σ 90 (base + (c + ((cs.take j).map (fun y => z y.2)).sum) : Nat) = y.1.2.1 ∧ tA σ 91 (base + (c + ((cs.take j).map (fun y => z y.2)).sum) : Nat) = y.1.2.2.1 ∧ tA σ 92 (base + (c + ((cs.take j).map (fun y => z y.2)).sum) : Nat) = y.1.2.2.2) ∧ (tA σ 88 (base + (c + ((cs.take j).map (fun y => z y.2)).sum) : Nat) = if j + 1 = cs.length then -4 else ((base + (c + ((cs.take (j + 1)).map (fun y => z y.2)).sum) : Nat) : Int)) ∧ T y.2 (c + ((cs.take j).map (fun y => z y.2)).sum) := by
  intro cs
  induction cs with
  | nil => intro c _ j y h; simp at h
  | cons x cs ih =>
    intro c h j y hj
    obtain ⟨a1, a2, a3, a4, a5⟩ := h
    cases j with
    | zero =>
      have : x = y := by simpa using hj
      subst this
      simp only [List.take_zero, List.map_nil, List.sum_nil, Nat.add_zero]
      refine ⟨a1, a2, ?_, a4⟩
      rw [a3]
      cases cs with
      | nil => simp
      | cons x' cs' =>
        rw [if_neg (by simp), if_neg (by simp)]
        simp
    | succ j =>
      have k := ih (c + z x.2) a5 j y (by simpa using hj)
      simp only [List.take_succ_cons, List.map_cons, List.sum_cons, List.length_cons] at k ⊢
      have e : c + (z x.2 + ((cs.take j).map (fun y => z y.2)).sum) = c + z x.2 + ((cs.take j).map (fun y => z y.2)).sum := by omega
      have e' : c + (z x.2 + ((cs.take (j + 1)).map (fun y => z y.2)).sum) = c + z x.2 + ((cs.take (j + 1)).map (fun y => z y.2)).sum := by omega
      have e2 : (j + 1 + 1 = cs.length + 1) = (j + 1 = cs.length) := by simp
      rw [e, e']
      simp only [e2]
      exact k
/-- a node's row, by its number -/
theorem TT.nd : ∀ (m : Nat) (P : Sp) (n : Nat), TT τ σ rs wy base m P n → ∀ (i : Nat) (y : Nat × Sp), (nds τ rs wy m P)[i]? = some y → ∃ m', y.1 = m' + 1 ∧ TT τ σ rs wy base (m' + 1) y.2 (n + i) := by
  intro m
  induction m with
  | zero => intro P n _ i y h; simp [nds] at h
  | succ m ih =>
    intro P n h i y hy
    cases i with
    | zero =>
      have : (m + 1, P) = y := by simpa [nds] using hy
      subst this
      exact ⟨m, rfl, h⟩
    | succ i =>
      have hy' : (((chd τ rs wy P).map (fun y => nds τ rs wy m y.2)).flatten)[i]? = some y := by simpa [nds] using hy
      obtain ⟨j, x, i', h1, h2, h3⟩ := flat_idx (fun y : Br × Sp => nds τ rs wy m y.2) _ _ _ hy'
      obtain ⟨-, -, -, hl⟩ := h
      obtain ⟨-, -, -, t⟩ := hl.at _ _ j x h1
      obtain ⟨m', k1, k2⟩ := ih x.2 _ t i' y h3
      have e : ((chd τ rs wy P).take j).map (fun x => (nds τ rs wy m x.2).length) = ((chd τ rs wy P).take j).map (fun y => tsz τ rs wy m y.2) := List.map_congr_left (fun x _ => nds_len m x.2)
      rw [e] at h2
      refine ⟨m', k1, ?_⟩
      rw [show n + (i + 1) = n + 1 + (((chd τ rs wy P).take j).map (fun y => tsz τ rs wy m y.2)).sum + i' by omega]
      exact k2
theorem chd_len {P : Sp} : ∀ y, y ∈ chd τ rs wy P → y.2.length = P.length + 1 := by
  intro y hy
  unfold chd at hy
  cases hn : ndE τ rs P with
  | none => rw [hn] at hy; cases hy
  | some r =>
    rw [hn] at hy
    simp only at hy
    cases hc : chs τ wy P (rws τ rs P) (ask τ P r) with
    | none =>
      rw [hc] at hy
      simp only at hy
      by_cases g0 : tA τ 53 (r.1 : Nat) = 0
      · rw [if_pos g0] at hy; cases hy
      · rw [if_neg g0] at hy
        rw [List.mem_singleton.mp hy]
        rfl
    | some e =>
      rw [hc] at hy
      simp only at hy
      obtain ⟨b, hb, rfl⟩ := List.mem_map.mp hy
      rfl
/-- so many steps up -/
def PCh (σ : TW) : Nat → Nat → Prop
  | 0, _ => False
  | 1, x => tA σ 85 x = -4
  | L + 2, x => ∃ u : Nat, tA σ 85 x = u ∧ u < 3900 ∧ PCh σ (L + 1) u
theorem TT.pch : ∀ (m : Nat) (P : Sp) (n L : Nat), TT τ σ rs wy base m P n → PCh σ (L + 1) (base + n) → base + n + tsz τ rs wy m P ≤ 3900 → ∀ (i : Nat) (y : Nat × Sp), (nds τ rs wy m P)[i]? = some y → P.length ≤ y.2.length ∧ PCh σ (y.2.length - P.length + L + 1) (base + (n + i)) := by
  intro m
  induction m with
  | zero => intro P n L _ _ _ i y h; simp [nds] at h
  | succ m ih =>
    intro P n L h hp hb i y hy
    have es : tsz τ rs wy (m + 1) P = 1 + ((chd τ rs wy P).map (fun x => tsz τ rs wy m x.2)).sum := rfl
    cases i with
    | zero =>
      have : (m + 1, P) = y := by simpa [nds] using hy
      subst this
      refine ⟨Nat.le_refl _, ?_⟩
      rw [Nat.sub_self, Nat.zero_add]
      exact hp
    | succ i =>
      have hy' : (((chd τ rs wy P).map (fun y => nds τ rs wy m y.2)).flatten)[i]? = some y := by simpa [nds] using hy
      obtain ⟨j, x, i', h1, h2, h3⟩ := flat_idx (fun y : Br × Sp => nds τ rs wy m y.2) _ _ _ hy'
      obtain ⟨-, -, -, hl⟩ := h
      obtain ⟨t85, -, -, t⟩ := hl.at _ _ j x h1
      have e : ((chd τ rs wy P).take j).map (fun x => (nds τ rs wy m x.2).length) = ((chd τ rs wy P).take j).map (fun y => tsz τ rs wy m y.2) := List.map_congr_left (fun x _ => nds_len m x.2)
      rw [e] at h2
      have ep := prs_s (τ := τ) (rs := rs) (wy := wy) (m := m) h1
      have pl := prs_le (τ := τ) (rs := rs) (wy := wy) (m := m) (cs := chd τ rs wy P) (j + 1)
      unfold prs at ep pl
      have hx := chd_len x (List.mem_of_getElem? h1)
      obtain ⟨q1, q2⟩ := ih x.2 _ (L + 1) t ⟨base + n, t85, by omega, hp⟩ (by omega) i' y h3
      refine ⟨by omega, ?_⟩
      rw [show n + (i + 1) = n + 1 + (((chd τ rs wy P).take j).map (fun y => tsz τ rs wy m y.2)).sum + i' by omega, show y.2.length - P.length + L + 1 = y.2.length - x.2.length + (L + 1) + 1 by omega]
      exact q2
/-- the greatest -/
def mx2 (a b : Nat) : Nat := if a ≤ b then b else a
theorem mx2_0 (a : Nat) : mx2 a 0 = a ∧ mx2 0 a = a := by unfold mx2; constructor <;> split <;> omega
theorem mx2_a (a b c : Nat) : mx2 (mx2 a b) c = mx2 a (mx2 b c) := by
  unfold mx2
  by_cases h : a ≤ b
  · rw [if_pos h]
    by_cases k : b ≤ c
    · rw [if_pos k, if_pos (by omega)]
    · rw [if_neg k, if_pos h]
  · rw [if_neg h]
    by_cases k : b ≤ c
    · rw [if_pos k]
    · rw [if_neg k, if_neg h, if_neg (by omega)]
theorem mx2_add (a b c : Nat) : mx2 (a + b) (a + c) = a + mx2 b c := by unfold mx2; split <;> split <;> omega
def mxl : List Nat → Nat
  | [] => 0
  | x :: l => mx2 x (mxl l)
theorem mxl_app (a b : List Nat) : mxl (a ++ b) = mx2 (mxl a) (mxl b) := by
  induction a with
  | nil => exact (mx2_0 _).2.symm
  | cons x a ih =>
    show mx2 x (mxl (a ++ b)) = mx2 (mx2 x (mxl a)) (mxl b)
    rw [ih]
    exact (mx2_a _ _ _).symm
theorem mxl_take {l : List Nat} {j x : Nat} (h : l[j]? = some x) : mxl (l.take (j + 1)) = mx2 (mxl (l.take j)) x := by
  rw [List.take_succ, h, mxl_app]
  show mx2 _ (mx2 x 0) = _
  rw [(mx2_0 x).1]
theorem mxl_flat {α : Type} (g : α → List Nat) : ∀ cs : List α, mxl (cs.map g).flatten = mxl (cs.map (fun x => mxl (g x))) := by
  intro cs
  induction cs with
  | nil => rfl
  | cons x cs ih =>
    simp only [List.map_cons, List.flatten_cons, mxl_app, ih]
    rfl
theorem mxl_add {α : Type} (g h : α → Nat) (a : Nat) : ∀ cs : List α, cs ≠ [] → (∀ x, x ∈ cs → g x = a + h x) → mxl (cs.map g) = a + mxl (cs.map h) := by
  intro cs
  induction cs with
  | nil => intro y; exact absurd rfl y
  | cons x cs ih =>
    intro _ hx
    have h0 := hx x (List.mem_cons_self ..)
    show mx2 (g x) (mxl (cs.map g)) = a + mx2 (h x) (mxl (cs.map h))
    cases cs with
    | nil =>
      show mx2 (g x) 0 = a + mx2 (h x) 0
      rw [(mx2_0 _).1, (mx2_0 _).1, h0]
    | cons y cs =>
      rw [ih (by simp) (fun x hxx => hx x (List.mem_cons_of_mem _ hxx)), h0]
      exact mx2_add _ _ _
/-- a tree's depth -/
noncomputable def dpt (τ : TW) (rs : List (Nat × Nat)) (wy : Nat) : Nat → Sp → Nat
  | 0, _ => 0
  | m + 1, P => mxl ((chd τ rs wy P).map (fun y => dpt τ rs wy m y.2)) + 1
theorem TT.deep : ∀ (m : Nat) (P : Sp) (n : Nat), TT τ σ rs wy base (m + 1) P n → mxl ((nds τ rs wy (m + 1) P).map (fun y => y.2.length + 1)) = P.length + dpt τ rs wy (m + 1) P := by
  intro m
  induction m with
  | zero =>
    intro P n h
    have e : chd τ rs wy P = [] := h.1 rfl
    show mx2 (P.length + 1) (mxl ((((chd τ rs wy P).map (fun y => nds τ rs wy 0 y.2)).flatten).map (fun y => y.2.length + 1))) = P.length + (mxl ((chd τ rs wy P).map (fun y => dpt τ rs wy 0 y.2)) + 1)
    rw [e]
    show mx2 (P.length + 1) 0 = P.length + (0 + 1)
    rw [(mx2_0 _).1]
  | succ m ih =>
    intro P n h
    obtain ⟨-, -, -, hl⟩ := h
    have key : ∀ y, y ∈ chd τ rs wy P → mxl ((nds τ rs wy (m + 1) y.2).map (fun y => y.2.length + 1)) = (P.length + 1) + dpt τ rs wy (m + 1) y.2 := fun y hy => by
      obtain ⟨j, hj⟩ := List.getElem?_of_mem hy
      obtain ⟨-, -, -, t⟩ := hl.at _ _ j y hj
      rw [ih y.2 _ t, chd_len y hy]
    show mx2 (P.length + 1) (mxl ((((chd τ rs wy P).map (fun y => nds τ rs wy (m + 1) y.2)).flatten).map (fun y => y.2.length + 1))) = P.length + (mxl ((chd τ rs wy P).map (fun y => dpt τ rs wy (m + 1) y.2)) + 1)
    rw [List.map_flatten, List.map_map, mxl_flat]
    by_cases q : chd τ rs wy P = []
    · rw [q]
      show mx2 (P.length + 1) 0 = P.length + (0 + 1)
      rw [(mx2_0 _).1]
    · have := mxl_add (fun y : Br × Sp => mxl ((nds τ rs wy (m + 1) y.2).map (fun y => y.2.length + 1))) (fun y => dpt τ rs wy (m + 1) y.2) (P.length + 1) _ q key
      have e : (fun x => mxl (((fun l => List.map (fun (y : Nat × Sp) => y.2.length + 1) l) ∘ fun (y : Br × Sp) => nds τ rs wy (m + 1) y.2) x)) = fun y : Br × Sp => mxl ((nds τ rs wy (m + 1) y.2).map (fun y => y.2.length + 1)) := rfl
      rw [e, this]
      unfold mx2
      split <;> omega
end ZNds
