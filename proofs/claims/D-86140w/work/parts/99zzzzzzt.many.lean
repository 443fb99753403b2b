/-! how many nodes a tree has: the component -/
section ZMany
variable {p b e d f F n lo wy : Nat} {w wS : CW} {τ σ ρ : TW} {rs : List (Nat × Nat)} {ps : List Pa} {ro : Nat × Nat → Nat}
theorem len_sum {α : Type} {z : α → Nat} : ∀ cs : List α, (∀ y, y ∈ cs → 1 ≤ z y) → cs.length ≤ (cs.map z).sum := by
  intro cs
  induction cs with
  | nil => intro _; exact Nat.le_refl _
  | cons y cs ih =>
    intro h
    have := ih (fun x hx => h x (List.mem_cons_of_mem _ hx))
    have := h y (List.mem_cons_self ..)
    simp only [List.length_cons, List.map_cons, List.sum_cons]
    omega
theorem nd_tag {r : Nat} (h : 19 ≤ tg w r ∧ tg w r ≤ 25) : tg w r = 19 ∨ tg w r = 20 ∨ tg w r = 21 ∨ tg w r = 22 ∨ tg w r = 23 ∨ tg w r = 24 ∨ tg w r = 25 := by omega
theorem nd_hF {r g : Nat} (h : 19 ≤ tg w r ∧ tg w r ≤ 25) (hg : g = 106 ∨ g = 107) : hF g (tg w r) = true := by
  rcases nd_tag h with q | q | q | q | q | q | q <;> rw [q] <;> rcases hg with z | z <;> rw [z] <;> decide
/-- a child of a node is a node -/
theorem CTn.kid {m n r i : Nat} {P : Sp} {y : Br × Sp} (h : CTn p wS w τ f F ps rs ro wy lo (m + 1) P n r) (hy : (chd τ rs wy P)[i]? = some y) : ∃ m', m = m' + 1 ∧ CTn p wS w τ f F ps rs ro wy lo (m' + 1) y.2 (n + 1 + prs τ rs wy m (chd τ rs wy P) i) (aR w (fR w 107 r) (i : Nat)) ∧ 19 ≤ tg w (aR w (fR w 107 r) (i : Nat)) ∧ tg w (aR w (fR w 107 r) (i : Nat)) ≤ 25 := by
  obtain ⟨-, -, h3, -, h5⟩ := h
  have c := h5 i y hy
  cases m with
  | zero => rw [h3 rfl] at hy; cases hy
  | succ m => exact ⟨m, rfl, c, c.1.2.1⟩
theorem sC_many : ∀ (m : Nat) (P : Sp) (n r : Nat), CTn p wS w τ f F ps rs ro wy lo m P n r → 1 ≤ m → tsz τ rs wy m P ≤ 1000 → ∀ Q : ZRes → CW → Prop, Q (.inl (some (ai (tsz τ rs wy m P : Nat)))) w → wpC p (d + m) 153 [ar r] w Q := by
  intro m
  induction m with
  | zero => intro P n r _ h; omega
  | succ m ih =>
    intro P n r h _ hz Q hQ
    have hkid := fun i y => h.kid (i := i) (y := y)
    obtain ⟨⟨h1, h2, h2'⟩, ⟨k1, k2, k3⟩, h3, h4, h5⟩ := id h
    have es : tsz τ rs wy (m + 1) P = 1 + ((chd τ rs wy P).map (fun x => tsz τ rs wy m x.2)).sum := rfl
    refine wC_X21_many (Nat.zero_le _) (bC_X21_many_0 ⟨nd_hF h2 (Or.inr rfl), fa ⟨by rw [k1]; decide, fa (bC_X21_many_13 (fun I hI => ?_))⟩⟩)
    have key : ∀ g j : Nat, (chd τ rs wy P).length - j ≤ g → j ≤ (chd τ rs wy P).length → I ((1 + prs τ rs wy m (chd τ rs wy P) j : Nat) : Int) (j : Int) w := by
      intro g
      induction g with
      | zero =>
        intro j hg hj
        have ej : j = (chd τ rs wy P).length := by omega
        refine hI _ _ _ ⟨fun _ => bC_X21_many_39 ?_, fun y => absurd (by rw [k2, ej]; exact Int.le_refl _) y⟩
        rw [ej, prs_all, ← es]
        exact hQ
      | succ g ihg =>
        intro j hg hj
        by_cases ej : j = (chd τ rs wy P).length
        · refine hI _ _ _ ⟨fun _ => bC_X21_many_39 ?_, fun y => absurd (by rw [k2, ej]; exact Int.le_refl _) y⟩
          rw [ej, prs_all, ← es]
          exact hQ
        · have hjl : j < (chd τ rs wy P).length := by omega
          obtain ⟨y, hy⟩ : ∃ y, (chd τ rs wy P)[j]? = some y := ⟨_, List.getElem?_eq_getElem hjl⟩
          obtain ⟨m', em, c, ct⟩ := hkid j y hy
          have ep := prs_s (τ := τ) (rs := rs) (wy := wy) (m := m) hy
          have pl := prs_le (τ := τ) (rs := rs) (wy := wy) (m := m) (cs := chd τ rs wy P) (j + 1)
          have ll : (chd τ rs wy P).length ≤ ((chd τ rs wy P).map (fun x => tsz τ rs wy m x.2)).sum := len_sum _ (fun y _ => by rw [em]; exact tsz_pos)
          refine hI _ _ _ ⟨fun y => absurd y (by rw [k2]; omega), fun _ => ⟨⟨by rw [k1]; decide, by omega, by rw [k2]; omega⟩, fa ⟨nd_tag ct, ?_⟩⟩⟩
          refine ih y.2 _ _ (by rw [em] at c ⊢; exact c) (by omega) (by omega) _ (fa (fa ?_))
          rw [w32_k (by omega), show w32 (((1 + prs τ rs wy m (chd τ rs wy P) j : Nat) : Int) + (tsz τ rs wy m y.2 : Nat)) = ((1 + prs τ rs wy m (chd τ rs wy P) (j + 1) : Nat) : Int) by rw [w32_s (by omega) (by omega)]; omega]
          exact ihg (j + 1) (by omega) (by omega)
    have := key _ 0 (Nat.le_refl _) (Nat.zero_le _)
    rw [prs_0] at this
    exact this
/-- nodes are told apart from others by their last field: 0 or 1 -/
theorem chd_o {P : Sp} : ∀ y, y ∈ chd τ rs wy P → y.1.2.2.2 = 0 ∨ y.1.2.2.2 = 1 := by
  intro y hy
  unfold chd at hy
  cases hn : ndE τ rs P with
  | none => rw [hn] at hy; cases hy
  | some r =>
    rw [hn] at hy
    simp only at hy
    cases hc : chs τ wy P (rws τ rs P) (ask τ P r) with
    | none =>
      rw [hc] at hy
      simp only at hy
      by_cases g0 : tA τ 53 (r.1 : Nat) = 0
      · rw [if_pos g0] at hy; cases hy
      · rw [if_neg g0] at hy
        rw [List.mem_singleton.mp hy]
        exact Or.inl rfl
    | some e =>
      rw [hc] at hy
      simp only at hy
      obtain ⟨b, hb, rfl⟩ := List.mem_map.mp hy
      exact brs_o b hb
/-- rows of nodes, moved -/
def MVD (σ ρ : TW) (b b' N : Nat) : Prop := ∀ i : Nat, i < N → (∀ g, (80 ≤ g ∧ g ≤ 84) ∨ (89 ≤ g ∧ g ≤ 91) → tA ρ g (b' + i : Nat) = tA σ g (b + i : Nat)) ∧ tA ρ 92 (b' + i : Nat) = zb (tA σ 92 (b + i : Nat)) ∧ ∀ g, g = 85 ∨ g = 86 ∨ g = 88 → tA ρ g (b' + i : Nat) = if tA σ g (b + i : Nat) = -4 then -4 else w32 (tA σ g (b + i : Nat) + ((b' : Int) - b))
theorem NDR.mv {P : Sp} {x x' : Nat} (h : NDR τ σ rs wy P x) (F : ∀ g, 80 ≤ g → g ≤ 84 → tA ρ g x' = tA σ g x) : NDR τ ρ rs wy P x' := by
  unfold NDR at h ⊢
  rw [F 80 (by decide) (by decide), F 81 (by decide) (by decide), F 82 (by decide) (by decide), F 83 (by decide) (by decide), F 84 (by decide) (by decide)]
  exact h
theorem TTl.mv {T T' : Sp → Nat → Prop} {z : Sp → Nat} {b b' u N : Nat} (hM : MVD σ ρ b b' N) (hb : b + N ≤ 3900 ∧ b' + N ≤ 3900) (hu : u ≤ N) : ∀ (cs : List (Br × Sp)) (c : Nat), (∀ y, y ∈ cs → ∀ c', c' + z y.2 ≤ N → T y.2 c' → T' y.2 c') → (∀ y, y ∈ cs → 1 ≤ z y.2) → (∀ y, y ∈ cs → y.1.2.2.2 = 0 ∨ y.1.2.2.2 = 1) → c + (cs.map (fun y => z y.2)).sum ≤ N → TTl T z σ b (b + u) cs c → TTl T' z ρ b' (b' + u) cs c := by
  intro cs
  induction cs with
  | nil => intro c _ _ _ _ _; trivial
  | cons y cs ih =>
    intro c hT h1 ho hN h
    have hz := h1 y (List.mem_cons_self ..)
    have es : ((y :: cs).map (fun y => z y.2)).sum = z y.2 + (cs.map (fun y => z y.2)).sum := rfl
    rw [es] at hN
    obtain ⟨a1, ⟨a2, a3, a4, a5⟩, a6, a7, a8⟩ := h
    obtain ⟨m1, m2, m3⟩ := hM c (by omega)
    refine ⟨?_, ⟨by rw [m1 89 (by omega)]; exact a2, by rw [m1 90 (by omega)]; exact a3, by rw [m1 91 (by omega)]; exact a4, ?_⟩, ?_, hT y (List.mem_cons_self ..) c (by omega) a7, ih (c + z y.2) (fun y' hy' => hT y' (List.mem_cons_of_mem _ hy')) (fun y' hy' => h1 y' (List.mem_cons_of_mem _ hy')) (fun y' hy' => ho y' (List.mem_cons_of_mem _ hy')) (by omega) a8⟩
    · rw [m3 85 (by omega), a1, if_neg (by omega), w32_s (by omega) (by omega)]; omega
    · rw [m2, a5]
      rcases ho y (List.mem_cons_self ..) with q | q <;> rw [q] <;> decide
    · rw [m3 88 (by omega), a6]
      have hN' := hN
      by_cases q : cs = []
      · rw [if_pos q, if_pos q, if_pos rfl]
      · rw [if_neg q, if_neg q, if_neg (by omega), w32_s (by omega) (by omega)]; omega
theorem TT.mv {b b' N : Nat} (hM : MVD σ ρ b b' N) (hb : b + N ≤ 3900 ∧ b' + N ≤ 3900) : ∀ (m : Nat) (P : Sp) (n : Nat), n + tsz τ rs wy m P ≤ N → TT τ σ rs wy b m P n → TT τ ρ rs wy b' m P n := by
  intro m
  induction m with
  | zero => intro P n _ _; trivial
  | succ m ih =>
    intro P n hN h
    obtain ⟨h0, h1, h2, h3⟩ := h
    have es : tsz τ rs wy (m + 1) P = 1 + ((chd τ rs wy P).map (fun x => tsz τ rs wy m x.2)).sum := rfl
    rw [es] at hN
    obtain ⟨m1, m2, m3⟩ := hM n (by omega)
    refine ⟨h0, h1.mv (fun g x1 x2 => m1 g (by omega)), ?_, ?_⟩
    · rw [m3 86 (by omega), h2]
      by_cases q : chd τ rs wy P = []
      · rw [if_pos q, if_pos q, if_pos rfl]
      · rw [if_neg q, if_neg q, if_neg (by omega), w32_s (by omega) (by omega)]; omega
    · cases m with
      | zero => rw [h0 rfl]; trivial
      | succ m => exact TTl.mv hM hb (by omega) _ _ (fun y hy c' l => ih y.2 c' l) (fun y hy => tsz_pos) chd_o (by omega) h3
end ZMany
