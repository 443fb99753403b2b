/-! a tree's depth, both; a node by its number: the component -/
section ZDep
variable {p b e d f F n lo wy base : Nat} {w wS : CW} {τ σ ρ : TW} {rs : List (Nat × Nat)} {ps : List Pa} {ro : Nat × Nat → Nat}
theorem nds_dl : ∀ (m : Nat) (P : Sp) (i : Nat) (y : Nat × Sp), (nds τ rs wy m P)[i]? = some y → y.2.length + y.1 = P.length + m := by
  intro m
  induction m with
  | zero => intro P i y h; simp [nds] at h
  | succ m ih =>
    intro P i y hy
    cases i with
    | zero =>
      have : (m + 1, P) = y := by simpa [nds] using hy
      subst this
      rfl
    | succ i =>
      have hy' : (((chd τ rs wy P).map (fun y => nds τ rs wy m y.2)).flatten)[i]? = some y := by simpa [nds] using hy
      obtain ⟨j, x, i', h1, h2, h3⟩ := flat_idx (fun y : Br × Sp => nds τ rs wy m y.2) _ _ _ hy'
      have := ih x.2 i' y h3
      have := chd_len x (List.mem_of_getElem? h1)
      omega
theorem mxl_le {l : List Nat} {a : Nat} (h : ∀ x, x ∈ l → x ≤ a) : mxl l ≤ a := by
  induction l with
  | nil => exact Nat.zero_le _
  | cons x l ih =>
    show mx2 x (mxl l) ≤ a
    have h1 := h x (List.mem_cons_self ..)
    have h2 := ih (fun y hy => h y (List.mem_cons_of_mem _ hy))
    unfold mx2
    split <;> omega
theorem dpt_le : ∀ (m : Nat) (P : Sp), dpt τ rs wy m P ≤ m := by
  intro m
  induction m with
  | zero => intro P; exact Nat.le_refl _
  | succ m ih =>
    intro P
    show mxl ((chd τ rs wy P).map (fun y => dpt τ rs wy m y.2)) + 1 ≤ m + 1
    have := mxl_le (l := (chd τ rs wy P).map (fun y => dpt τ rs wy m y.2)) (a := m) (fun x hx => by
      obtain ⟨y, _, rfl⟩ := List.mem_map.mp hx
      exact ih y.2)
    omega
theorem ite_mx2 (a b : Nat) : (if (a : Int) < (b : Int) then (b : Int) else (a : Int)) = ((mx2 a b : Nat) : Int) := by
  unfold mx2
  by_cases h : a ≤ b
  · rw [if_pos h]
    by_cases k : a = b
    · rw [if_neg (by omega), k]
    · rw [if_pos (by omega)]
  · rw [if_neg h, if_neg (by omega)]
theorem ite_mx2' (a b : Nat) : (if ¬ ((b : Int) ≤ (a : Int)) then (b : Int) else (a : Int)) = ((mx2 a b : Nat) : Int) := by
  rw [← ite_mx2]
  by_cases h : (a : Int) < b
  · rw [if_pos h, if_pos (by omega)]
  · rw [if_neg h, if_neg (by omega)]
/-- the reference's depth -/
theorem sT_depth {nr : Nat} (h : TRT τ σ f nr wy) (hf : f < 12) {Q : ZRes → TW → Prop} (hQ : Q (.inl (some (ai (dpt τ (rowsK τ f 0 nr) wy 121 [] : Nat)))) σ) : wpT (d + 1) 73 [ai (f : Nat)] σ Q := by
  obtain ⟨⟨a1, a2, a3⟩, a4, ⟨a5, a6⟩, a7⟩ := h
  obtain ⟨L, hL⟩ : ∃ L, L = (nds τ (rowsK τ f 0 nr) wy 121 []).map (fun y => y.2.length + 1) := ⟨_, rfl⟩
  have lenL : L.length = tsz τ (rowsK τ f 0 nr) wy 121 [] := by rw [hL, List.length_map]; exact nds_len _ _
  have deep : mxl L = dpt τ (rowsK τ f 0 nr) wy 121 [] := by
    rw [hL]
    have := TT.deep 120 [] 0 a4
    rw [this]
    exact Nat.zero_add _
  have hpc : ∀ i c : Nat, L[i]? = some c → PCh σ c (300 * f + i) ∧ 1 ≤ c ∧ c ≤ 200 := fun i c hi => by
    rw [hL, List.getElem?_map] at hi
    cases hy : (nds τ (rowsK τ f 0 nr) wy 121 [])[i]? with
    | none => rw [hy] at hi; cases hi
    | some y =>
      rw [hy] at hi
      have hc : y.2.length + 1 = c := by simpa using hi
      have q := (TT.pch 121 [] 0 0 a4 (by show PCh σ 1 (300 * f + 0); exact a5) (by omega) i y hy).2
      have q2 := nds_dl 121 [] i y hy
      have e1 : y.2.length - ([] : Sp).length + 0 + 1 = c := by show y.2.length - 0 + 0 + 1 = c; omega
      rw [e1, Nat.zero_add] at q
      have : ([] : Sp).length = 0 := rfl
      exact ⟨q, by omega, by omega⟩
  refine wT_depth (Nat.zero_le _) (bT_depth_0 (bT_depth_4 (fun I hI => ?_)))
  have inner : ∀ (K : Nat) (x c : Nat) (I26 : Int → Int → TW → Prop) (x2 x3 : Int), (∀ (x4 x5 : Int) (w : TW), ((x5 = (-4) → pT_depth_48 (wpT d) (fun v w => Q (.inl (some (ai v))) w) I f x2 x3 x4 w) ∧ (¬ (x5 = (-4)) → ∀ x4_9 : Int, x4_9 = w32 (x4 + 1) → (0 ≤ x5 ∧ x5 < 3900) ∧ ∀ x5_11 : Int, x5_11 = tA w 85 x5 → I26 x4_9 x5_11 w)) → I26 x4 x5 w) → PCh σ (K + 1) x → x < 3900 → c + K ≤ 1000 → pT_depth_48 (wpT d) (fun v w => Q (.inl (some (ai v))) w) I f x2 x3 ((c + K + 1 : Nat) : Int) σ → I26 (c : Int) (x : Int) σ := by
    intro K
    induction K with
    | zero =>
      intro x c I26 x2 x3 hI26 hp hx hc h48
      refine hI26 _ _ _ ⟨fun y => by omega, fun _ => fa ⟨by omega, fa ?_⟩⟩
      have hp : tA σ 85 x = -4 := hp
      rw [w32_k (by omega), hp]
      exact hI26 _ _ _ ⟨fun _ => h48, fun y => absurd rfl y⟩
    | succ K ih =>
      intro x c I26 x2 x3 hI26 hp hx hc h48
      obtain ⟨u, u1, u2, u3⟩ := hp
      refine hI26 _ _ _ ⟨fun y => by omega, fun _ => fa ⟨by omega, fa ?_⟩⟩
      rw [w32_k (by omega), u1]
      exact ih u (c + 1) I26 x2 x3 hI26 u3 u2 (by omega) (by rw [show c + 1 + K + 1 = c + (K + 1) + 1 by omega]; exact h48)
  have key : ∀ g j : Nat, L.length - j ≤ g → j ≤ L.length → I ((mxl (L.take j) : Nat) : Int) (j : Int) σ := by
    intro g
    induction g with
    | zero =>
      intro j hg hj
      have ej : j = L.length := by omega
      refine hI _ _ _ ⟨by omega, fun _ => bT_depth_67 ?_, fun y => absurd ?_ y⟩
      · rw [ej, List.take_length, deep]; exact hQ
      · rw [a1, ← lenL, ej]; exact Int.le_refl _
    | succ g ih =>
      intro j hg hj
      by_cases ej : j = L.length
      · refine hI _ _ _ ⟨by omega, fun _ => bT_depth_67 ?_, fun y => absurd ?_ y⟩
        · rw [ej, List.take_length, deep]; exact hQ
        · rw [a1, ← lenL, ej]; exact Int.le_refl _
      · have hjl : j < L.length := by omega
        obtain ⟨c, hc⟩ : ∃ c, L[j]? = some c := ⟨_, List.getElem?_eq_getElem hjl⟩
        obtain ⟨q1, q2, q3⟩ := hpc j c hc
        refine hI _ _ _ ⟨by omega, fun y => absurd y (by rw [a1, ← lenL]; omega), fun _ => fa ?_⟩
        rw [show w32 ((w32 (300 * (f : Int))) + (j : Int)) = ((300 * f + j : Nat) : Int) by rw [w32_s (a := 300 * (f : Int)) (by omega) (by omega), w32_s (by omega) (by omega)]; omega]
        refine bT_depth_26 (fun I26 hI26 => ?_)
        refine inner (c - 1) (300 * f + j) 0 I26 _ _ hI26 (by rw [show c - 1 + 1 = c by omega]; exact q1) (by omega) (by omega) (bT_depth_48 (fa (fa ?_)))
        rw [show 0 + (c - 1) + 1 = c by omega, ite_mx2', ← mxl_take hc, w32_k (by omega)]
        exact ih (j + 1) (by omega) (by omega)
  exact key _ 0 (Nat.le_refl _) (Nat.zero_le _)
/-- the component's depth -/
theorem sC_depth : ∀ (m : Nat) (P : Sp) (n r : Nat), CTn p wS w τ f F ps rs ro wy lo m P n r → 1 ≤ m → m ≤ 1000 → tsz τ rs wy m P ≤ 1000 → ∀ Q : ZRes → CW → Prop, Q (.inl (some (ai (dpt τ rs wy m P : Nat)))) w → wpC p (d + m) 154 [ar r] w Q := by
  intro m
  induction m with
  | zero => intro P n r _ h; omega
  | succ m ih =>
    intro P n r h _ hm1 hz Q hQ
    have hkid := fun i y => h.kid (i := i) (y := y)
    obtain ⟨⟨h1, h2, h2'⟩, ⟨k1, k2, k3⟩, h3, h4, h5⟩ := id h
    have es : tsz τ rs wy (m + 1) P = 1 + ((chd τ rs wy P).map (fun x => tsz τ rs wy m x.2)).sum := rfl
    have ed : dpt τ rs wy (m + 1) P = mxl ((chd τ rs wy P).map (fun y => dpt τ rs wy m y.2)) + 1 := rfl
    obtain ⟨D, hD⟩ : ∃ D, D = (chd τ rs wy P).map (fun y => dpt τ rs wy m y.2) := ⟨_, rfl⟩
    rw [← hD] at ed
    have lD : D.length = (chd τ rs wy P).length := by rw [hD, List.length_map]
    have dle := dpt_le (τ := τ) (rs := rs) (wy := wy) (m + 1) P
    refine wC_X21_depth (Nat.zero_le _) (bC_X21_depth_0 ⟨nd_hF h2 (Or.inr rfl), fa ⟨by rw [k1]; decide, fa (bC_X21_depth_13 (fun I hI => ?_))⟩⟩)
    have fin : ∀ j : Nat, j = (chd τ rs wy P).length → I ((mxl (D.take j) : Nat) : Int) (j : Int) w := fun j ej => by
      refine hI _ _ _ ⟨fun _ => bC_X21_depth_41 ?_, fun y => absurd (by rw [k2, ej]; exact Int.le_refl _) y⟩
      rw [ej, ← lD, List.take_length, w32_k (by omega), ← ed]
      exact hQ
    have key : ∀ g j : Nat, (chd τ rs wy P).length - j ≤ g → j ≤ (chd τ rs wy P).length → I ((mxl (D.take j) : Nat) : Int) (j : Int) w := by
      intro g
      induction g with
      | zero => intro j hg hj; exact fin j (by omega)
      | succ g ihg =>
        intro j hg hj
        by_cases ej : j = (chd τ rs wy P).length
        · exact fin j ej
        · have hjl : j < (chd τ rs wy P).length := by omega
          obtain ⟨y, hy⟩ : ∃ y, (chd τ rs wy P)[j]? = some y := ⟨_, List.getElem?_eq_getElem hjl⟩
          obtain ⟨m', em, c, ct⟩ := hkid j y hy
          have ep := prs_s (τ := τ) (rs := rs) (wy := wy) (m := m) hy
          have pl := prs_le (τ := τ) (rs := rs) (wy := wy) (m := m) (cs := chd τ rs wy P) (j + 1)
          have ll : (chd τ rs wy P).length ≤ ((chd τ rs wy P).map (fun x => tsz τ rs wy m x.2)).sum := len_sum _ (fun y _ => by rw [em]; exact tsz_pos)
          have hDj : D[j]? = some (dpt τ rs wy m y.2) := by rw [hD, List.getElem?_map, hy]; rfl
          refine hI _ _ _ ⟨fun y => absurd y (by rw [k2]; omega), fun _ => ⟨⟨by rw [k1]; decide, by omega, by rw [k2]; omega⟩, fa ⟨nd_tag ct, ?_⟩⟩⟩
          refine ih y.2 _ _ (by rw [em] at c ⊢; exact c) (by omega) (by omega) (by omega) _ (fa (fa ?_))
          rw [w32_k (by omega), ite_mx2, ← mxl_take hDj]
          exact ihg (j + 1) (by omega) (by omega)
    exact key _ 0 (Nat.le_refl _) (Nat.zero_le _)
theorem prs_mn {m : Nat} {cs : List (Br × Sp)} {a : Nat} : ∀ b, a ≤ b → prs τ rs wy m cs a ≤ prs τ rs wy m cs b := by
  intro b
  induction b with
  | zero => intro h; rw [show a = 0 by omega]; exact Nat.le_refl _
  | succ b ih =>
    intro h
    by_cases q : a = b + 1
    · rw [q]; exact Nat.le_refl _
    · refine Nat.le_trans (ih (by omega)) ?_
      unfold prs
      rw [List.take_succ, List.map_append, List.sum_append]
      omega
/-- the component finds a node by its number -/
theorem sC_find {Q : Nat → CW → Prop} {k : Nat} : ∀ (m : Nat) (P : Sp) (n r : Nat), CTn p wS w τ f F ps rs ro wy lo m P n r → n + tsz τ rs wy m P ≤ 1000 → ∀ (i : Nat) (y : Nat × Sp), (nds τ rs wy m P)[i]? = some y → k = n + i → (∀ r', CTn p wS w τ f F ps rs ro wy lo y.1 y.2 k r' → Q r' w) → ∀ I2 : Nat → CW → Prop, (∀ (x2 : Nat) (w : CW), ((hF 106 (tg w x2) = true) ∧ ((fI w 106 x2) = (k : Int) → pC_X21_find_54 p (wpC p d) Q x2 w) ∧ (¬ ((fI w 106 x2) = (k : Int)) → pC_X21_find_12 p (wpC p d) Q I2 k x2 0 w)) → I2 x2 w) → I2 r w := by
  intro m
  induction m with
  | zero => intro P n r _ _ i y h; simp [nds] at h
  | succ m ih =>
    intro P n r h hz i y hy hk hQ I2 hI
    have hkid := fun i y => h.kid (i := i) (y := y)
    obtain ⟨⟨h1, h2, h2'⟩, ⟨k1, k2, k3⟩, h3, h4, h5⟩ := id h
    have es : tsz τ rs wy (m + 1) P = 1 + ((chd τ rs wy P).map (fun x => tsz τ rs wy m x.2)).sum := rfl
    refine hI _ _ ⟨nd_hF h2 (Or.inl rfl), fun q => bC_X21_find_54 ?_, fun q => ?_⟩
    · have i0 : i = 0 := by omega
      subst i0
      have : (m + 1, P) = y := by simpa [nds] using hy
      subst this
      exact hQ r (by rw [hk]; exact h)
    · cases i with
      | zero => exfalso; apply q; rw [h2', hk]; rfl
      | succ i =>
        have hy' : (((chd τ rs wy P).map (fun y => nds τ rs wy m y.2)).flatten)[i]? = some y := by simpa [nds] using hy
        obtain ⟨j, x, i', g1, g2, g3⟩ := flat_idx (fun y : Br × Sp => nds τ rs wy m y.2) _ _ _ hy'
        have e : ((chd τ rs wy P).take j).map (fun x => (nds τ rs wy m x.2).length) = ((chd τ rs wy P).take j).map (fun y => tsz τ rs wy m y.2) := List.map_congr_left (fun x _ => nds_len m x.2)
        rw [e] at g2
        have g2 : i = prs τ rs wy m (chd τ rs wy P) j + i' := g2
        have hi' : i' < tsz τ rs wy m x.2 := by rw [← nds_len (τ := τ) (rs := rs) (wy := wy) m x.2]; exact (List.getElem?_eq_some_iff.mp g3).1
        have ep := prs_s (τ := τ) (rs := rs) (wy := wy) (m := m) g1
        have pl := prs_le (τ := τ) (rs := rs) (wy := wy) (m := m) (cs := chd τ rs wy P) (j + 1)
        have jl : j < (chd τ rs wy P).length := (List.getElem?_eq_some_iff.mp g1).1
        obtain ⟨m', em, cx, tx⟩ := hkid j x g1
        have ll : (chd τ rs wy P).length ≤ ((chd τ rs wy P).map (fun x => tsz τ rs wy m x.2)).sum := len_sum _ (fun y _ => by rw [em]; exact tsz_pos)
        refine bC_X21_find_12 (fun I12 hI12 => ?_)
        have arr : 101 ≤ tg w (fR w 107 r) ∧ tg w (fR w 107 r) ≤ 119 ∧ (tg w (fR w 107 r) < 107 ∨ 111 ≤ tg w (fR w 107 r)) := by rw [k1]; decide
        have key : ∀ g a : Nat, j - a ≤ g → a ≤ j → I12 (a : Int) w := by
          intro g
          induction g with
          | zero =>
            intro a hg ha
            have ea : a = j := by omega
            subst ea
            have ew : w32 ((a : Int) + 1) = ((a + 1 : Nat) : Int) := w32_k (by omega)
            refine hI12 _ _ ⟨nd_hF h2 (Or.inr rfl), arr, fun nle => ?_, fun y => ?_, fun _ => bC_X21_find_44 ⟨nd_hF h2 (Or.inr rfl), ⟨by rw [k1]; decide, by omega, by rw [k2]; omega⟩, fa ?_⟩⟩
            · rw [ew, k2] at nle
              obtain ⟨z, hz'⟩ : ∃ z, (chd τ rs wy P)[a + 1]? = some z := ⟨_, List.getElem?_eq_getElem (by omega)⟩
              obtain ⟨_, _, _, tz⟩ := hkid (a + 1) z hz'
              rw [ew]
              exact ⟨nd_hF h2 (Or.inr rfl), ⟨by rw [k1]; decide, by omega, by rw [k2]; omega⟩, nd_hF tz (Or.inl rfl)⟩
            · exfalso
              rw [ew, k2] at y
              obtain ⟨z, hz'⟩ : ∃ z, (chd τ rs wy P)[a + 1]? = some z := ⟨_, List.getElem?_eq_getElem (by omega)⟩
              obtain ⟨_, _, cz', tz⟩ := hkid (a + 1) z hz'
              have : fI w 106 (aR w (fR w 107 r) ((a + 1 : Nat) : Int)) = ((n + 1 + prs τ rs wy m (chd τ rs wy P) (a + 1) : Nat) : Int) := cz'.1.2.2
              have y2 := y.2
              rw [this] at y2
              omega
            · refine ih x.2 (n + 1 + prs τ rs wy m (chd τ rs wy P) a) (aR w (fR w 107 r) (a : Nat)) (by rw [em] at cx ⊢; exact cx) (by omega) i' y g3 (by omega) hQ I2 hI
          | succ g ihg =>
            intro a hg ha
            by_cases ea : a = j
            · exact ihg a (by omega) ha
            · have ew : w32 ((a : Int) + 1) = ((a + 1 : Nat) : Int) := w32_k (by omega)
              obtain ⟨z, hz'⟩ : ∃ z, (chd τ rs wy P)[a + 1]? = some z := ⟨_, List.getElem?_eq_getElem (by omega)⟩
              obtain ⟨_, _, cz', tz⟩ := hkid (a + 1) z hz'
              have e106 : fI w 106 (aR w (fR w 107 r) ((a + 1 : Nat) : Int)) = ((n + 1 + prs τ rs wy m (chd τ rs wy P) (a + 1) : Nat) : Int) := cz'.1.2.2
              have mn := prs_mn (τ := τ) (rs := rs) (wy := wy) (m := m) (cs := chd τ rs wy P) (a := a + 1) j (by omega)
              have cond : ¬ (((ln w (fR w 107 r) : Nat) : Int) ≤ w32 ((a : Int) + 1)) ∧ ¬ ((k : Int) < fI w 106 (aR w (fR w 107 r) (w32 ((a : Int) + 1)))) := by
                rw [ew, k2, e106]
                exact ⟨by omega, by omega⟩
              refine hI12 _ _ ⟨nd_hF h2 (Or.inr rfl), arr, fun _ => ?_, fun _ => fa ?_, fun y => absurd cond y⟩
              · rw [ew]
                exact ⟨nd_hF h2 (Or.inr rfl), ⟨by rw [k1]; decide, by omega, by rw [k2]; omega⟩, nd_hF tz (Or.inl rfl)⟩
              · rw [ew]
                exact ihg (a + 1) (by omega) (by omega)
        exact key j 0 (by omega) (Nat.zero_le _)
end ZDep
