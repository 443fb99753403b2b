/-! the component's trees: what a place's branches come to -/
section ZCount
variable {p b e d f F M n : Nat} {wS w : CW} {τ : TW} {rs rows : List (Nat × Nat)} {ps : List Pa} {P : Sp} {O : List (Pa × Int)} {ro : Nat × Nat → Nat} {ru : Nat → Nat}
/-- an array of rows -/
def ARW (w : CW) (A : Nat) (l : List (Nat × Nat)) (ro : Nat × Nat → Nat) : Prop := tg w A = 116 ∧ l.length ≤ ln w A ∧ ∀ (i : Nat) x, l[i]? = some x → aR w A (i : Nat) = ro x
theorem ARW.fr {T : List Nat} {w' : CW} {A : Nat} (h : ARW w A rows ro) (W : WF p w) (fr : Fr T w w') (hT : ∀ r, r ∈ T → tg w r ≠ 116) : ARW w' A rows ro := by
  have o := fr.eob W (r := A) (by rw [h.1]; decide) (fun q => hT A q h.1)
  refine ⟨by rw [ob.etg o]; exact h.1, by rw [ob.eln o]; exact h.2.1, fun i x hi => by rw [ob.eaR o]; exact h.2.2 i x hi⟩
/-- the rows that a node is made of -/
def RWS (τ : TW) (rs rows : List (Nat × Nat)) (P : Sp) (O : List (Pa × Int)) : Prop := rows.length ≤ 40 ∧ ∀ x, x ∈ rows → x ∈ rs ∧ DEC τ P O x
theorem fil_snoc {α : Type} {c : α → Prop} {l : List α} {k : Nat} {x : α} (h : l[k]? = some x) : (c x → (fil c (l.take (k + 1))).length = (fil c (l.take k)).length + 1) ∧ (¬ c x → fil c (l.take (k + 1)) = fil c (l.take k)) := by
  refine ⟨fun z => ?_, fun z => ?_⟩
  · rw [fil_take h, fil_cons_1 z, fil_nil, List.length_append]; rfl
  · rw [fil_take h, fil_cons_0 z, fil_nil, List.append_nil]
theorem sC_wanted (hW : MW p wS w τ f F ps rs ro ru M) (hK : KN p w τ f F M ps P O) (hR : RWS τ rs rows P O) {A : Nat} (hA : ARW w A rows ro) {π : Pa} (hp : π ∈ ps) {Q : ZRes → CW → Prop} (hQ : Q (.inl (some (ai (wrt τ P rows π : Nat)))) w) : wpC p (d + 4) 136 [ar M, ar A, ai (rows.length : Nat), ar (plo w F ps π)] w Q := by
  have hS := hW.t
  have hM := hW.2.2.2.2.1
  obtain ⟨m0, mt, m91, -⟩ := id hM.1
  obtain ⟨c, hc⟩ : ∃ c : Nat × Nat → Prop, c = fun x => lfq τ P x π ≠ none := ⟨_, rfl⟩
  have hwr : wrt τ P rows π = (fil c rows).length := by rw [hc]; rfl
  rw [hwr] at hQ
  refine wC_X18_wanted (Nat.zero_le _) (bC_X18_wanted_0 (bC_X18_wanted_6 ?_))
  intro I hI
  have key : ∀ m k : Nat, m + k = rows.length → I ((fil c (rows.take k)).length : Nat) (k : Int) w := by
    intro m
    induction m with
    | zero =>
      intro k hk
      rw [List.take_of_length_le (by omega)]
      exact hI _ _ _ (br1 (by omega) (bC_X18_wanted_43 (call := wpC p (d + 3)) hQ))
    | succ m ih =>
      intro k hk
      have hkl : k < rows.length := by omega
      obtain ⟨x, hx⟩ : ∃ x, rows[k]? = some x := ⟨_, List.getElem?_eq_getElem hkl⟩
      obtain ⟨x1, x2⟩ := hR.2 x (List.mem_of_getElem? hx)
      have ax := hA.2.2 k x hx
      have hll : (fil c (rows.take k)).length ≤ 40 := Nat.le_trans (fil_len _) (by rw [List.length_take]; have := hR.1; omega)
      have hl := hR.1
      obtain ⟨g1, g0⟩ := fil_snoc (c := c) hx
      refine hI _ _ _ (br0 (by omega) ⟨by rw [hA.1]; exact ⟨⟨by decide, by decide⟩, by omega, by have := hA.2.1; omega⟩, by rw [mt]; decide, by rw [ax]; exact (hS.row x1).1, ?_⟩)
      rw [ax, m91]
      refine sC_left hS hM hK x1 x2 hp ⟨fun z => fa (fa (fa ?_)), fun q r z1 z2 z3 => fa (fa (fa ?_))⟩
      · rw [if_neg (by simp), w32_s (by omega) (by omega), w32_s (by omega) (by omega)]
        have := ih (k + 1) (by omega)
        rw [g0 (by rw [hc]; exact fun q => q z)] at this
        rw [show ((fil c (rows.take k)).length : Int) + 0 = ((fil c (rows.take k)).length : Nat) by omega]
        exact this
      · rw [if_pos (show ¬ r = 0 by have := z3.1; omega), w32_s (by omega) (by omega), w32_s (by omega) (by omega)]
        have := ih (k + 1) (by omega)
        rw [g1 (by rw [hc]; show lfq τ P x π ≠ none; rw [z1]; simp)] at this
        exact this
  exact key rows.length 0 (by omega)
/-- unsealed kinds under one, of the first k -/
noncomputable def lvK (τ : TW) (o : Int) (k : Nat) : List Nat := fil (fun k => slN τ k (nK τ) = 0 ∧ ofT τ k o) (List.range k)
theorem lvK_s (o : Int) (k : Nat) : ((slN τ (k : Nat) (nK τ) = 0 ∧ ofT τ (k : Nat) o) → lvK τ o (k + 1) = lvK τ o k ++ [k]) ∧ (¬ (slN τ (k : Nat) (nK τ) = 0 ∧ ofT τ (k : Nat) o) → lvK τ o (k + 1) = lvK τ o k) := by
  unfold lvK
  rw [List.range_succ, fil_append]
  exact ⟨fun z => by rw [fil_cons_1 (c := fun k => slN τ (k : Nat) (nK τ) = 0 ∧ ofT τ (k : Nat) o) z, fil_nil], fun z => by rw [fil_cons_0 (c := fun k => slN τ (k : Nat) (nK τ) = 0 ∧ ofT τ (k : Nat) o) z, fil_nil, List.append_nil]⟩
theorem lvK_len (o : Int) (k : Nat) : (lvK τ o k).length ≤ k := by
  unfold lvK
  have := fil_len (c := fun k => slN τ (k : Nat) (nK τ) = 0 ∧ ofT τ (k : Nat) o) (List.range k)
  rw [List.length_range] at this
  exact this
theorem sC_leafMany (hW : MW p wS w τ f F ps rs ro ru M) {o : Nat} (ho : o < nK τ) {Q : ZRes → CW → Prop} (hQ : Q (.inl (some (ai ((lvs τ (o : Nat)).length : Nat)))) w) : wpC p (d + 2) 138 [ar M, ai (3 + (o : Int))] w Q := by
  have hS := hW.t
  obtain ⟨⟨W, K, -⟩, -⟩ := id hS
  obtain ⟨m0, mt, -, -, -, -, m97⟩ := hW.2.2.2.2.1.1
  obtain ⟨⟨k1, k2, k3, k4⟩, k5, k6, k7, k8, -, k9, -⟩ := id K
  change tg w (fR w 0 p) = 112 at k1
  change ln w (fR w 0 p) = 24 at k2
  change fI w 1 p = tI τ 10 at k5
  have en : fI w 1 p = (nK τ : Nat) := by rw [k5]; unfold nK; change tI τ 10 = ((tI τ 10).toNat : Int); have : 0 ≤ tI τ 10 := k6; omega
  have n24 : nK τ ≤ 24 := by unfold nK; have : tI τ 10 ≤ 24 := k7; change (tI τ 10).toNat ≤ 24; omega
  have tp := W.2.1
  refine wC_X18_leafMany (Nat.zero_le _) (bC_X18_leafMany_0 (bC_X18_leafMany_4 ?_))
  intro I hI
  have key : ∀ m k : Nat, m + k = nK τ → I ((lvK τ o k).length : Nat) (k : Int) w := by
    intro m
    induction m with
    | zero =>
      intro k hk
      rw [show k = nK τ by omega]
      exact hI _ _ _ ⟨by rw [mt]; decide, by rw [m97, tp]; decide, br1 (by rw [m97, en]; omega) (bC_X18_leafMany_67 (call := wpC p (d + 1)) hQ)⟩
    | succ m ih =>
      intro k hk
      have hkl : k < nK τ := by omega
      obtain ⟨q1, q2, -⟩ := k8 k hkl
      have q9 := k9 k hkl
      change fI w 40 (kd w p k) = slN τ k (nK τ) at q9
      have kk : kd w p k = aR w (fR w 0 p) (k : Nat) := rfl
      have hll := lvK_len (τ := τ) (o : Nat) k
      obtain ⟨g1, g0⟩ := lvK_s (τ := τ) (o : Nat) k
      have no : ¬ (slN τ (k : Nat) (nK τ) = 0 ∧ ofT τ (k : Nat) (o : Nat)) → pC_X18_leafMany_58 p (wpC p (d + 1)) (fun v w => Q (.inl (some (ai v))) w) I M (3 + (o : Int)) (k : Int) ((lvK τ o k).length : Nat) w := fun z => by
        refine bC_X18_leafMany_58 (bC_X18_leafMany_59 (fa (fa ?_)))
        rw [w32_s (by omega) (by omega), w32_s (by omega) (by omega)]
        have := ih (k + 1) (by omega)
        rw [g0 z] at this
        rw [show ((lvK τ (o : Nat) k).length : Int) + 0 = ((lvK τ (o : Nat) k).length : Nat) by omega]
        exact this
      refine hI _ _ _ ⟨by rw [mt]; decide, by rw [m97, tp]; decide, br0 (by rw [m97, en]; omega) ⟨by rw [mt]; decide, by rw [m97, tp]; decide, by rw [m97, k1, k2]; exact ⟨⟨by decide, by decide⟩, by omega, by omega⟩, by rw [m97, ← kk, q1]; decide, ?_⟩⟩
      rw [m97, ← kk, q9]
      refine ⟨fun z => ⟨by rw [mt]; decide, by rw [tp]; decide, by rw [k1, k2]; exact ⟨⟨by decide, by decide⟩, by omega, by omega⟩, by rw [mt]; decide, tp, ?_⟩, fun z => no (fun q => z q.1)⟩
      refine sC_kindOf (d := d) K rfl ho ⟨q1, sC_is (d := d) K W hkl ho ?_⟩
      by_cases hs : ofT τ (k : Nat) (o : Nat)
      · rw [ofB_1 hs]
        refine br0 (by decide) (bC_X18_leafMany_59 (call := wpC p (d + 1)) (fa (fa ?_)))
        rw [w32_s (by omega) (by omega), w32_s (by omega) (by omega)]
        have := ih (k + 1) (by omega)
        rw [g1 ⟨z, hs⟩, List.length_append] at this
        exact this
      · rw [ofB_0 hs]
        exact br1 rfl (no (fun q => hs q.2))
  exact key (nK τ) 0 (by omega)
/-- texts of a place, kept in the maker's row -/
def TXR (w : CW) (M : Nat) (L : List Int) : Prop := ∀ (i : Nat) t, L[i]? = some t → aI w (M + 1) (i : Nat) = t
theorem sC_textMany (hW : MW p wS w τ f F ps rs ro ru M) (hK : KN p w τ f F M ps P O) (hR : RWS τ rs rows P O) {A : Nat} (hA : ARW w A rows ro) {π : Pa} (hp : π ∈ ps) (h2 : srP τ f π = 2) {Q : ZRes → CW → Prop} (hQ : ∀ w', MW p wS w' τ f F ps rs ro ru M → KN p w' τ f F M ps P O → ARW w' A rows ro → Fr [M + 1] w w' → zm w' = zm w → TXR w' M (txs τ P rows π) → (txs τ P rows π).length ≤ 40 → Q (.inl (some (ai ((txs τ P rows π).length : Nat)))) w') : wpC p (d + 4) 139 [ar M, ar A, ai (rows.length : Nat), ar (plo w F ps π)] w Q := by
  have hlr := hR.1
  rw [txs_eq] at hQ
  obtain ⟨g, hg⟩ : ∃ g : Nat → List Int, g = fun k => (rows.take k).foldl (lfS τ P π (stT τ)) [] := ⟨_, rfl⟩
  have gs : ∀ k x, rows[k]? = some x → g (k + 1) = lfS τ P π (stT τ) (g k) x := fun k x hx => by
    rw [hg]
    show (rows.take (k + 1)).foldl _ [] = _
    rw [List.take_succ, hx, List.foldl_append]
    rfl
  have g0 : g 0 = [] := by rw [hg]; rfl
  have gN : g rows.length = rows.foldl (lfS τ P π (stT τ)) [] := by
    rw [hg]
    show (rows.take rows.length).foldl _ [] = _
    rw [List.take_of_length_le (Nat.le_refl _)]
  have gl : ∀ k, k ≤ rows.length → (g k).length ≤ k := by
    intro k
    induction k with
    | zero => intro _; rw [g0]; exact Nat.le_refl 0
    | succ k ih =>
      intro hk
      have := ih (by omega)
      obtain ⟨x, hx⟩ : ∃ x, rows[k]? = some x := ⟨_, List.getElem?_eq_getElem (by omega : k < rows.length)⟩
      rw [gs k x hx]
      unfold lfS
      cases lfq τ P x π with
      | none => simp only; omega
      | some q =>
        show (stT τ (g k) q).length ≤ k + 1
        unfold stT adT
        split
        · omega
        · rw [List.length_append]; show (g k).length + 1 ≤ k + 1; omega
  rw [← gN] at hQ
  refine wC_X18_textMany (Nat.zero_le _) (bC_X18_textMany_0 (bC_X18_textMany_6 ?_))
  intro I hI
  have key : ∀ m k : Nat, m + k = rows.length → ∀ u, MW p wS u τ f F ps rs ro ru M → KN p u τ f F M ps P O → ARW u A rows ro → Fr [M + 1] w u → zm u = zm w → TXR u M (g k) → I ((g k).length : Nat) (k : Int) u := by
    intro m
    induction m with
    | zero =>
      intro k hk u hu ku au fu zu tu
      rw [show k = rows.length by omega] at tu ⊢
      exact hI _ _ _ (br1 (by omega) (bC_X18_textMany_113 (call := wpC p (d + 3)) (hQ u hu ku au fu zu tu (by have := gl rows.length (Nat.le_refl _); omega))))
    | succ m ih =>
      intro k hk u hu ku au fu zu tu
      have hkl : k < rows.length := by omega
      have hgl := gl k (by omega)
      obtain ⟨x, hx⟩ : ∃ x, rows[k]? = some x := ⟨_, List.getElem?_eq_getElem hkl⟩
      obtain ⟨x1, x2⟩ := hR.2 x (List.mem_of_getElem? hx)
      have ax := au.2.2 k x hx
      have hS := hu.t
      have hM := hu.2.2.2.2.1
      obtain ⟨m0, mt, m91, -, m95, -⟩ := id hM.1
      obtain ⟨mt1, ml1, -⟩ := id hM.2.1
      refine hI _ _ _ (br0 (by omega) ⟨by rw [au.1]; exact ⟨⟨by decide, by decide⟩, by omega, by have := au.2.1; omega⟩, by rw [mt]; decide, by rw [ax]; exact (hS.row x1).1, ?_⟩)
      rw [ax, m91, ((hW.pl hp).trans (hu.pl hp).symm)]
      refine sC_left hS hM ku x1 x2 hp ⟨fun z => br1 rfl (bC_X18_textMany_107 (call := wpC p (d + 3)) (fa ?_)), fun q r z1 z2 z3 => br0 (by have := z3.1; omega) ?_⟩
      · rw [w32_s (by omega) (by omega)]
        have e : g (k + 1) = g k := by rw [gs k x hx]; unfold lfS; rw [z]
        have := ih (k + 1) (by omega) u hu ku au fu zu (by rw [e]; exact tu)
        rw [e] at this
        exact this
      · have eg : g (k + 1) = adT (g k) (tA τ 21 q) := by rw [gs k x hx]; unfold lfS; rw [z1]; rfl
        obtain ⟨c1, c2, c3, c4, c5, c6, c7⟩ := hS.2.2.1.k x1 z2
        simp only at c1 c2 c3 c4 c5 c6 c7
        obtain ⟨t2, t3⟩ : tg u r = 10 ∧ fI u 74 r = tA τ 21 q := by
          rcases z3.2 with y | y | y | y | y
          · have := (c1 y.1).1; omega
          · have := (c2 y.1).1; omega
          · exact y.2
          · have := c4 y.1; omega
          · have := c5 y.1; omega
        refine ⟨Or.inr (by rw [t2]; rfl), by rw [t2]; decide, fa (bC_X18_textMany_47 ?_)⟩
        rw [t3]
        intro J hJ
        obtain ⟨t, ht⟩ : ∃ t, t = tA τ 21 q := ⟨_, rfl⟩
        rw [← ht] at hJ eg
        have inn : ∀ m j : Nat, m + j = (g k).length → ∀ x9 : Int, (x9 = 0 ∨ x9 = 1) → (x9 = 1 ↔ ∀ i, i < j → (g k)[i]? ≠ some t) → J x9 (j : Int) u := by
          intro m
          induction m with
          | zero =>
            intro j hj x9 h9 h
            refine hJ _ _ _ (br1 (by omega) (bC_X18_textMany_83 (call := wpC p (d + 3)) ⟨by rw [mt]; decide, by rw [m95, mt1, ml1]; exact ⟨rfl, by omega, by omega⟩, fa (fa (fa (bC_X18_textMany_107 (fa ?_))))⟩))
            rw [m95]
            obtain ⟨v, hv⟩ : ∃ v, v = qI u (M + 1) ((g k).length : Nat) t := ⟨_, rfl⟩
            rw [← hv, w32_s (a := (k : Int) + 1) (by omega) (by omega)]
            have fv : Fr [M + 1] u v := by rw [hv]; exact (Fr.refl _ _).sqI (Or.inl (by simp))
            have Wv : WF p v := by rw [hv]; exact hu.2.2.2.1.sqI _ _ _
            have mv : MW p wS v τ f F ps rs ro ru M := hu.sa fv Wv (fun r hr => by rw [List.mem_singleton.mp hr]; omega)
            have kv := ku.sa hu fv mv (fun r hr => by rw [List.mem_singleton.mp hr]; omega)
            have av := au.fr (p := p) hu.2.2.2.1 fv (fun r hr => by rw [List.mem_singleton.mp hr, mt1]; decide)
            have tv : ∀ i : Nat, i < (g k).length → aI v (M + 1) (i : Nat) = aI u (M + 1) (i : Nat) := fun i hi => by rw [hv, aI_qI, if_neg (by omega)]
            have tu' : TXR v M (g k) := fun i y hi => by
              rw [tv i (List.getElem?_eq_some_iff.mp hi).1]
              exact tu i y hi
            by_cases z : t ∈ g k
            · have n1 : ¬ x9 = 1 := fun y => by
                obtain ⟨i, hi⟩ := List.getElem?_of_mem z
                have := (List.getElem?_eq_some_iff.mp hi).1
                exact h.mp y i (by omega) hi
              have e : g (k + 1) = g k := by rw [eg]; unfold adT; rw [if_pos z]
              rw [if_neg (by omega), show w32 (((g k).length : Int) + 0) = ((g k).length : Nat) by rw [w32_s (by omega) (by omega)]; omega]
              have := ih (k + 1) (by omega) v mv kv av (fu.trans fv) (by rw [← zu, hv]; rfl) (by rw [e]; exact tu')
              rw [e] at this
              exact this
            · have n1 : x9 = 1 := h.mpr (fun i hi y => z (List.mem_of_getElem? y))
              have e : g (k + 1) = g k ++ [t] := by rw [eg]; unfold adT; rw [if_neg z]
              rw [if_pos (by omega), w32_s (by omega) (by omega)]
              have := ih (k + 1) (by omega) v mv kv av (fu.trans fv) (by rw [← zu, hv]; rfl) ?_
              · rw [e, List.length_append] at this
                exact this
              · rw [e]
                intro i y hi
                rcases get_app hi with ⟨i1, i2⟩ | ⟨i1, i2⟩
                · exact tu' i y i2
                · rw [hv, aI_qI, if_pos ⟨rfl, by omega⟩, i2]
          | succ m ih2 =>
            intro j hj x9 h9 h
            have hjl : j < (g k).length := by omega
            obtain ⟨y, hy⟩ : ∃ y, (g k)[j]? = some y := ⟨_, List.getElem?_eq_getElem hjl⟩
            refine hJ _ _ _ (br0 (by omega) ⟨by rw [mt]; decide, by rw [m95, mt1, ml1]; exact ⟨rfl, by omega, by omega⟩, fa (fa (fa ?_))⟩)
            rw [m95, show aW u (M + 1) (j : Int) = y from by unfold aW; rw [if_pos mt1]; exact tu j y hy, w32_s (by omega) (by omega)]
            have anv : ∀ v : Int, (v = 0 ∨ v = 1) → (i_and x9 v = 0 ∨ i_and x9 v = 1) ∧ (i_and x9 v = 1 ↔ x9 = 1 ∧ v = 1) := by
              intro v hv
              rcases h9 with q | q <;> rcases hv with u | u <;> rw [q, u, i_and_def] <;> decide
            obtain ⟨v, hv⟩ : ∃ v, v = (if ¬ y = t then (1 : Int) else 0) := ⟨_, rfl⟩
            rw [← hv]
            obtain ⟨a1, a2⟩ := anv v (by rw [hv]; split <;> simp)
            have := ih2 (j + 1) (by omega) (i_and x9 v) a1 ?_
            · exact this
            · rw [a2, h]
              have vi : v = 1 ↔ y ≠ t := by
                rw [hv]
                constructor
                · intro q
                  split at q
                  · assumption
                  · cases q
                · intro q
                  rw [if_pos q]
              rw [vi]
              constructor
              · rintro ⟨q1, q2⟩ i hi
                rcases (by omega : i < j ∨ i = j) with g | g
                · exact q1 i g
                · rw [g, hy]; exact fun q => q2 (Option.some.inj q)
              · intro q
                exact ⟨fun i hi => q i (by omega), fun z => q j (by omega) (by rw [hy, z])⟩
        exact inn (g k).length 0 (by omega) 1 (Or.inr rfl) ⟨fun _ i hi => by omega, fun _ => rfl⟩
  have := key rows.length 0 (by omega) w hW hK hA (Fr.refl _ _) rfl (fun i y hi => by rw [g0] at hi; simp at hi)
  rw [g0] at this
  exact this
end ZCount
