/-! alternatives, both: the loops over names -/
section ZEith1
variable {p b e d : Nat} {w : CW} {τ : TW}
theorem aN102 {r : Nat} {i : Int} (h : tg w r = 102) : aN w r i = aI w r i := by
  unfold aN
  rw [if_neg (by rw [h]; decide)]
theorem and01' {x : Int} {P : Prop} [Decidable P] (hx : x = 0 ∨ x = 1) : (i_and x (if P then 1 else 0) = 0 ∨ i_and x (if P then 1 else 0) = 1) ∧ (i_and x (if P then 1 else 0) = 1 ↔ x = 1 ∧ P) := by
  by_cases h : P
  · rw [if_pos h, and01 hx (Or.inr rfl)]
    rcases hx with y | y
    · rw [if_neg (by omega)]; exact ⟨Or.inl rfl, ⟨fun z => by omega, fun z => by omega⟩⟩
    · rw [if_pos ⟨y, rfl⟩]; exact ⟨Or.inr rfl, ⟨fun _ => ⟨y, h⟩, fun _ => rfl⟩⟩
  · rw [if_neg h, and01 hx (Or.inl rfl), if_neg (by omega)]
    exact ⟨Or.inl rfl, ⟨fun z => by omega, fun z => absurd z.2 h⟩⟩
/-- the component's loop over the names of one alternative -/
theorem sC_e130 {call : Nat → List ZA → CW → (ZRes → CW → Prop) → Prop} {x1 x2 x4 x5 x6 x10 : Int} {x3 x7 : Nat} : ∀ m n (u : CW) (x8 : Int), m + n = 8 → WF p u → tg u (fR u 16 p) = 102 → ln u (fR u 16 p) = 8 → tg u x7 = 102 → ln u x7 = 8 → x7 ≠ fR u 16 p → (x8 = 0 ∨ x8 = 1) → ∃ (u' : CW) (y : Int), Fr [x7] u u' ∧ PF [] p u u' ∧ WF p u' ∧ (cz u' = cz u ∧ cu u' = cu u) ∧ (y = 0 ∨ y = 1) ∧ (∀ j : Nat, n ≤ j → j < 8 → aI u' x7 j = if bit x10 j = 1 ∧ x4 = 1 then aI u (fR u 16 p) j else aI u x7 j) ∧ (∀ j : Nat, j < n → aI u' x7 j = aI u x7 j) ∧
    (y = 1 ↔ x8 = 1 ∧ ∀ j : Nat, n ≤ j → j < 8 → bit x10 j = 1 → x4 = 1 ∨ aI u (fR u 16 p) j = aI u x7 j) ∧ ∀ (Q : Nat → CW → Prop) (X : Nat → CW → Prop) (I42 : Int → Int → Int → CW → Prop) (I : Int → Int → CW → Prop), (∀ (x8 : Int) (x11 : Int) (w : CW), (
    (8 ≤ x11 →
      pC_X0_either_228 p call Q X I42 x1 x2 x3 x4 x5 x6 x7 x8 w) ∧
    (¬ (8 ≤ x11) →
      ∀ v59 : Int, v59 = (if (i_and (i_shr x10 x11) 1) = 1 then 1 else 0) →
      ((¬ (v59 = 0) → (¬ (x4 = 1) → (tg w (fR w 16 p) = 102 ∧ 0 ≤ x11 ∧ x11 < ln w (fR w 16 p)) ∧ (tg w x7 = 102 ∧ 0 ≤ x11 ∧ x11 < ln w x7)))) ∧
      ∀ v60 : Int, v60 = (if (v59 = 0) ∨ ((x4 = 1) ∨ ((aN w (fR w 16 p) x11) = (aN w x7 x11))) then 1 else 0) →
      ∀ x8_62 : Int, x8_62 = i_and x8 v60 →
      ((v59 = 0 → (tg w x7 = 102 ∧ 0 ≤ x11 ∧ x11 < ln w x7)) ∧ (¬ (v59 = 0) → (x4 = 1 → (tg w (fR w 16 p) = 102 ∧ 0 ≤ x11 ∧ x11 < ln w (fR w 16 p))) ∧ (¬ (x4 = 1) → (tg w x7 = 102 ∧ 0 ≤ x11 ∧ x11 < ln w x7)))) ∧
      ∀ v63 : Int, v63 = (if ¬ (v59 = 0) ∧ (x4 = 1) then aN w (fR w 16 p) x11 else aN w x7 x11) →
      (tg w x7 = 102 ∧ 0 ≤ x11 ∧ x11 < ln w x7) ∧
      ∀ u65 : CW, u65 = qI w x7 x11 v63 →
      ∀ x11_67 : Int, x11_67 = w32 (x11 + 1) →
      I x8_62 x11_67 u65)) → I x8 x11 w) → pC_X0_either_228 p call Q X I42 x1 x2 x3 x4 x5 x6 x7 y u' → I x8 n u := by
  intro m
  induction m with
  | zero =>
    intro n u x8 hn W _ _ _ _ _ hx
    exact ⟨u, x8, Fr.refl _ _, PF.refl _ _ _, W, ⟨rfl, rfl⟩, hx, fun j h1 h2 => by omega, fun _ _ => rfl, ⟨fun h => ⟨h, fun j h1 h2 => by omega⟩, fun h => h.1⟩, fun Q X I42 I cl hQ => cl _ _ _ (br1 (by omega) hQ)⟩
  | succ m ih =>
    intro n u x8 hn W t16 l16 t7 l7 hne hx
    have e3 : w32 ((n : Int) + 1) = ((n + 1 : Nat) : Int) := w32_k (by omega)
    obtain ⟨v59, h59⟩ : ∃ v59 : Int, v59 = (if bit x10 n = 1 then 1 else 0) := ⟨_, rfl⟩
    have z59 : v59 = 0 ↔ ¬ bit x10 n = 1 := by
      rw [h59]
      split
      · rename_i z; exact ⟨fun h => by omega, fun h => absurd z h⟩
      · rename_i z; exact ⟨fun _ => z, fun _ => rfl⟩
    obtain ⟨y8, h8⟩ : ∃ y8 : Int, y8 = i_and x8 (if (v59 = 0) ∨ ((x4 = 1) ∨ ((aI u (fR u 16 p) n) = (aI u x7 n))) then 1 else 0) := ⟨_, rfl⟩
    have y81 := and01' (P := (v59 = 0) ∨ ((x4 = 1) ∨ ((aI u (fR u 16 p) n) = (aI u x7 n)))) hx
    rw [← h8] at y81
    obtain ⟨v, hv⟩ : ∃ v : Int, v = (if ¬ (v59 = 0) ∧ (x4 = 1) then aI u (fR u 16 p) n else aI u x7 n) := ⟨_, rfl⟩
    obtain ⟨u1, h1⟩ : ∃ u1, u1 = qI u x7 n v := ⟨_, rfl⟩
    have F1 : Fr [x7] u u1 := by rw [h1]; exact (Fr.refl _ _).sqI (Or.inl (by simp))
    have P1 : PF [] p u u1 := by rw [h1]; exact (PF.refl _ _ _).sqI
    have e16 : fR u1 16 p = fR u 16 p := by rw [h1]; rfl
    have a16 : ∀ j : Nat, aI u1 (fR u 16 p) j = aI u (fR u 16 p) j := fun j => by rw [h1, aI_qI, if_neg (fun y => hne y.1.symm)]
    have a7 : ∀ j : Nat, aI u1 x7 j = if j = n then v else aI u x7 j := fun j => by
      rw [h1, aI_qI]
      by_cases z : j = n
      · rw [if_pos ⟨rfl, by omega⟩, if_pos z]
      · rw [if_neg (by omega), if_neg z]
    obtain ⟨u', y, r1, r2, r3, r4, r5, r6, r7, r8, run⟩ := ih (n + 1) u1 y8 (by omega) (by rw [h1]; exact W.sqI _ _ _) (by rw [e16, h1]; exact t16) (by rw [e16, h1]; exact l16) (by rw [h1]; exact t7) (by rw [h1]; exact l7) (by rw [e16]; exact hne) y81.1
    rw [e16] at r6 r8
    refine ⟨u', y, F1.trans r1, P1.trans r2, r3, ⟨r4.1.trans (by rw [h1]; rfl), r4.2.trans (by rw [h1]; rfl)⟩, r5, fun j q1 q2 => ?_, fun j hj => ?_, ?_, fun Q X I42 I cl hQ => cl _ _ _ (br0 (by omega) (fa ⟨fun _ _ => ⟨⟨t16, by omega, by omega⟩, t7, by omega, by omega⟩, fa (fa ⟨⟨fun _ => ⟨t7, by omega, by omega⟩, fun _ => ⟨fun _ => ⟨t16, by omega, by omega⟩, fun _ => ⟨t7, by omega, by omega⟩⟩⟩, fa ⟨⟨t7, by omega, by omega⟩, fa (fa ?_)⟩⟩)⟩))⟩
    · by_cases z : j = n
      · subst z
        rw [r7 j (by omega), a7, if_pos rfl, hv]
        by_cases q : bit x10 j = 1 ∧ x4 = 1
        · rw [if_pos q, if_pos ⟨fun y => (z59.mp y) q.1, q.2⟩]
        · rw [if_neg q, if_neg (fun y => q ⟨Classical.byContradiction fun k => y.1 (z59.mpr k), y.2⟩)]
      · rw [r6 j (by omega) q2, a16, a7, if_neg z]
    · rw [r7 j (by omega), a7, if_neg (by omega)]
    · rw [r8, y81.2]
      constructor
      · rintro ⟨⟨q1, q2⟩, q3⟩
        refine ⟨q1, fun j k1 k2 k3 => ?_⟩
        by_cases z : j = n
        · subst z
          rcases q2 with q | q
          · exact absurd k3 (z59.mp q)
          · exact q
        · have := q3 j (by omega) k2 k3
          rw [a16, a7, if_neg z] at this
          exact this
      · rintro ⟨q1, q2⟩
        refine ⟨⟨q1, ?_⟩, fun j k1 k2 k3 => ?_⟩
        · by_cases z : v59 = 0
          · exact Or.inl z
          · exact Or.inr (q2 n (Nat.le_refl _) (by omega) (Classical.byContradiction fun k => z (z59.mpr k)))
        · rw [a16, a7, if_neg (by omega)]
          exact q2 j (by omega) k2 k3
    · have hb : i_and (i_shr x10 (n : Int)) 1 = bit x10 n := rfl
      rw [hb, aN102 t16, aN102 t7, ← h59, ← h8, ← hv, ← h1, e3]
      exact run Q X I42 I cl hQ
/-- the component's loop over the names at the alternatives' end -/
theorem sC_e282 {call : Nat → List ZA → CW → (ZRes → CW → Prop) → Prop} {x4 x6 : Int} {x3 x7 : Nat} : ∀ m n (u : CW), m + n = 8 → WF p u → tg u (fR u 16 p) = 102 → ln u (fR u 16 p) = 8 → tg u x7 = 102 → ln u x7 = 8 → x7 ≠ fR u 16 p → ∃ u' : CW, Fr [fR u 16 p] u u' ∧ PF [] p u u' ∧ WF p u' ∧ (cz u' = cz u ∧ cu u' = cu u) ∧ (∀ j : Nat, n ≤ j → j < 8 → aI u' (fR u 16 p) j = if bit x6 j = 1 then aI u x7 j else aI u (fR u 16 p) j) ∧ (∀ j : Nat, j < n → aI u' (fR u 16 p) j = aI u (fR u 16 p) j) ∧
    ∀ (Q : Nat → CW → Prop) (X : Nat → CW → Prop) (I : Int → CW → Prop), (∀ (x9 : Int) (w : CW), (
    (8 ≤ x9 →
      pC_X0_either_328 p call Q X x3 x4 w) ∧
    (¬ (8 ≤ x9) →
      (((i_and (i_shr x6 x9) 1) = 1 → (tg w x7 = 102 ∧ 0 ≤ x9 ∧ x9 < ln w x7)) ∧ (¬ ((i_and (i_shr x6 x9) 1) = 1) → (tg w (fR w 16 p) = 102 ∧ 0 ≤ x9 ∧ x9 < ln w (fR w 16 p)))) ∧
      ∀ v46 : Int, v46 = (if (i_and (i_shr x6 x9) 1) = 1 then aN w x7 x9 else aN w (fR w 16 p) x9) →
      (tg w (fR w 16 p) = 102 ∧ 0 ≤ x9 ∧ x9 < ln w (fR w 16 p)) ∧
      ∀ u48 : CW, u48 = qI w (fR w 16 p) x9 v46 →
      ∀ x9_50 : Int, x9_50 = w32 (x9 + 1) →
      I x9_50 u48)) → I x9 w) → pC_X0_either_328 p call Q X x3 x4 u' → I n u := by
  intro m
  induction m with
  | zero =>
    intro n u hn W _ _ _ _ _
    exact ⟨u, Fr.refl _ _, PF.refl _ _ _, W, ⟨rfl, rfl⟩, fun j h1 h2 => by omega, fun _ _ => rfl, fun Q X I cl hQ => cl _ _ (br1 (by omega) hQ)⟩
  | succ m ih =>
    intro n u hn W t16 l16 t7 l7 hne
    have e3 : w32 ((n : Int) + 1) = ((n + 1 : Nat) : Int) := w32_k (by omega)
    obtain ⟨v, hv⟩ : ∃ v : Int, v = (if bit x6 n = 1 then aI u x7 n else aI u (fR u 16 p) n) := ⟨_, rfl⟩
    obtain ⟨u1, h1⟩ : ∃ u1, u1 = qI u (fR u 16 p) n v := ⟨_, rfl⟩
    have F1 : Fr [fR u 16 p] u u1 := by rw [h1]; exact (Fr.refl _ _).sqI (Or.inl (by simp))
    have P1 : PF [] p u u1 := by rw [h1]; exact (PF.refl _ _ _).sqI
    have e16 : fR u1 16 p = fR u 16 p := by rw [h1]; rfl
    have a7 : ∀ j : Nat, aI u1 x7 j = aI u x7 j := fun j => by rw [h1, aI_qI, if_neg (fun y => hne y.1)]
    have a16 : ∀ j : Nat, aI u1 (fR u 16 p) j = if j = n then v else aI u (fR u 16 p) j := fun j => by
      rw [h1, aI_qI]
      by_cases z : j = n
      · rw [if_pos ⟨rfl, by omega⟩, if_pos z]
      · rw [if_neg (by omega), if_neg z]
    obtain ⟨u', r1, r2, r3, r4, r6, r7, run⟩ := ih (n + 1) u1 (by omega) (by rw [h1]; exact W.sqI _ _ _) (by rw [e16, h1]; exact t16) (by rw [e16, h1]; exact l16) (by rw [h1]; exact t7) (by rw [h1]; exact l7) (by rw [e16]; exact hne)
    rw [e16] at r1 r6 r7
    refine ⟨u', F1.trans r1, P1.trans r2, r3, ⟨r4.1.trans (by rw [h1]; rfl), r4.2.trans (by rw [h1]; rfl)⟩, fun j q1 q2 => ?_, fun j hj => ?_, fun Q X I cl hQ => cl _ _ (br0 (by omega) ⟨⟨fun _ => ⟨t7, by omega, by omega⟩, fun _ => ⟨t16, by omega, by omega⟩⟩, fa ⟨⟨t16, by omega, by omega⟩, fa (fa ?_)⟩⟩)⟩
    · by_cases z : j = n
      · subst z
        rw [r7 j (by omega), a16, if_pos rfl, hv]
      · rw [r6 j (by omega) q2, a16, a7, if_neg z]
    · rw [r7 j (by omega), a16, if_neg (by omega)]
    · have hb : i_and (i_shr x6 (n : Int)) 1 = bit x6 n := rfl
      rw [hb, aN102 t16, aN102 t7, ← hv, ← h1, e3]
      exact run Q X I cl hQ
/-- the reference's loop over the names at the alternatives' end -/
theorem sT_g160 {R k : Nat} (hR2 : R < 192) (hk : k < 8) : ∀ m n (σ : TW), m + n = 8 → tI σ 27 = R → ∃ σ', FT [30] σ σ' ∧ (∀ x : Nat, (x < 8 * R + n ∨ 8 * R + 8 ≤ x) → tA σ' 30 x = tA σ 30 x) ∧ (∀ i : Nat, n ≤ i → i < 8 → tA σ' 30 (8 * R + i : Nat) = if ¬ (tA σ 34 k ≤ 0) then tA σ 40 (8 * k + i : Nat) else 0) ∧ ∀ (Q : Int → TW → Prop) (I : Int → TW → Prop), (∀ (x3 : Int) (w : TW), (
    (8 ≤ x3 →
      pT_goesOn_210 (wpT d) Q w) ∧
    (¬ (8 ≤ x3) →
      (0 ≤ (k : Int) ∧ (k : Int) < 8) ∧
      ((¬ ((tA w 34 k) ≤ 0) → (0 ≤ (w32 ((w32 (8 * (k : Int))) + x3)) ∧ (w32 ((w32 (8 * (k : Int))) + x3)) < 64))) ∧
      ∀ v28 : Int, v28 = (if ¬ ((tA w 34 k) ≤ 0) then tA w 40 (w32 ((w32 (8 * (k : Int))) + x3)) else 0) →
      (0 ≤ (w32 ((w32 (8 * (tI w 27))) + x3)) ∧ (w32 ((w32 (8 * (tI w 27))) + x3)) < 1536) ∧
      ∀ u30 : TW, u30 = sA w 30 (w32 ((w32 (8 * (tI w 27))) + x3)) v28 →
      ∀ x3_32 : Int, x3_32 = w32 (x3 + 1) →
      I x3_32 u30)) → I x3 w) → pT_goesOn_210 (wpT d) Q σ' → I n σ := by
  intro m
  induction m with
  | zero =>
    intro n σ hn h27
    exact ⟨σ, FT.refl _ _, fun _ _ => rfl, fun i h1 h2 => by omega, fun Q I cl hQ => cl _ _ (br1 (by omega) hQ)⟩
  | succ m ih =>
    intro n σ hn h27
    have e1 : w32 ((w32 (8 * (tI σ 27))) + (n : Int)) = ((8 * R + n : Nat) : Int) := ix8 h27 (by omega)
    have e2 : w32 ((w32 (8 * (k : Int))) + (n : Int)) = ((8 * k + n : Nat) : Int) := ix8 rfl (by omega)
    have e3 : w32 ((n : Int) + 1) = ((n + 1 : Nat) : Int) := w32_k (by omega)
    obtain ⟨v, hv⟩ : ∃ v : Int, v = (if ¬ (tA σ 34 k ≤ 0) then tA σ 40 ((8 * k + n : Nat) : Int) else 0) := ⟨_, rfl⟩
    obtain ⟨σ1, h1⟩ : ∃ σ1, σ1 = sA σ 30 ((8 * R + n : Nat) : Int) v := ⟨_, rfl⟩
    have F1 : FT [30] σ σ1 := by rw [h1]; exact (FT.refl _ _).ssA (by decide)
    obtain ⟨σ', F2, g1, g2, run⟩ := ih (n + 1) σ1 (by omega) ((F1 27 (by decide)).1.trans h27)
    refine ⟨σ', F1.trans F2, fun x hx => ?_, fun i hi1 hi2 => ?_, fun Q I cl hQ => cl _ _ (br0 (by omega) ⟨by omega, fun _ => by rw [e2]; omega, fa ⟨by rw [e1]; omega, fa (fa ?_)⟩⟩)⟩
    · rw [g1 x (by omega), h1, tA_sA, if_neg (by omega)]
    · by_cases z : i = n
      · subst z
        rw [g1 _ (by omega), h1, tA_sA, if_pos ⟨rfl, rfl⟩, hv]
      · rw [g2 i (by omega) hi2, (F1 34 (by decide)).2, (F1 40 (by decide)).2]
    · rw [e1, e2, e3, ← hv, ← h1]
      exact run Q I cl hQ
end ZEith1
