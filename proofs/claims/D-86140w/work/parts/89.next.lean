/-! the component's next, by the token -/
section ZNextC
variable {p d : Nat} {w : CW} {τ : TW}
theorem isSg_lit (c : Int) (h : 1 ≤ c ∧ c ≤ 127) : (∃ i : Nat, i < [59,44,40,41,123,125,58,124,95,60,61,62,43,45,42,47,37,(46 : Int)].length ∧ [59,44,40,41,123,125,58,124,95,60,61,62,43,45,42,47,37,(46 : Int)].getD i 0 = c) ↔ isSg c ∨ c = 46 := by
  have fin : ∀ k : Fin 128, (decide (∃ i : Fin 18, [59,44,40,41,123,125,58,124,95,60,61,62,43,45,42,47,37,(46 : Int)].getD i.val 0 = (k.val : Int))) = decide (isSg (k.val : Int) ∨ (k.val : Int) = 46) := by decide +kernel
  have hk := fin ⟨c.toNat, by omega⟩
  have e : ((c.toNat : Nat) : Int) = c := by omega
  simp only [e] at hk
  constructor
  · rintro ⟨i, hi, h2⟩
    exact (decide_eq_decide.mp hk).mp ⟨⟨i, hi⟩, h2⟩
  · intro h
    obtain ⟨i, h2⟩ := (decide_eq_decide.mp hk).mpr h
    exact ⟨i.val, i.isLt, h2⟩
theorem sC_next (T : tpT τ) (L : Lit p w) (W : WF p w) (R : tpC p w τ) {a : Nat} (ha : fI w 9 p = a) (hal : (a : Int) ≤ tI τ 1) {f t s v : Int} (hL : Lx (bt τ) a f t s v) (hm : cz w + 5 ≤ mz w ∧ cu w + 70 ≤ mu w) :
    ∃ w', St p [] [9, 10, 11, 12, 13, 14] 5 70 w w' ∧ ((s = 7 ∧ ∃ x, Wr w' x 1 f ∧ ∀ Q, Q (.inr x) w' → wpC p (d + 12) 4 [ar p] w Q) ∨
      (s ≠ 7 ∧ (fI w' 9 p = t ∧ fI w' 11 p = f ∧ fI w' 10 p = s ∧ (s = 1 ∨ s = 2 ∨ s = 4 → fI w' 12 p = v) ∧ (s = 3 → fI w' 13 p = v) ∧ (s = 5 → (v = 256 ∧ fI w' 14 p = 46) ∨ (isSg v ∧ fI w' 14 p = v))) ∧ ∀ Q, Q (.inl none) w' → wpC p (d + 12) 4 [ar p] w Q)) := by
  have h1600 := T.2.1
  have hpz := W.pz
  have hb := bt_rg T
  obtain ⟨k, hk, hf, hL⟩ := hL
  have hkn := Run.le T hk (fun c h => by unfold isBl at h; omega) hal
  have hS : St p [] [9, 10, 11, 12, 13, 14] 0 0 w (pI (pI w 9 p k) 11 p k) := ⟨((Fr.refl _ w).spI (Or.inl (by simp))).spI (Or.inl (by simp)), ((PF.refl _ p w).spI (Or.inl (by simp))).spI (Or.inl (by simp)), W, Nat.le_refl _, Nat.le_refl _⟩
  have R' : tpC p (pI (pI w 9 p k) 11 p k) τ := (R.spI (by decide)).spI (by decide)
  have L' : Lit p (pI (pI w 9 p k) 11 p k) := L.fr hS.1 (fun r hr => by simp at hr; omega) hpz
  have W' : WF p (pI (pI w 9 p k) 11 p k) := W
  have a9 : fI (pI (pI w 9 p k) 11 p k) 9 p = k := (fI_of (f := 11) (g := 9) _ p p _ (by decide)).trans (fI_at _ _ _ _)
  have a11 : fI (pI (pI w 9 p k) 11 p k) 11 p = k := fI_at _ _ _ _
  have a8 : fI (pI (pI w 9 p k) 11 p k) 8 p = tI τ 1 := R'.2.2.1
  have m' : cz (pI (pI w 9 p k) 11 p k) + 5 ≤ mz (pI (pI w 9 p k) 11 p k) ∧ cu (pI (pI w 9 p k) 11 p k) + 70 ≤ mu (pI (pI w 9 p k) 11 p k) := hm
  -- up to the token's first letter
  have head : ∀ Q : ZRes → CW → Prop, (¬ (0 ≤ sg8 (bt τ k)) ∧ ((fI (pI (pI w 9 p k) 11 p k) 9 p) = (fI (pI (pI w 9 p k) 11 p k) 8 p)) → Q (.inl none) (pI (pI (pI w 9 p k) 11 p k) 10 p 0)) → (¬ (¬ (0 ≤ sg8 (bt τ k)) ∧ ((fI (pI (pI w 9 p k) 11 p k) 9 p) = (fI (pI (pI w 9 p k) 11 p k) 8 p))) → pC_X0_next_44 p (wpC p (d + 11)) (fun w => Q (.inl none) w) (fun x w => Q (.inr x) w) (sg8 (bt τ k)) (pI (pI w 9 p k) 11 p k)) → wpC p (d + 12) 4 [ar p] w Q := by
    intro Q h1 h2
    refine wC_X0_next (Nat.zero_le _) (sC_blanks T R ha hal hk (fa ?_))
    rw [fI_at]
    exact sC_unit T R' a9 ⟨fun h => fa (h1 h), h2⟩
  generalize hw0 : pI (pI w 9 p k) 11 p k = w0 at hS R' L' W' a9 a11 a8 m' head
  have mono : ∀ {S A B w1}, St p [] S A B w0 w1 → (∀ f, f ∈ S → f ∈ [9, 10, 11, 12, 13, 14]) → A ≤ 5 → B ≤ 70 → St p [] [9, 10, 11, 12, 13, 14] 5 70 w w1 := fun h hs h1 h2 => hS.trans (h.mono (fun r hr => by cases hr) hs h1 h2) (by omega) (by omega)
  by_cases c1 : bt τ k = -1
  · rw [if_pos c1] at hL
    have hkt := bt_m1 T c1
    refine ⟨pI w0 10 p 0, mono (S := [10]) (A := 0) (B := 0) ⟨(Fr.refl _ w0).spI (Or.inl (by simp)), (PF.refl _ p w0).spI (Or.inl (by simp)), W', Nat.le_refl _, Nat.le_refl _⟩ (fun f hf => by simp at hf; subst hf; decide) (by omega) (by omega), Or.inr ⟨by omega, ⟨?_, ?_, ?_, fun h => by omega, fun h => by omega, fun h => by omega⟩, fun Q hQ => head Q (fun _ => hQ) (fun h => absurd ⟨?_, ?_⟩ h)⟩⟩
    · rw [hL.2]; exact (fI_of (f := 10) (g := 9) _ p p _ (by decide)).trans a9
    · rw [hf]; exact (fI_of (f := 10) (g := 11) _ p p _ (by decide)).trans a11
    · rw [hL.1]; exact fI_at _ _ _ _
    · rw [c1]; decide
    · rw [a9, a8]; omega
  rw [if_neg c1] at hL
  have hk1 := bt_nn T c1
  have c1' : ¬ (¬ (0 ≤ sg8 (bt τ k)) ∧ ((fI w0 9 p) = (fI w0 8 p))) := by
    rw [a9, a8]; omega
  have head2 : ∀ Q : ZRes → CW → Prop, pC_X0_next_44 p (wpC p (d + 11)) (fun w => Q (.inl none) w) (fun x w => Q (.inr x) w) (sg8 (bt τ k)) w0 → wpC p (d + 12) 4 [ar p] w Q := fun Q h => head Q (fun z => absurd z c1') (fun _ => h)
  have esm : (if isSm (sg8 (bt τ k)) then (1 : Int) else 0) = if isSm (bt τ k) then 1 else 0 := by
    by_cases z : isSm (bt τ k)
    · rw [if_pos z, if_pos ((sg8_if (hb k)).1.mpr z)]
    · rw [if_neg z, if_neg (fun y => z ((sg8_if (hb k)).1.mp y))]
  have efg : (if isFg (sg8 (bt τ k)) then (1 : Int) else 0) = if isFg (bt τ k) then 1 else 0 := by
    by_cases z : isFg (bt τ k)
    · rw [if_pos z, if_pos ((sg8_if (hb k)).2.mpr z)]
    · rw [if_neg z, if_neg (fun y => z ((sg8_if (hb k)).2.mp y))]
  by_cases c2 : isSm (bt τ k) ∨ isUp (bt τ k)
  · rw [if_pos c2] at hL
    obtain ⟨e, he, hL⟩ := hL
    have c2' : ¬ ((if isSm (bt τ k) then (1 : Int) else 0) = 0) ∨ (¬ (sg8 (bt τ k) < 65) ∧ (¬ (90 < sg8 (bt τ k)))) := by
      rcases c2 with z | z
      · rw [if_pos z]; exact Or.inl (by decide)
      · have := (sg8_sm (hb k) (lo := 65) (hi := 90) (by decide) (by decide)).mpr z
        exact Or.inr ⟨by omega, by omega⟩
    obtain ⟨w1, s1, h⟩ := sC_readLetters (d := d + 1) T L' W' R' he c2 a9 a11 m'
    have head3 : ∀ Q : ZRes → CW → Prop, wpC p (d + 11) 8 [ar p, ai (if isSm (bt τ k) then 1 else 0)] w0 (zqV (fun u11 => Q (.inl none) u11) (fun x13 u14 => Q (.inr x13) u14)) → wpC p (d + 12) 4 [ar p] w Q := by
      intro Q h
      refine head2 Q (sC_isSmall ?_)
      rw [esm]
      refine ⟨fun _ => sC_isSmall ?_, fun z => absurd c2' z⟩
      rw [esm]
      exact h
    refine ⟨w1, mono s1 (fun f hf => by simp at hf; rcases hf with rfl | rfl | rfl <;> decide) (by omega) (by omega), ?_⟩
    rcases h with ⟨h8, x, hx, run⟩ | ⟨h8, e1, e2, e3, run⟩
    · rw [if_pos h8] at hL
      refine Or.inl ⟨hL, x, by rw [hf]; exact hx, fun Q hQ => head3 Q (run _ hQ)⟩
    · rw [if_neg (by omega)] at hL
      obtain ⟨ht, hL⟩ := hL
      refine Or.inr ⟨?_, ⟨by rw [ht]; exact e1, ?_, ?_, ?_, ?_, ?_⟩, fun Q hQ => head3 Q (run _ hQ)⟩
      · split at hL
        · split at hL <;> omega
        · omega
      · rw [(s1.2.1 11 (by decide)).1, a11, hf]
      · rw [e3]; unfold nmT
        split at hL
        · rename_i z; rw [if_pos z]
          split at hL
          · rename_i y; rw [if_pos y]; exact hL.1.symm
          · rename_i y; rw [if_neg y]; exact hL.1.symm
        · rename_i z; rw [if_neg z]; exact hL.1.symm
      · intro h; rw [e2]
        split at hL
        · split at hL
          · exact hL.2.symm
          · omega
        · exact hL.2.symm
      · intro h; exfalso
        split at hL
        · split at hL <;> omega
        · omega
      · intro h; exfalso
        split at hL
        · split at hL <;> omega
        · omega
  rw [if_neg c2] at hL
  have c2' : ¬ (¬ ((if isSm (bt τ k) then (1 : Int) else 0) = 0) ∨ (¬ (sg8 (bt τ k) < 65) ∧ (¬ (90 < sg8 (bt τ k))))) := by
    intro h
    rcases h with h | h
    · rw [if_neg (fun z => c2 (Or.inl z))] at h; exact h rfl
    · exact c2 (Or.inr ((sg8_sm (hb k) (lo := 65) (hi := 90) (by decide) (by decide)).mp ⟨by omega, by omega⟩))
  have head4 : ∀ Q : ZRes → CW → Prop, pC_X0_next_74 p (wpC p (d + 11)) (fun w => Q (.inl none) w) (fun x w => Q (.inr x) w) (sg8 (bt τ k)) w0 → wpC p (d + 12) 4 [ar p] w Q := by
    intro Q h
    refine head2 Q (sC_isSmall ?_)
    rw [esm]
    exact ⟨fun z => absurd z c2', fun _ => h⟩
  by_cases c3 : isFg (bt τ k)
  · rw [if_pos c3] at hL
    obtain ⟨e, he, hL⟩ := hL
    have hke : k < e := by
      rcases Nat.lt_or_ge k e with z | z
      · exact z
      · have : e = k := by have := he.1; omega
        rw [this] at he; exact absurd c3 he.2.2
    have go : ∀ Q : ZRes → CW → Prop, (e - k ≤ 9 → Q (.inl none) (pI (pI (pI w0 10 p 3) 13 p (nv (bt τ) k (e - k))) 9 p e)) → (9 < e - k → Q (.inr (cz w0 + 1)) (wrW (pI (pI (pI w0 10 p 3) 13 p (nv (bt τ) k 9)) 9 p ((k + 9 : Nat) : Int)) 1 k)) → wpC p (d + 12) 4 [ar p] w Q := by
      intro Q h1 h2
      refine head4 Q (sC_isFigure ?_)
      rw [efg, if_pos c3]
      exact ⟨fun z => absurd z (by decide), fun _ => fa (fa (sC_figures (d := d + 6) T W' R' he hke a9 a11 ⟨by omega, by omega⟩ _ _ h1 h2))⟩
    have hS0 : ∀ n z, St p [] [9, 10, 13] 0 0 w0 (pI (pI (pI w0 10 p 3) 13 p n) 9 p z) := fun n z => ⟨(((Fr.refl _ w0).spI (Or.inl (by simp))).spI (Or.inl (by simp))).spI (Or.inl (by simp)), (((PF.refl _ p w0).spI (Or.inl (by simp))).spI (Or.inl (by simp))).spI (Or.inl (by simp)), W', Nat.le_refl _, Nat.le_refl _⟩
    by_cases h9 : 9 < e - k
    · rw [if_pos h9] at hL
      refine ⟨wrW (pI (pI (pI w0 10 p 3) 13 p (nv (bt τ) k 9)) 9 p ((k + 9 : Nat) : Int)) 1 k, mono ((hS0 _ _).trans (wrW_st (hS0 _ _).2.2.1 [] _ 1 k) (Nat.le_refl _) (Nat.le_refl _)) (fun f hf => by simp at hf; rcases hf with rfl | rfl | rfl <;> decide) (by omega) (by omega), Or.inl ⟨hL, cz w0 + 1, by rw [hf]; exact wrW_wr _ _ _, fun Q hQ => go Q (fun h => by omega) (fun _ => hQ)⟩⟩
    · rw [if_neg h9] at hL
      obtain ⟨h1, h2, h3⟩ := hL
      refine ⟨pI (pI (pI w0 10 p 3) 13 p (nv (bt τ) k (e - k))) 9 p e, mono (hS0 _ _) (fun f hf => by simp at hf; rcases hf with rfl | rfl | rfl <;> decide) (by omega) (by omega), Or.inr ⟨by omega, ⟨by rw [h1]; exact fI_at _ _ _ _, ?_, ?_, fun h => by omega, fun _ => ?_, fun h => by omega⟩, fun Q hQ => go Q (fun _ => hQ) (fun h => absurd h h9)⟩⟩
      · rw [((hS0 (nv (bt τ) k (e - k)) e).2.1 11 (by decide)).1, a11, hf]
      · rw [h2]; exact (fI_of (f := 9) (g := 10) _ p p _ (by decide)).trans ((fI_of (f := 13) (g := 10) _ p p _ (by decide)).trans (fI_at _ _ _ _))
      · rw [h3]; exact (fI_of (f := 9) (g := 13) _ p p _ (by decide)).trans (fI_at _ _ _ _)
  rw [if_neg c3] at hL
  have head5 : ∀ Q : ZRes → CW → Prop, ((sg8 (bt τ k) = 39 → wpC p (d + 11) 11 [ar p] w0 (zqV (fun u40 => Q (.inl none) u40) (fun x42 u43 => Q (.inr x42) u43))) ∧ (¬ (sg8 (bt τ k) = 39) → (sg8 (bt τ k) ≤ 0 → pC_X0_next_221 p (wpC p (d + 11)) (fun w => Q (.inl none) w) (fun x w => Q (.inr x) w) (sg8 (bt τ k)) p w0) ∧ (¬ (sg8 (bt τ k) ≤ 0) →
          (tg w0 (sr w0 2) = 32 ∨ tg w0 (sr w0 2) = 34) ∧
          wpC p (d + 11) 231 [ar (sr w0 2), ai (sg8 (bt τ k))] w0 (zqI (fun v32 u31 =>
            (v32 < 0 →
              pC_X0_next_221 p (wpC p (d + 11)) (fun w => Q (.inl none) w) (fun x w => Q (.inr x) w) (sg8 (bt τ k)) p u31) ∧
            (¬ (v32 < 0) →
              (sg8 (bt τ k) = 46 →
                wpC p (d + 11) 6 [ar p, ai (w32 ((fI u31 9 p) + 1))] u31 (zqI (fun v36 u35 =>
                  (v36 = 46 →
                    pC_X0_next_217 p (wpC p (d + 11)) (fun w => Q (.inl none) w) (fun x w => Q (.inr x) w) (sg8 (bt τ k)) p u35) ∧
                  (¬ (v36 = 46) →
                    pC_X0_next_221 p (wpC p (d + 11)) (fun w => Q (.inl none) w) (fun x w => Q (.inr x) w) (sg8 (bt τ k)) p u35)) zno)) ∧
              (¬ (sg8 (bt τ k) = 46) →
                pC_X0_next_217 p (wpC p (d + 11)) (fun w => Q (.inl none) w) (fun x w => Q (.inr x) w) (sg8 (bt τ k)) p u31))) zno)))) → wpC p (d + 12) 4 [ar p] w Q := by
    intro Q h
    refine head4 Q (sC_isFigure ?_)
    rw [efg, if_neg c3]
    exact ⟨fun _ => h, fun z => absurd rfl z⟩
  have e39 := sg8_eq (hb k) (c := 39) (by decide) (by decide)
  by_cases c4 : bt τ k = 39
  · rw [if_pos c4] at hL
    obtain ⟨e, he, hL⟩ := hL
    obtain ⟨w1, s1, h⟩ := sC_quoted (d := d + 5) T W' R' he c4 a9 a11 ⟨by omega, by omega⟩
    refine ⟨w1, mono s1 (fun f hf => by simp at hf; rcases hf with rfl | rfl | rfl <;> decide) (by omega) (by omega), ?_⟩
    rcases h with ⟨h8, x, hx, run⟩ | ⟨h8, e1, e2, e3, run⟩
    · rw [if_neg h8] at hL
      exact Or.inl ⟨hL, x, by rw [hf]; exact hx, fun Q hQ => head5 Q ⟨fun _ => run _ hQ, fun z => absurd (e39.mpr c4) z⟩⟩
    · rw [if_pos h8] at hL
      obtain ⟨h1, h2, h3⟩ := hL
      refine Or.inr ⟨by omega, ⟨by rw [h1]; exact e1, ?_, by rw [h2]; exact e3, fun _ => by rw [h3]; exact e2, fun h => by omega, fun h => by omega⟩, fun Q hQ => head5 Q ⟨fun _ => run _ hQ, fun z => absurd (e39.mpr c4) z⟩⟩
      rw [(s1.2.1 11 (by decide)).1, a11, hf]
  rw [if_neg c4] at hL
  have e46 := sg8_eq (hb k) (c := 46) (by decide) (by decide)
  -- it throws
  have thr : ∀ Q : ZRes → CW → Prop, Q (.inr (cz w0 + 1)) (wrW w0 1 k) → pC_X0_next_221 p (wpC p (d + 11)) (fun w => Q (.inl none) w) (fun x w => Q (.inr x) w) (sg8 (bt τ k)) p w0 := by
    intro Q hQ
    refine ⟨W'.2.1, ?_⟩
    rw [a11]
    exact sC_needNo rfl ⟨by omega, by omega⟩ hQ
  have good : ∀ Q : ZRes → CW → Prop, Q (.inl none) (pI (pI (pI w0 10 p 5) 14 p (sg8 (bt τ k))) 9 p (w32 ((k : Int) + (if ¬ (sg8 (bt τ k) = 46) then 1 else 2)))) → pC_X0_next_217 p (wpC p (d + 11)) (fun w => Q (.inl none) w) (fun x w => Q (.inr x) w) (sg8 (bt τ k)) p w0 := by
    intro Q hQ
    refine ⟨W'.2.1, sC_needOk (by decide) (fa (fa (fa (fa ?_))))⟩
    have e9 : fI (pI (pI w0 10 p 5) 14 p (sg8 (bt τ k))) 9 p = k := (fI_of (f := 14) (g := 9) _ p p _ (by decide)).trans ((fI_of (f := 10) (g := 9) _ p p _ (by decide)).trans a9)
    rw [e9]
    exact hQ
  have hSg : ∀ z, St p [] [9, 10, 14] 0 0 w0 (pI (pI (pI w0 10 p 5) 14 p (sg8 (bt τ k))) 9 p z) := fun z => ⟨(((Fr.refl _ w0).spI (Or.inl (by simp))).spI (Or.inl (by simp))).spI (Or.inl (by simp)), (((PF.refl _ p w0).spI (Or.inl (by simp))).spI (Or.inl (by simp))).spI (Or.inl (by simp)), W', Nat.le_refl _, Nat.le_refl _⟩
  have sign : ∀ (z : Int), (if ¬ (sg8 (bt τ k) = 46) then (1 : Int) else 2) = z → (isSg (bt τ k) ∨ bt τ k = 46) → z = 1 ∨ z = 2 → True := fun _ _ _ _ => trivial
  obtain ⟨l1, l2, l3⟩ := L' 2 _ rfl
  have idx : 1 ≤ bt τ k → bt τ k ≤ 127 → ∀ Q : ZRes → CW → Prop, (∀ v : Int, (v < 0 ↔ ¬ (isSg (bt τ k) ∨ bt τ k = 46)) → Q (.inl (some (ai v))) w0) → wpC p (d + 11) 231 [ar (sr w0 2), ai (sg8 (bt τ k))] w0 Q := by
    intro h1 h2 Q hQ
    rw [sg8_id h2]
    refine sJ_indexOf (d := d + 6) l1 (litL_ascii 2 _ rfl) ⟨by omega, h2⟩ (fun v hv => hQ v ?_)
    rw [hv, isSg_lit _ ⟨h1, h2⟩]
  have finish7 : s = 7 → (∀ Q : ZRes → CW → Prop, Q (.inr (cz w0 + 1)) (wrW w0 1 k) → wpC p (d + 12) 4 [ar p] w Q) → ∃ w', St p [] [9, 10, 11, 12, 13, 14] 5 70 w w' ∧ ((s = 7 ∧ ∃ x, Wr w' x 1 f ∧ ∀ Q, Q (.inr x) w' → wpC p (d + 12) 4 [ar p] w Q) ∨
      (s ≠ 7 ∧ (fI w' 9 p = t ∧ fI w' 11 p = f ∧ fI w' 10 p = s ∧ (s = 1 ∨ s = 2 ∨ s = 4 → fI w' 12 p = v) ∧ (s = 3 → fI w' 13 p = v) ∧ (s = 5 → (v = 256 ∧ fI w' 14 p = 46) ∨ (isSg v ∧ fI w' 14 p = v))) ∧ ∀ Q, Q (.inl none) w' → wpC p (d + 12) 4 [ar p] w Q)) :=
    fun h7 run => ⟨wrW w0 1 k, mono (wrW_st W' [] [] 1 k) (fun f hf => by cases hf) (by omega) (by omega), Or.inl ⟨h7, cz w0 + 1, by rw [hf]; exact wrW_wr _ _ _, run⟩⟩
  have finish5 : ∀ z : Int, w32 ((k : Int) + (if ¬ (sg8 (bt τ k) = 46) then 1 else 2)) = z → t = z → s = 5 → ((v = 256 ∧ sg8 (bt τ k) = 46) ∨ (isSg v ∧ sg8 (bt τ k) = v)) → (∀ Q : ZRes → CW → Prop, Q (.inl none) (pI (pI (pI w0 10 p 5) 14 p (sg8 (bt τ k))) 9 p (w32 ((k : Int) + (if ¬ (sg8 (bt τ k) = 46) then 1 else 2)))) → wpC p (d + 12) 4 [ar p] w Q) → ∃ w', St p [] [9, 10, 11, 12, 13, 14] 5 70 w w' ∧ ((s = 7 ∧ ∃ x, Wr w' x 1 f ∧ ∀ Q, Q (.inr x) w' → wpC p (d + 12) 4 [ar p] w Q) ∨
      (s ≠ 7 ∧ (fI w' 9 p = t ∧ fI w' 11 p = f ∧ fI w' 10 p = s ∧ (s = 1 ∨ s = 2 ∨ s = 4 → fI w' 12 p = v) ∧ (s = 3 → fI w' 13 p = v) ∧ (s = 5 → (v = 256 ∧ fI w' 14 p = 46) ∨ (isSg v ∧ fI w' 14 p = v))) ∧ ∀ Q, Q (.inl none) w' → wpC p (d + 12) 4 [ar p] w Q)) := by
    intro z hz ht h5 hv run
    have e14 : fI (pI (pI (pI w0 10 p 5) 14 p (sg8 (bt τ k))) 9 p (w32 ((k : Int) + (if ¬ (sg8 (bt τ k) = 46) then 1 else 2)))) 14 p = sg8 (bt τ k) := (fI_of (f := 9) (g := 14) _ p p _ (by decide)).trans (fI_at _ _ _ _)
    refine ⟨_, mono (hSg _) (fun f hf => by simp at hf; rcases hf with rfl | rfl | rfl <;> decide) (by omega) (by omega), Or.inr ⟨by omega, ⟨?_, ?_, ?_, fun h => by omega, fun h => by omega, fun _ => ?_⟩, run⟩⟩
    · rw [ht, ← hz]; exact fI_at _ _ _ _
    · rw [hf, ((hSg _).2.1 11 (by decide)).1, a11]
    · rw [h5]; exact (fI_of (f := 9) (g := 10) _ p p _ (by decide)).trans ((fI_of (f := 14) (g := 10) _ p p _ (by decide)).trans (fI_at _ _ _ _))
    · rw [e14]; exact hv
  by_cases c5 : bt τ k = 46 ∧ bt τ (k + 1) = 46
  · rw [if_pos c5] at hL
    obtain ⟨h1, h2, h3⟩ := hL
    have e0 : sg8 (bt τ k) = 46 := e46.mpr c5.1
    have hk2 := bt_nn T (k := k + 1) (by omega)
    refine finish5 (k + 2) ?_ h1 h2 (Or.inl ⟨h3, e0⟩) (fun Q hQ => head5 Q ⟨fun z => by omega, fun _ => ⟨fun z => by omega, fun _ => ⟨l1.1, idx (by omega) (by omega) _ (fun v hv => ⟨fun z => absurd (Or.inr c5.1) (hv.mp z), fun _ => ⟨fun _ => sC_unit (k := k + 1) T R' (by rw [a9]; exact w32_k (by omega)) ⟨fun _ => good Q hQ, fun z => absurd ((sg8_eq (hb _) (by decide) (by decide)).mpr c5.2) z⟩, fun z => absurd e0 z⟩⟩)⟩⟩⟩)
    rw [if_neg (fun z => z e0)]
    exact w32_s (by omega) (by omega)
  rw [if_neg c5] at hL
  by_cases c6 : isSg (bt τ k)
  · rw [if_pos c6] at hL
    obtain ⟨h1, h2, h3⟩ := hL
    have hr : 1 ≤ bt τ k ∧ bt τ k ≤ 127 ∧ bt τ k ≠ 46 := by unfold isSg at c6; omega
    have e0 : sg8 (bt τ k) = bt τ k := sg8_id hr.2.1
    refine finish5 (k + 1) ?_ h1 h2 (Or.inr ⟨by rw [h3]; exact c6, by rw [e0, h3]⟩) (fun Q hQ => head5 Q ⟨fun z => by omega, fun _ => ⟨fun z => by omega, fun _ => ⟨l1.1, idx hr.1 hr.2.1 _ (fun v hv => ⟨fun z => absurd (Or.inl c6) (hv.mp z), fun _ => ⟨fun z => by omega, fun _ => good Q hQ⟩⟩)⟩⟩⟩)
    rw [if_pos (by omega)]
    exact w32_s (by omega) (by omega)
  · rw [if_neg c6] at hL
    have hbk := hb k
    refine finish7 hL (fun Q hQ => head5 Q ⟨fun z => absurd (e39.mp z) c4, fun _ => ⟨fun _ => thr Q hQ, fun z => ⟨l1.1, ?_⟩⟩⟩)
    have h127 : bt τ k ≤ 127 := by
      rcases Int.lt_or_le (bt τ k) 128 with y | y
      · omega
      · exfalso; apply z; unfold sg8; rw [if_neg (by omega)]; omega
    have e0 : sg8 (bt τ k) = bt τ k := sg8_id h127
    refine idx (by omega) h127 _ (fun v hv => ⟨fun _ => thr Q hQ, fun y => ⟨fun x => ?_, fun x => ?_⟩⟩)
    · have x46 := e46.mp x
      have hk2 : (k : Int) + 1 ≤ 1000000 := by omega
      refine sC_unit (k := k + 1) T R' (by rw [a9]; exact w32_k (by omega)) ⟨fun q => ?_, fun _ => thr Q hQ⟩
      exact absurd ⟨x46, (sg8_eq (hb _) (by decide) (by decide)).mp q⟩ c5
    · exfalso
      have : isSg (bt τ k) ∨ bt τ k = 46 := Classical.byContradiction (fun q => y (hv.mpr q))
      rcases this with q | q
      · exact c6 q
      · exact x (e46.mpr q)
end ZNextC
