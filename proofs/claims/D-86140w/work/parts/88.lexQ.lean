/-! the component's tokens: quoted letters, numbers; next -/
section ZLexQ
variable {p d : Nat} {w : CW} {τ : TW}
theorem sC_quoted (T : tpT τ) (W : WF p w) (R : tpC p w τ) {k e : Nat} (he : Run isSm (bt τ) (k + 1) e) (h0 : bt τ k = 39) (ha : fI w 9 p = k) (hpl : fI w 11 p = k) (hm : cz w + 1 ≤ mz w ∧ cu w + 8 ≤ mu w) :
    ∃ w', St p [] [9, 10, 12] 1 8 w w' ∧ ((¬ (bt τ e = 39 ∧ e ≤ k + 9) ∧ ∃ x, Wr w' x 1 k ∧ ∀ Q, Q (.inr x) w' → wpC p (d + 6) 11 [ar p] w Q) ∨
      ((bt τ e = 39 ∧ e ≤ k + 9) ∧ fI w' 9 p = e + 1 ∧ fI w' 12 p = pk (bt τ) (k + 1) (e - (k + 1)) ∧ fI w' 10 p = 4 ∧ ∀ Q, Q (.inl none) w' → wpC p (d + 6) 11 [ar p] w Q)) := by
  have h1600 := T.2.1
  have hpz := W.pz
  have hb := bt_rg T
  have hk1 := bt_nn T (k := k) (by omega)
  have hen := Run.le T he (fun c h => by unfold isSm at h; omega) (by omega)
  have hke := he.1
  have hX : ∀ n, tpC p (pI (pI w 12 p (pk (bt τ) (k + 1) n)) 9 p ((k + 1 + n : Nat) : Int)) τ := fun n => (R.spI (by decide)).spI (by decide)
  have hX9 : ∀ n, fI (pI (pI w 12 p (pk (bt τ) (k + 1) n)) 9 p ((k + 1 + n : Nat) : Int)) 9 p = ((k + 1 + n : Nat) : Int) := fun n => fI_at _ _ _ _
  have hX12 : ∀ n, fI (pI (pI w 12 p (pk (bt τ) (k + 1) n)) 9 p ((k + 1 + n : Nat) : Int)) 12 p = pk (bt τ) (k + 1) n := fun n => (fI_of _ _ _ _ (by decide)).trans (fI_at _ _ _ _)
  have hX11 : ∀ n, fI (pI (pI w 12 p (pk (bt τ) (k + 1) n)) 9 p ((k + 1 + n : Nat) : Int)) 11 p = k := fun n => (fI_of _ _ _ _ (by decide)).trans ((fI_of _ _ _ _ (by decide)).trans hpl)
  have hXs : ∀ n, St p [] [9, 10, 12] 0 0 w (pI (pI w 12 p (pk (bt τ) (k + 1) n)) 9 p ((k + 1 + n : Nat) : Int)) := fun n => ⟨((Fr.refl _ w).spI (Or.inl (by simp))).spI (Or.inl (by simp)), ((PF.refl _ p w).spI (Or.inl (by simp))).spI (Or.inl (by simp)), W, Nat.le_refl _, Nat.le_refl _⟩
  have loop : ∀ (Q : CW → Prop) (X : Nat → CW → Prop), ((bt τ e = 39 ∧ e ≤ k + 9) → Q (pI (pI (pI (pI w 12 p (pk (bt τ) (k + 1) (e - (k + 1)))) 9 p ((k + 1 + (e - (k + 1)) : Nat) : Int)) 9 p (e + 1)) 10 p 4)) → (¬ (bt τ e = 39 ∧ e ≤ k + 9) → X (cz w + 1) (wrW (pI (pI w 12 p (pk (bt τ) (k + 1) (min 8 (e - (k + 1))))) 9 p ((k + 1 + min 8 (e - (k + 1)) : Nat) : Int)) 1 k)) → pC_X0_quoted_17 p (wpC p (d + 5)) Q X 0 (pI (pI w 9 p (w32 (fI w 9 p + 1))) 12 p 0) := by
    intro Q X hexit hthrow I hI
    have key : ∀ m n : Nat, e - (k + 1) - n ≤ m → n ≤ e - (k + 1) → n ≤ 8 → I (n : Int) (pI (pI w 12 p (pk (bt τ) (k + 1) n)) 9 p ((k + 1 + n : Nat) : Int)) := by
      intro m
      induction m with
      | zero =>
        intro n h1 h2 h3
        have hn : k + 1 + n = e := by omega
        have hnc : ¬ isSm (bt τ (k + 1 + n)) := by rw [hn]; exact he.2.2
        have hthr : ¬ (bt τ e = 39 ∧ e ≤ k + 9) → pC_X0_quoted_55 p (wpC p (d + 5)) Q X I (n : Int) p (pI (pI w 12 p (pk (bt τ) (k + 1) n)) 9 p ((k + 1 + n : Nat) : Int)) := by
          intro hno
          refine ⟨W.2.1, ?_⟩
          rw [hX11 n]
          have := hthrow hno
          rw [show min 8 (e - (k + 1)) = n by omega] at this
          exact sC_needNo rfl (by show cz w + 1 ≤ mz w ∧ cu w + 8 ≤ mu w; omega) this
        apply hI
        refine sC_unit T (hX n) (hX9 n) ⟨fun h => ?_, fun h => ⟨fun h8 => hthr (fun z => h ?_), fun h8 => sC_unit T (hX n) (hX9 n) (sC_isSmall ⟨fun _ => hthr (fun z => h ?_), fun h9 => ?_⟩)⟩⟩
        · have hq : bt τ e = 39 := by rw [← hn]; exact (sg8_eq (hb _) (by decide) (by decide)).mp h
          have he9 : e ≤ k + 9 := by omega
          refine fa (fa ?_)
          rw [hX9 n, hn]
          have := hexit ⟨hq, he9⟩
          rw [show k + 1 + (e - (k + 1)) = e by omega, show e - (k + 1) = n by omega] at this
          rw [show w32 ((e : Int) + 1) = (e : Int) + 1 from w32_s (by omega) (by omega)]
          exact this
        · rw [hn]; exact (sg8_eq (hb _) (by decide) (by decide)).mpr z.1
        · rw [hn]; exact (sg8_eq (hb _) (by decide) (by decide)).mpr z.1
        · exfalso
          by_cases z : isSm (sg8 (bt τ (k + 1 + n)))
          · exact hnc ((sg8_if (hb _)).1.mp z)
          · rw [if_neg z] at h9; exact h9 rfl
      | succ m ih =>
        intro n h1 h2 h3
        by_cases hlt : n < e - (k + 1)
        · have hsm := he.2.1 (k + 1 + n) (by omega) (by omega)
          have hsm' : isSm (bt τ (k + 1 + n)) := hsm
          unfold isSm at hsm
          apply hI
          refine sC_unit T (hX n) (hX9 n) ⟨fun h => ?_, fun h => ⟨fun h8 => ?_, fun h8 => sC_unit T (hX n) (hX9 n) (sC_isSmall ⟨fun h9 => ?_, fun _ => ?_⟩)⟩⟩
          · have := (sg8_eq (hb _) (by decide) (by decide)).mp h; omega
          · have hn8 : n = 8 := by omega
            refine ⟨W.2.1, ?_⟩
            rw [hX11 n]
            have := hthrow (by omega)
            rw [show min 8 (e - (k + 1)) = n by omega] at this
            exact sC_needNo rfl (by show cz w + 1 ≤ mz w ∧ cu w + 8 ≤ mu w; omega) this
          · rw [if_pos ((sg8_if (hb _)).1.mpr hsm')] at h9; cases h9
          · refine ⟨W.2.1, sC_needOk (by decide) (sC_unit T (hX n) (hX9 n) (fa (fa (fa ?_))))⟩
            have e1 : pI (pI (pI (pI w 12 p (pk (bt τ) (k + 1) n)) 9 p ((k + 1 + n : Nat) : Int)) 12 p (l_or (l_shl (fI (pI (pI w 12 p (pk (bt τ) (k + 1) n)) 9 p ((k + 1 + n : Nat) : Int)) 12 p) 8) (sg8 (bt τ (k + 1 + n))))) 9 p (w32 ((fI (pI (pI (pI w 12 p (pk (bt τ) (k + 1) n)) 9 p ((k + 1 + n : Nat) : Int)) 12 p (l_or (l_shl (fI (pI (pI w 12 p (pk (bt τ) (k + 1) n)) 9 p ((k + 1 + n : Nat) : Int)) 12 p) 8) (sg8 (bt τ (k + 1 + n))))) 9 p) + 1)) = pI (pI w 12 p (pk (bt τ) (k + 1) (n + 1))) 9 p ((k + 1 + (n + 1) : Nat) : Int) := by
              rw [hX12 n, sg8_id (by omega), fI_of (f := 12) (g := 9) _ p p _ (by decide), hX9 n, w32_k (by omega), pI_comm (pI w 12 p (pk (bt τ) (k + 1) n)) (Or.inl (by decide)), pI_pI, pI_pI]
              rfl
            rw [w32_k (by omega), e1]
            exact ih (n + 1) (by omega) (by omega) (by omega)
        · have hn : k + 1 + n = e := by omega
          have hnc : ¬ isSm (bt τ (k + 1 + n)) := by rw [hn]; exact he.2.2
          have hthr : ¬ (bt τ e = 39 ∧ e ≤ k + 9) → pC_X0_quoted_55 p (wpC p (d + 5)) Q X I (n : Int) p (pI (pI w 12 p (pk (bt τ) (k + 1) n)) 9 p ((k + 1 + n : Nat) : Int)) := by
            intro hno
            refine ⟨W.2.1, ?_⟩
            rw [hX11 n]
            have := hthrow hno
            rw [show min 8 (e - (k + 1)) = n by omega] at this
            exact sC_needNo rfl (by show cz w + 1 ≤ mz w ∧ cu w + 8 ≤ mu w; omega) this
          apply hI
          refine sC_unit T (hX n) (hX9 n) ⟨fun h => ?_, fun h => ⟨fun h8 => hthr (fun z => h ?_), fun h8 => sC_unit T (hX n) (hX9 n) (sC_isSmall ⟨fun _ => hthr (fun z => h ?_), fun h9 => ?_⟩)⟩⟩
          · have hq : bt τ e = 39 := by rw [← hn]; exact (sg8_eq (hb _) (by decide) (by decide)).mp h
            have he9 : e ≤ k + 9 := by omega
            refine fa (fa ?_)
            rw [hX9 n, hn]
            have := hexit ⟨hq, he9⟩
            rw [show k + 1 + (e - (k + 1)) = e by omega, show e - (k + 1) = n by omega] at this
            rw [show w32 ((e : Int) + 1) = (e : Int) + 1 from w32_s (by omega) (by omega)]
            exact this
          · rw [hn]; exact (sg8_eq (hb _) (by decide) (by decide)).mpr z.1
          · rw [hn]; exact (sg8_eq (hb _) (by decide) (by decide)).mpr z.1
          · exfalso
            by_cases z : isSm (sg8 (bt τ (k + 1 + n)))
            · exact hnc ((sg8_if (hb _)).1.mp z)
            · rw [if_neg z] at h9; exact h9 rfl
    have := key (e - (k + 1)) 0 (by omega) (by omega) (by omega)
    have e0 : pI (pI w 9 p (w32 (fI w 9 p + 1))) 12 p 0 = pI (pI w 12 p (pk (bt τ) (k + 1) 0)) 9 p ((k + 1 + 0 : Nat) : Int) := by
      rw [ha, w32_k (by omega), pI_comm w (Or.inl (by decide))]
      rfl
    rw [e0]
    exact this
  by_cases hq : bt τ e = 39 ∧ e ≤ k + 9
  · refine ⟨pI (pI (pI (pI w 12 p (pk (bt τ) (k + 1) (e - (k + 1)))) 9 p ((k + 1 + (e - (k + 1)) : Nat) : Int)) 9 p (e + 1)) 10 p 4, ⟨(((hXs (e - (k + 1))).1.spI (Or.inl (by simp))).spI (Or.inl (by simp))), (((hXs (e - (k + 1))).2.1.spI (Or.inl (by simp))).spI (Or.inl (by simp))), W, Nat.le_add_right _ _, Nat.le_add_right _ _⟩, Or.inr ⟨hq, ?_, ?_, fI_at _ _ _ _, fun Q hQ => wC_X0_quoted (Nat.zero_le _) (fa (fa (loop _ _ (fun _ => hQ) (fun h => absurd hq h))))⟩⟩
    · exact (fI_of (f := 10) (g := 9) _ p p _ (by decide)).trans (fI_at _ _ _ _)
    · exact (fI_of (f := 10) (g := 12) _ p p _ (by decide)).trans ((fI_of (f := 9) (g := 12) _ p p _ (by decide)).trans (hX12 _))
  · exact ⟨wrW (pI (pI w 12 p (pk (bt τ) (k + 1) (min 8 (e - (k + 1))))) 9 p ((k + 1 + min 8 (e - (k + 1)) : Nat) : Int)) 1 k, (hXs _).trans (wrW_st (hXs _).2.2.1 [] _ 1 k) (by decide) (by decide), Or.inl ⟨hq, cz w + 1, wrW_wr _ _ _, fun Q hQ => wC_X0_quoted (Nat.zero_le _) (fa (fa (loop _ _ (fun h => absurd h hq) (fun _ => hQ))))⟩⟩
/-- the figures' loop of next -/
theorem sC_figures (T : tpT τ) (W : WF p w) (R : tpC p w τ) {k e : Nat} (he : Run isFg (bt τ) k e) (hke0 : k < e) (ha : fI w 9 p = k) (hpl : fI w 11 p = k) (hm : cz w + 1 ≤ mz w ∧ cu w + 8 ≤ mu w) (Q : CW → Prop) (X : Nat → CW → Prop) (hexit : e - k ≤ 9 → Q (pI (pI (pI w 10 p 3) 13 p (nv (bt τ) k (e - k))) 9 p e)) (hthrow : 9 < e - k → X (cz w + 1) (wrW (pI (pI (pI w 10 p 3) 13 p (nv (bt τ) k 9)) 9 p ((k + 9 : Nat) : Int)) 1 k)) : pC_X0_next_93 p (wpC p (d + 5)) Q X 0 (pI (pI w 10 p 3) 13 p 0) := by
  have h1600 := T.2.1
  have hpz := W.pz
  have hb := bt_rg T
  have hk1 := bt_nn T (k := k) (by have := he.2.1 k (Nat.le_refl _) hke0; unfold isFg at this; omega)
  have hen := Run.le T he (fun c h => by unfold isFg at h; omega) (by omega)
  have hX : ∀ n, tpC p (pI (pI (pI w 10 p 3) 13 p (nv (bt τ) k n)) 9 p ((k + n : Nat) : Int)) τ := fun n => ((R.spI (by decide)).spI (by decide)).spI (by decide)
  have hX9 : ∀ n, fI (pI (pI (pI w 10 p 3) 13 p (nv (bt τ) k n)) 9 p ((k + n : Nat) : Int)) 9 p = ((k + n : Nat) : Int) := fun n => fI_at _ _ _ _
  have hX13 : ∀ n, fI (pI (pI (pI w 10 p 3) 13 p (nv (bt τ) k n)) 9 p ((k + n : Nat) : Int)) 13 p = nv (bt τ) k n := fun n => (fI_of _ _ _ _ (by decide)).trans (fI_at _ _ _ _)
  have hX11 : ∀ n, fI (pI (pI (pI w 10 p 3) 13 p (nv (bt τ) k n)) 9 p ((k + n : Nat) : Int)) 11 p = k := fun n => (fI_of _ _ _ _ (by decide)).trans ((fI_of _ _ _ _ (by decide)).trans ((fI_of _ _ _ _ (by decide)).trans hpl))
  intro I hI
  have key : ∀ m n : Nat, e - k - n ≤ m → n ≤ e - k → n ≤ 9 → I (n : Int) (pI (pI (pI w 10 p 3) 13 p (nv (bt τ) k n)) 9 p ((k + n : Nat) : Int)) := by
    intro m
    induction m with
    | zero =>
      intro n h1 h2 h3
      have hn : k + n = e := by omega
      have hnc : ¬ isFg (bt τ (k + n)) := by rw [hn]; exact he.2.2
      apply hI
      refine sC_unit T (hX n) (hX9 n) (sC_isFigure ⟨fun _ => ?_, fun h => ?_⟩)
      · have := hexit (by omega)
        rw [show e - k = n by omega, ← hn] at this
        exact this
      · exfalso
        by_cases z : isFg (sg8 (bt τ (k + n)))
        · exact hnc ((sg8_if (hb _)).2.mp z)
        · rw [if_neg z] at h; exact h rfl
    | succ m ih =>
      intro n h1 h2 h3
      by_cases hlt : n < e - k
      · have hf := he.2.1 (k + n) (by omega) (by omega)
        have hf' : isFg (bt τ (k + n)) := hf
        unfold isFg at hf
        apply hI
        refine sC_unit T (hX n) (hX9 n) (sC_isFigure ⟨fun h => ?_, fun _ => fa ?_⟩)
        · rw [if_pos ((sg8_if (hb _)).2.mpr hf')] at h; cases h
        · rw [hX11 n]
          by_cases h9 : n < 9
          · rw [if_pos (by omega)]
            refine sC_needOk (by decide) (sC_unit T (hX n) (hX9 n) (fa (fa (fa ?_))))
            have hr := nv_rg (b := bt τ) (k := k) n (by omega) (fun q h1 h2 => he.2.1 q h1 (by omega))
            have hp : (10 : Int) ^ n ≤ 100000000 := p10_8 _ (by omega)
            have e1 : pI (pI (pI (pI (pI w 10 p 3) 13 p (nv (bt τ) k n)) 9 p ((k + n : Nat) : Int)) 13 p (w32 ((w32 ((w32 (10 * (fI (pI (pI (pI w 10 p 3) 13 p (nv (bt τ) k n)) 9 p ((k + n : Nat) : Int)) 13 p))) + (sg8 (bt τ (k + n))))) - 48))) 9 p (w32 ((fI (pI (pI (pI (pI w 10 p 3) 13 p (nv (bt τ) k n)) 9 p ((k + n : Nat) : Int)) 13 p (w32 ((w32 ((w32 (10 * (fI (pI (pI (pI w 10 p 3) 13 p (nv (bt τ) k n)) 9 p ((k + n : Nat) : Int)) 13 p))) + (sg8 (bt τ (k + n))))) - 48))) 9 p) + 1)) = pI (pI (pI w 10 p 3) 13 p (nv (bt τ) k (n + 1))) 9 p ((k + (n + 1) : Nat) : Int) := by
              rw [hX13 n, sg8_id (by omega), fI_of (f := 13) (g := 9) _ p p _ (by decide), hX9 n, w32_k (by omega), pI_comm (pI (pI w 10 p 3) 13 p (nv (bt τ) k n)) (Or.inl (by decide)), pI_pI, pI_pI, w32_s (a := 10 * nv (bt τ) k n) (by omega) (by omega), w32_s (a := 10 * nv (bt τ) k n + bt τ (k + n)) (by omega) (by omega), w32_s (by omega) (by omega)]
              rfl
            rw [w32_k (by omega), e1]
            exact ih (n + 1) (by omega) (by omega) (by omega)
          · rw [if_neg (by omega)]
            have hn9 : n = 9 := by omega
            subst hn9
            exact sC_needNo rfl (by show cz w + 1 ≤ mz w ∧ cu w + 8 ≤ mu w; omega) (hthrow (by omega))
      · have hn : k + n = e := by omega
        have hnc : ¬ isFg (bt τ (k + n)) := by rw [hn]; exact he.2.2
        apply hI
        refine sC_unit T (hX n) (hX9 n) (sC_isFigure ⟨fun _ => ?_, fun h => ?_⟩)
        · have := hexit (by omega)
          rw [show e - k = n by omega, ← hn] at this
          exact this
        · exfalso
          by_cases z : isFg (sg8 (bt τ (k + n)))
          · exact hnc ((sg8_if (hb _)).2.mp z)
          · rw [if_neg z] at h; exact h rfl
  have := key (e - k) 0 (by omega) (by omega) (by omega)
  have e0 : pI (pI (pI w 10 p 3) 13 p (nv (bt τ) k 0)) 9 p ((k + 0 : Nat) : Int) = pI (pI w 10 p 3) 13 p 0 := pI_id ((fI_of (f := 13) (g := 9) _ p p _ (by decide)).trans ((fI_of (f := 10) (g := 9) _ p p _ (by decide)).trans ha))
  rw [e0] at this
  exact this
end ZLexQ
