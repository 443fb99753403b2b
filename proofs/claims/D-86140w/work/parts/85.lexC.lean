/-! the component's next -/
section ZLexC
variable {p d : Nat} {w : CW} {τ : TW}
def sg8 (b : Int) : Int := if b < 128 then b else b - 256
/-- the component's tape -/
def tpC (p : Nat) (w : CW) (τ : TW) : Prop := tg w (fR w 7 p) = 101 ∧ ln w (fR w 7 p) = 1600 ∧ fI w 8 p = tI τ 1 ∧ ∀ k : Nat, (k : Int) < tI τ 1 → aI w (fR w 7 p) k = sg8 (tA τ 0 k)
theorem sg8_sm {b : Int} (h : -1 ≤ b ∧ b ≤ 255) {lo hi : Int} (h0 : 0 ≤ lo) (h1 : hi ≤ 127) : (lo ≤ sg8 b ∧ sg8 b ≤ hi) ↔ (lo ≤ b ∧ b ≤ hi) := by
  unfold sg8
  split <;> omega
theorem sg8_eq {b : Int} (h : -1 ≤ b ∧ b ≤ 255) {c : Int} (h0 : 0 ≤ c) (h1 : c ≤ 127) : sg8 b = c ↔ b = c := by
  unfold sg8
  split <;> omega
theorem sg8_id {b : Int} (h1 : b ≤ 127) : sg8 b = b := by
  unfold sg8
  rw [if_pos (by omega)]
theorem sC_unit {k : Nat} {x : Int} {Q : ZRes → CW → Prop} (T : tpT τ) (R : tpC p w τ) (hx : x = k) (hQ : Q (.inl (some (ai (sg8 (bt τ k))))) w) : wpC p (d + 1) 6 [ar p, ai x] w Q := by
  subst hx
  have h1600 := T.2.1
  refine wC_X0_unit (Nat.zero_le _) ⟨fun h => ⟨Or.inl R.1, by omega, ?_⟩, ?_⟩
  · rw [R.2.2.1] at h; rw [R.2.1]; omega
  · refine fa ?_
    rw [R.2.2.1]
    have e : (if ¬ (tI τ 1 ≤ (k : Int)) then aN w (fR w 7 p) (k : Int) else (-1)) = sg8 (bt τ k) := by
      by_cases z : tI τ 1 ≤ (k : Int)
      · rw [if_neg (fun q => q z), bt_ge z]; rfl
      · rw [if_pos z, bt_lt (by omega), ← R.2.2.2 k (by omega)]
        unfold aN
        rw [if_neg (by rw [R.1]; decide)]
    rw [e]
    exact hQ
theorem sC_isSmall {x : Int} {Q : ZRes → CW → Prop} (hQ : Q (.inl (some (ai (if isSm x then 1 else 0)))) w) : wpC p (d + 1) 7 [ai x] w Q := by
  refine wC_X0_isSmall (Nat.zero_le _) ?_
  refine fa ?_
  have e : (if ¬ (x < 97) ∧ (¬ (122 < x)) then (1 : Int) else 0) = if isSm x then 1 else 0 := by
    unfold isSm
    by_cases z : 97 ≤ x ∧ x ≤ 122
    · rw [if_pos z, if_pos ⟨by omega, by omega⟩]
    · rw [if_neg z, if_neg (by omega)]
  rw [e]; exact hQ
theorem sC_isFigure {x : Int} {Q : ZRes → CW → Prop} (hQ : Q (.inl (some (ai (if isFg x then 1 else 0)))) w) : wpC p (d + 1) 9 [ai x] w Q := by
  refine wC_X0_isFigure (Nat.zero_le _) ?_
  refine fa ?_
  have e : (if ¬ (x < 48) ∧ (¬ (57 < x)) then (1 : Int) else 0) = if isFg x then 1 else 0 := by
    unfold isFg
    by_cases z : 48 ≤ x ∧ x ≤ 57
    · rw [if_pos z, if_pos ⟨by omega, by omega⟩]
    · rw [if_neg z, if_neg (by omega)]
  rw [e]; exact hQ
/-- a Wrong, thrown -/
def wrW (w : CW) (how pl : Int) : CW := pI (pI (nO w 2 8) 35 (cz w + 1) how) 36 (cz w + 1) pl
def Wr (w : CW) (x : Nat) (how pl : Int) : Prop := tg w x = 2 ∧ fI w 35 x = how ∧ fI w 36 x = pl
theorem wrW_wr (w : CW) (how pl : Int) : Wr (wrW w how pl) (cz w + 1) how pl := by
  refine ⟨?_, ?_, ?_⟩
  · show tg (nO w 2 8) (cz w + 1) = 2
    rw [tg_nO, if_pos rfl]
  · unfold wrW; rw [fI_of _ _ _ _ (by decide), fI_at]
  · unfold wrW; rw [fI_at]
theorem wrW_fr (T : List Nat) (w : CW) (how pl : Int) : Fr T w (wrW w how pl) := (((Fr.refl T w).snO).spI (Or.inr (Nat.lt_succ_self _))).spI (Or.inr (Nat.lt_succ_self _))
theorem wrW_st (W : WF p w) (T S : List Nat) (how pl : Int) : St p T S 1 8 w (wrW w how pl) :=
  ⟨wrW_fr _ _ _ _, (((PF.refl S p w).snO W.pz).spI (Or.inr (by have := W.pz; omega))).spI (Or.inr (by have := W.pz; omega)), W.snO _ _, Nat.le_refl _, Nat.le_refl _⟩
theorem pR_clr (w : CW) (x a b c : Nat) (h : ∀ f, f = 29 ∨ f = 30 ∨ f = 31 ∨ f = 32 → fR w f x = 0) : pR (pR (pR (pR (pR (pR (pR w 29 x a) 30 x b) 31 x c) 30 x 0) 32 x 0) 29 x 0) 31 x 0 = w := by
  unfold pR
  refine Prod.ext rfl (Prod.ext rfl (Prod.ext rfl (Prod.ext (funext fun g => funext fun q => ?_) rfl)))
  show (if g = 31 ∧ q = x then 0 else if g = 29 ∧ q = x then 0 else if g = 32 ∧ q = x then 0 else if g = 30 ∧ q = x then 0 else if g = 31 ∧ q = x then c else if g = 30 ∧ q = x then b else if g = 29 ∧ q = x then a else fR w g q) = fR w g q
  by_cases e : q = x
  · subst e
    by_cases e1 : g = 31
    · rw [if_pos ⟨e1, rfl⟩, e1, h 31 (by simp)]
    · rw [if_neg (fun z => e1 z.1)]
      by_cases e2 : g = 29
      · rw [if_pos ⟨e2, rfl⟩, e2, h 29 (by simp)]
      · rw [if_neg (fun z => e2 z.1)]
        by_cases e3 : g = 32
        · rw [if_pos ⟨e3, rfl⟩, e3, h 32 (by simp)]
        · rw [if_neg (fun z => e3 z.1)]
          by_cases e4 : g = 30
          · rw [if_pos ⟨e4, rfl⟩, e4, h 30 (by simp)]
          · rw [if_neg (fun z => e4 z.1), if_neg (fun z => e1 z.1), if_neg (fun z => e4 z.1), if_neg (fun z => e2 z.1)]
  · rw [if_neg (fun z => e z.2), if_neg (fun z => e z.2), if_neg (fun z => e z.2), if_neg (fun z => e z.2), if_neg (fun z => e z.2), if_neg (fun z => e z.2), if_neg (fun z => e z.2)]
theorem sJ_excInit {x : Nat} {Q : ZRes → CW → Prop} (hx : x ≠ 0) (ht : tg w x = 2 ∨ tg w x = 18) (h : ∀ f, f = 29 ∨ f = 30 ∨ f = 31 ∨ f = 32 → fR w f x = 0) (hQ : Q (.inl none) w) : wpC p (d + 2) 205 [ar x, ar 0, ar 0, ai 0, ai 0] w Q := by
  have hp : ∀ f, f = 29 ∨ f = 30 ∨ f = 31 ∨ f = 32 → hP f (tg w x) = true := by
    intro f hf
    rcases ht with e | e <;> rw [e] <;> rcases hf with rfl | rfl | rfl | rfl <;> decide
  refine wC_J1_init (Nat.zero_le _) ⟨hx, wC_J0_init_2 (Nat.zero_le _) ⟨hx, hp _ (by simp), ?_⟩⟩
  refine fa ?_
  intro v6
  refine ⟨hp 30 (by simp), ?_⟩
  refine fa ?_
  intro v10
  refine ⟨hp 31 (by simp), ?_⟩
  refine fa ?_
  refine ⟨fun _ => ⟨hp 30 (by simp), ?_⟩, fun e => absurd rfl e⟩
  refine fa ?_
  refine ⟨hp 32 (by simp), ?_⟩
  refine fa ?_
  refine ⟨hp 29 (by simp), ?_⟩
  refine fa ?_
  refine ⟨fun _ => ⟨hp 31 (by simp), ?_⟩, fun e => absurd rfl e⟩
  refine fa ?_
  have := pR_clr w x x v6 v10 h
  show Q (.inl none) _
  rw [this]
  exact hQ
theorem sC_needOk {v how pl : Int} {Q : ZRes → CW → Prop} (hv : v ≠ 0) (hQ : Q (.inl none) w) : wpC p (d + 1) 10 [ar p, ai v, ai how, ai pl] w Q :=
  wC_X0_need (Nat.zero_le _) ⟨fun e => absurd e hv, fun _ => hQ⟩
theorem sC_needNo {v how pl : Int} {Q : ZRes → CW → Prop} (hv : v = 0) (hm : cz w + 1 ≤ mz w ∧ cu w + 8 ≤ mu w) (hQ : Q (.inr (cz w + 1)) (wrW w how pl)) : wpC p (d + 4) 10 [ar p, ai v, ai how, ai pl] w Q := by
  have et : tg (nO w 2 8) (cz w + 1) = 2 := by rw [tg_nO, if_pos rfl]
  refine wC_X0_need (Nat.zero_le _) ⟨fun _ => ⟨hm, ?_⟩, fun e => absurd hv e⟩
  refine fa ?_
  refine wC_X2_init (Nat.zero_le _) ⟨by omega, sJ_excInit (by omega) (Or.inl et) (fun f _ => by rw [fR_nO, if_pos rfl]) ⟨by rw [et]; decide, ?_⟩⟩
  refine fa ?_
  refine ⟨by show hP 36 (tg (nO w 2 8) (cz w + 1)) = true; rw [et]; decide, ?_⟩
  refine fa ?_
  exact hQ
theorem sC_want {v : Int} {Q : ZRes → CW → Prop} (hv : v ≠ 0) (hQ : Q (.inl none) w) : wpC p (d + 2) 14 [ar p, ai v] w Q :=
  wC_X0_want (Nat.zero_le _) (sC_needOk hv hQ)
theorem sC_wantNo {v : Int} {Q : ZRes → CW → Prop} (hv : v = 0) (hm : cz w + 1 ≤ mz w ∧ cu w + 8 ≤ mu w) (hQ : Q (.inr (cz w + 1)) (wrW w 2 (fI w 11 p))) : wpC p (d + 5) 14 [ar p, ai v] w Q :=
  wC_X0_want (Nat.zero_le _) (sC_needNo hv hm hQ)
theorem tpC.spI {f r : Nat} {v : Int} (R : tpC p w τ) (hf : f ≠ 8) : tpC p (pI w f r v) τ := ⟨R.1, R.2.1, by rw [fI_of _ _ _ _ (fun e => hf e.symm)]; exact R.2.2.1, R.2.2.2⟩
theorem tpC.st {T S : List Nat} {A B : Nat} {w' : CW} (R : tpC p w τ) (W : WF p w) (h : St p T S A B w w') (h7 : 7 ∉ S) (h8 : 8 ∉ S) (hT : fR w 7 p ∉ T) : tpC p w' τ := by
  have e7 := (h.2.1 7 h7).2
  have e8 := (h.2.1 8 h8).1
  have hne : fR w 7 p ≠ p := fun e => by have := R.1; rw [e, W.2.1] at this; cases this
  have ho := h.1.eob W (r := fR w 7 p) (by rw [R.1]; decide) (by simp; exact ⟨hne, hT⟩)
  refine ⟨by rw [e7, ob.etg ho]; exact R.1, by rw [e7, ob.eln ho]; exact R.2.1, by rw [e8]; exact R.2.2.1, fun k hk => by rw [e7, ob.eaI ho]; exact R.2.2.2 k hk⟩
theorem sC_blanks {a k : Nat} {Q : ZRes → CW → Prop} (T : tpT τ) (R : tpC p w τ) (ha : fI w 9 p = a) (hal : (a : Int) ≤ tI τ 1) (hk : Run isBl (bt τ) a k) (hQ : Q (.inl none) (pI w 9 p k)) : wpC p (d + 2) 5 [ar p] w Q := by
  have h1600 := T.2.1
  refine wC_X0_blanks (Nat.zero_le _) ?_
  intro I hI
  have hb : ∀ j, -1 ≤ bt τ j ∧ bt τ j ≤ 255 := bt_rg T
  have key : ∀ m j : Nat, k - j ≤ m → Run isBl (bt τ) j k → (j : Int) ≤ tI τ 1 → I (pI w 9 p j) := by
    intro m
    induction m with
    | zero =>
      intro j hj hr hjn
      apply hI
      have : k = j := by have := hr.1; omega
      have hbl := hr.2.2
      rw [this] at hbl
      refine sC_unit T (R.spI (by decide)) (fI_at _ _ _ _) ⟨fun h => ?_, fun _ => sC_unit T (R.spI (by decide)) (fI_at _ _ _ _) ⟨fun h => ?_, fun _ => by rw [← this]; exact hQ⟩⟩
      · exact absurd (Or.inl ((sg8_eq (hb _) (by decide) (by decide)).mp h)) hbl
      · exact absurd (Or.inr ((sg8_eq (hb _) (by decide) (by decide)).mp h)) hbl
    | succ m ih =>
      intro j hj hr hjn
      apply hI
      have step : isBl (bt τ j) → pC_X0_blanks_26 p (wpC p (d + 1)) (fun w => Q (.inl none) w) I (pI w 9 p j) := by
        intro hbl
        refine fa ?_
        have hj2 := bt_nn T (k := j) (fun e => by unfold isBl at hbl; omega)
        rw [fI_at, pI_pI, w32_s (by omega) (by omega)]
        have := ih (j + 1) (by omega) (hr.step hbl) (by omega)
        simpa using this
      refine sC_unit T (R.spI (by decide)) (fI_at _ _ _ _) ⟨fun h => step (Or.inl ((sg8_eq (hb _) (by decide) (by decide)).mp h)), fun h => sC_unit T (R.spI (by decide)) (fI_at _ _ _ _) ⟨fun h => step (Or.inr ((sg8_eq (hb _) (by decide) (by decide)).mp h)), fun h2 => ?_⟩⟩
      have hbl : ¬ isBl (bt τ j) := fun q => by
        rcases q with q | q
        · exact h ((sg8_eq (hb _) (by decide) (by decide)).mpr q)
        · exact h2 ((sg8_eq (hb _) (by decide) (by decide)).mpr q)
      have := hr.stop hbl
      rw [← this]
      exact hQ
  have := key _ a (Nat.le_refl _) hk hal
  rw [pI_id ha] at this
  exact this
end ZLexC
