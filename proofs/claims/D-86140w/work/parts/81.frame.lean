/-! the component's world, plainly: stores, frames -/
section ZFrame
theorem fa {α : Type} {e : α} {P : α → Prop} (h : P e) : ∀ x, x = e → P x := fun _ hx => hx ▸ h
theorem fR_pI (w : CW) (f r : Nat) (v : Int) (g q : Nat) : fR (pI w f r v) g q = fR w g q := rfl
theorem aI_pI (w : CW) (f r : Nat) (v : Int) : aI (pI w f r v) = aI w := rfl
theorem aR_pI (w : CW) (f r : Nat) (v : Int) : aR (pI w f r v) = aR w := rfl
theorem tg_pI (w : CW) (f r : Nat) (v : Int) : tg (pI w f r v) = tg w := rfl
theorem ln_pI (w : CW) (f r : Nat) (v : Int) : ln (pI w f r v) = ln w := rfl
theorem cz_pI (w : CW) (f r : Nat) (v : Int) : cz (pI w f r v) = cz w := rfl
theorem cu_pI (w : CW) (f r : Nat) (v : Int) : cu (pI w f r v) = cu w := rfl
theorem mz_pI (w : CW) (f r : Nat) (v : Int) : mz (pI w f r v) = mz w := rfl
theorem mu_pI (w : CW) (f r : Nat) (v : Int) : mu (pI w f r v) = mu w := rfl
theorem sr_pI (w : CW) (f r : Nat) (v : Int) : sr (pI w f r v) = sr w := rfl
theorem fI_pR (w : CW) (f r v g q : Nat) : fI (pR w f r v) g q = fI w g q := rfl
theorem aI_pR (w : CW) (f r v : Nat) : aI (pR w f r v) = aI w := rfl
theorem aR_pR (w : CW) (f r v : Nat) : aR (pR w f r v) = aR w := rfl
theorem tg_pR (w : CW) (f r v : Nat) : tg (pR w f r v) = tg w := rfl
theorem ln_pR (w : CW) (f r v : Nat) : ln (pR w f r v) = ln w := rfl
theorem cz_pR (w : CW) (f r v : Nat) : cz (pR w f r v) = cz w := rfl
theorem cu_pR (w : CW) (f r v : Nat) : cu (pR w f r v) = cu w := rfl
theorem mz_pR (w : CW) (f r v : Nat) : mz (pR w f r v) = mz w := rfl
theorem mu_pR (w : CW) (f r v : Nat) : mu (pR w f r v) = mu w := rfl
theorem sr_pR (w : CW) (f r v : Nat) : sr (pR w f r v) = sr w := rfl
theorem fI_qI (w : CW) (r : Nat) (i v : Int) : fI (qI w r i v) = fI w := rfl
theorem fR_qI (w : CW) (r : Nat) (i v : Int) : fR (qI w r i v) = fR w := rfl
theorem aR_qI (w : CW) (r : Nat) (i v : Int) : aR (qI w r i v) = aR w := rfl
theorem tg_qI (w : CW) (r : Nat) (i v : Int) : tg (qI w r i v) = tg w := rfl
theorem ln_qI (w : CW) (r : Nat) (i v : Int) : ln (qI w r i v) = ln w := rfl
theorem cz_qI (w : CW) (r : Nat) (i v : Int) : cz (qI w r i v) = cz w := rfl
theorem cu_qI (w : CW) (r : Nat) (i v : Int) : cu (qI w r i v) = cu w := rfl
theorem mz_qI (w : CW) (r : Nat) (i v : Int) : mz (qI w r i v) = mz w := rfl
theorem mu_qI (w : CW) (r : Nat) (i v : Int) : mu (qI w r i v) = mu w := rfl
theorem sr_qI (w : CW) (r : Nat) (i v : Int) : sr (qI w r i v) = sr w := rfl
theorem fI_qR (w : CW) (r : Nat) (i : Int) (v : Nat) : fI (qR w r i v) = fI w := rfl
theorem fR_qR (w : CW) (r : Nat) (i : Int) (v : Nat) : fR (qR w r i v) = fR w := rfl
theorem aI_qR (w : CW) (r : Nat) (i : Int) (v : Nat) : aI (qR w r i v) = aI w := rfl
theorem tg_qR (w : CW) (r : Nat) (i : Int) (v : Nat) : tg (qR w r i v) = tg w := rfl
theorem ln_qR (w : CW) (r : Nat) (i : Int) (v : Nat) : ln (qR w r i v) = ln w := rfl
theorem cz_qR (w : CW) (r : Nat) (i : Int) (v : Nat) : cz (qR w r i v) = cz w := rfl
theorem cu_qR (w : CW) (r : Nat) (i : Int) (v : Nat) : cu (qR w r i v) = cu w := rfl
theorem mz_qR (w : CW) (r : Nat) (i : Int) (v : Nat) : mz (qR w r i v) = mz w := rfl
theorem mu_qR (w : CW) (r : Nat) (i : Int) (v : Nat) : mu (qR w r i v) = mu w := rfl
theorem sr_qR (w : CW) (r : Nat) (i : Int) (v : Nat) : sr (qR w r i v) = sr w := rfl
theorem fI_nO (w : CW) (t n g q : Nat) : fI (nO w t n) g q = if q = cz w + 1 then 0 else fI w g q := rfl
theorem fR_nO (w : CW) (t n g q : Nat) : fR (nO w t n) g q = if q = cz w + 1 then 0 else fR w g q := rfl
theorem aI_nO (w : CW) (t n : Nat) : aI (nO w t n) = aI w := rfl
theorem aR_nO (w : CW) (t n : Nat) : aR (nO w t n) = aR w := rfl
theorem tg_nO (w : CW) (t n q : Nat) : tg (nO w t n) q = if q = cz w + 1 then t else tg w q := rfl
theorem ln_nO (w : CW) (t n : Nat) : ln (nO w t n) = ln w := rfl
theorem cz_nO (w : CW) (t n : Nat) : cz (nO w t n) = cz w + 1 := rfl
theorem cu_nO (w : CW) (t n : Nat) : cu (nO w t n) = cu w + n := rfl
theorem mz_nO (w : CW) (t n : Nat) : mz (nO w t n) = mz w := rfl
theorem mu_nO (w : CW) (t n : Nat) : mu (nO w t n) = mu w := rfl
theorem sr_nO (w : CW) (t n : Nat) : sr (nO w t n) = sr w := rfl
theorem fI_nA (w : CW) (t n : Nat) : fI (nA w t n) = fI w := rfl
theorem fR_nA (w : CW) (t n : Nat) : fR (nA w t n) = fR w := rfl
theorem aI_nA (w : CW) (t n q : Nat) (j : Int) : aI (nA w t n) q j = if q = cz w + 1 then 0 else aI w q j := rfl
theorem aR_nA (w : CW) (t n q : Nat) (j : Int) : aR (nA w t n) q j = if q = cz w + 1 then 0 else aR w q j := rfl
theorem tg_nA (w : CW) (t n q : Nat) : tg (nA w t n) q = if q = cz w + 1 then t else tg w q := rfl
theorem ln_nA (w : CW) (t n q : Nat) : ln (nA w t n) q = if q = cz w + 1 then n else ln w q := rfl
theorem cz_nA (w : CW) (t n : Nat) : cz (nA w t n) = cz w + 1 := rfl
theorem cu_nA (w : CW) (t n : Nat) : cu (nA w t n) = cu w + n := rfl
theorem mz_nA (w : CW) (t n : Nat) : mz (nA w t n) = mz w := rfl
theorem mu_nA (w : CW) (t n : Nat) : mu (nA w t n) = mu w := rfl
theorem sr_nA (w : CW) (t n : Nat) : sr (nA w t n) = sr w := rfl
/-- all that is kept at a reference -/
def ob (w : CW) (r : Nat) : Nat × Nat × (Nat → Int) × (Nat → Nat) × (Int → Int) × (Int → Nat) := (tg w r, ln w r, (fun f => fI w f r), (fun f => fR w f r), aI w r, aR w r)
theorem ob.etg {w w' : CW} {r : Nat} (h : ob w' r = ob w r) : tg w' r = tg w r := congrArg (·.1) h
theorem ob.eln {w w' : CW} {r : Nat} (h : ob w' r = ob w r) : ln w' r = ln w r := congrArg (·.2.1) h
theorem ob.efI {w w' : CW} {r : Nat} (h : ob w' r = ob w r) (f : Nat) : fI w' f r = fI w f r := congrArg (·.2.2.1 f) h
theorem ob.efR {w w' : CW} {r : Nat} (h : ob w' r = ob w r) (f : Nat) : fR w' f r = fR w f r := congrArg (·.2.2.2.1 f) h
theorem ob.eaI {w w' : CW} {r : Nat} (h : ob w' r = ob w r) (i : Int) : aI w' r i = aI w r i := congrArg (·.2.2.2.2.1 i) h
theorem ob.eaR {w w' : CW} {r : Nat} (h : ob w' r = ob w r) (i : Int) : aR w' r i = aR w r i := congrArg (·.2.2.2.2.2 i) h
/-- tags lie within what there is -/
def WF (p : Nat) (w : CW) : Prop := tg w 0 = 0 ∧ tg w p = 1 ∧ (∀ r, cz w < r → tg w r = 0) ∧ (0 ≤ fI w 1 p ∧ fI w 1 p ≤ 24) ∧ 0 ≤ fI w 6 p ∧ fI w 6 p ≤ 12
theorem WF.le {p : Nat} {w : CW} (h : WF p w) {r : Nat} (e : tg w r ≠ 0) : r ≤ cz w := by
  rcases Nat.lt_or_ge (cz w) r with x | x
  · exact absurd (h.2.2.1 r x) e
  · exact x
theorem WF.p0 {p : Nat} {w : CW} (h : WF p w) : p ≠ 0 := by
  intro e; have := h.1; rw [e] at h; rw [h.2.1] at this; exact absurd this (by decide)
theorem WF.spI {p : Nat} {w : CW} (h : WF p w) (f r : Nat) (v : Int) (hf : (f ≠ 1 ∧ f ≠ 6) ∨ p ≠ r := by first | exact Or.inl (by decide) | exact Or.inr (by omega)) : WF p (pI w f r v) := by
  refine ⟨h.1, h.2.1, h.2.2.1, ?_, ?_⟩
  · have e : fI (pI w f r v) 1 p = fI w 1 p := if_neg (by omega)
    rw [e]; exact h.2.2.2.1
  · have e : fI (pI w f r v) 6 p = fI w 6 p := if_neg (by omega)
    rw [e]; exact h.2.2.2.2
/-- how many kinds, functions there are: within bounds -/
theorem WF.set {p : Nat} {w : CW} (h : WF p w) (f : Nat) (v : Int) (h1 : f = 1 → 0 ≤ v ∧ v ≤ 24) (h6 : f = 6 → 0 ≤ v ∧ v ≤ 12) : WF p (pI w f p v) := by
  refine ⟨h.1, h.2.1, h.2.2.1, ?_, ?_⟩
  · by_cases z : f = 1
    · have e : fI (pI w f p v) 1 p = v := if_pos ⟨z.symm, rfl⟩
      rw [e]; exact h1 z
    · have e : fI (pI w f p v) 1 p = fI w 1 p := if_neg (by omega)
      rw [e]; exact h.2.2.2.1
  · by_cases z : f = 6
    · have e : fI (pI w f p v) 6 p = v := if_pos ⟨z.symm, rfl⟩
      rw [e]; exact h6 z
    · have e : fI (pI w f p v) 6 p = fI w 6 p := if_neg (by omega)
      rw [e]; exact h.2.2.2.2
theorem WF.spR {p : Nat} {w : CW} (h : WF p w) (f r v : Nat) : WF p (pR w f r v) := h
theorem WF.sqI {p : Nat} {w : CW} (h : WF p w) (r : Nat) (i v : Int) : WF p (qI w r i v) := h
theorem WF.sqR {p : Nat} {w : CW} (h : WF p w) (r : Nat) (i : Int) (v : Nat) : WF p (qR w r i v) := h
theorem WF.pz {p : Nat} {w : CW} (h : WF p w) : p ≤ cz w := h.le (by rw [h.2.1]; decide)
theorem WF.snO {p : Nat} {w : CW} (h : WF p w) (t n : Nat) : WF p (nO w t n) := by
  have hz := h.pz
  refine ⟨?_, ?_, fun r hr => ?_, ?_⟩
  · rw [tg_nO, if_neg (by omega)]; exact h.1
  · rw [tg_nO, if_neg (by omega)]; exact h.2.1
  · rw [cz_nO] at hr; rw [tg_nO, if_neg (by omega)]; exact h.2.2.1 r (by omega)
  · have e : ∀ f, fI (nO w t n) f p = fI w f p := fun f => if_neg (by omega)
    rw [e, e]; exact h.2.2.2
theorem WF.snA {p : Nat} {w : CW} (h : WF p w) (t n : Nat) : WF p (nA w t n) := by
  have hz := h.pz
  refine ⟨?_, ?_, fun r hr => ?_, h.2.2.2⟩
  · rw [tg_nA, if_neg (by omega)]; exact h.1
  · rw [tg_nA, if_neg (by omega)]; exact h.2.1
  · rw [cz_nA] at hr; rw [tg_nA, if_neg (by omega)]; exact h.2.2.1 r (by omega)
/-- what stays from w to w': all but the references of T; of T their tags and lengths -/
def Fr (T : List Nat) (w w' : CW) : Prop := cz w ≤ cz w' ∧ cu w ≤ cu w' ∧ w'.2.2.2.2.2.2.2.2 = w.2.2.2.2.2.2.2.2 ∧ (∀ r, r ≤ cz w → tg w' r = tg w r ∧ ln w' r = ln w r) ∧ ∀ r, r ≤ cz w → r ∉ T → ob w' r = ob w r
/-- of the LetterPost, but the fields of S -/
def PF (S : List Nat) (p : Nat) (w w' : CW) : Prop := ∀ f, f ∉ S → fI w' f p = fI w f p ∧ fR w' f p = fR w f p
theorem Fr.refl (T : List Nat) (w : CW) : Fr T w w := ⟨Nat.le_refl _, Nat.le_refl _, rfl, fun _ _ => ⟨rfl, rfl⟩, fun _ _ _ => rfl⟩
theorem Fr.trans {T : List Nat} {w w' w'' : CW} (h : Fr T w w') (k : Fr T w' w'') : Fr T w w'' :=
  ⟨Nat.le_trans h.1 k.1, Nat.le_trans h.2.1 k.2.1, k.2.2.1.trans h.2.2.1, fun r hr => ⟨(k.2.2.2.1 r (Nat.le_trans hr h.1)).1.trans (h.2.2.2.1 r hr).1, (k.2.2.2.1 r (Nat.le_trans hr h.1)).2.trans (h.2.2.2.1 r hr).2⟩, fun r hr ht => (k.2.2.2.2 r (Nat.le_trans hr h.1) ht).trans (h.2.2.2.2 r hr ht)⟩
/-- references that came later need not be named -/
theorem Fr.trans' {T T' : List Nat} {w w' w'' : CW} (h : Fr T w w') (k : Fr T' w' w'') (hT : ∀ r, r ∈ T' → r ∈ T ∨ cz w < r) : Fr T w w'' :=
  ⟨Nat.le_trans h.1 k.1, Nat.le_trans h.2.1 k.2.1, k.2.2.1.trans h.2.2.1, fun r hr => ⟨(k.2.2.2.1 r (Nat.le_trans hr h.1)).1.trans (h.2.2.2.1 r hr).1, (k.2.2.2.1 r (Nat.le_trans hr h.1)).2.trans (h.2.2.2.1 r hr).2⟩, fun r hr ht => (k.2.2.2.2 r (Nat.le_trans hr h.1) (fun q => by rcases hT r q with x | x; exact ht x; omega)).trans (h.2.2.2.2 r hr ht)⟩
theorem Fr.mono {T T' : List Nat} {w w' : CW} (h : Fr T w w') (hT : ∀ r, r ∈ T → r ∈ T' ∨ cz w < r) : Fr T' w w' := (Fr.refl T' w).trans' h hT
theorem Fr.spI {T : List Nat} {w w' : CW} (h : Fr T w w') {f r : Nat} {v : Int} (hr : r ∈ T ∨ cz w < r) : Fr T w (pI w' f r v) :=
  ⟨h.1, h.2.1, h.2.2.1, h.2.2.2.1, fun q hq ht => by
    have e : q ≠ r := by rintro rfl; rcases hr with x | x; exact ht x; omega
    rw [← h.2.2.2.2 q hq ht]
    have : (fun g => fI (pI w' f r v) g q) = fun g => fI w' g q := by funext g; rw [fI_pI, if_neg (fun x => e x.2)]
    show (_, _, (fun g => fI (pI w' f r v) g q), _, _) = _
    rw [this]; rfl⟩
theorem Fr.spR {T : List Nat} {w w' : CW} (h : Fr T w w') {f r v : Nat} (hr : r ∈ T ∨ cz w < r) : Fr T w (pR w' f r v) :=
  ⟨h.1, h.2.1, h.2.2.1, h.2.2.2.1, fun q hq ht => by
    have e : q ≠ r := by rintro rfl; rcases hr with x | x; exact ht x; omega
    rw [← h.2.2.2.2 q hq ht]
    have : (fun g => fR (pR w' f r v) g q) = fun g => fR w' g q := by funext g; rw [fR_pR, if_neg (fun x => e x.2)]
    show (_, _, _, (fun g => fR (pR w' f r v) g q), _, _) = _
    rw [this]; rfl⟩
theorem Fr.sqI {T : List Nat} {w w' : CW} (h : Fr T w w') {r : Nat} {i v : Int} (hr : r ∈ T ∨ cz w < r) : Fr T w (qI w' r i v) :=
  ⟨h.1, h.2.1, h.2.2.1, h.2.2.2.1, fun q hq ht => by
    have e : q ≠ r := by rintro rfl; rcases hr with x | x; exact ht x; omega
    rw [← h.2.2.2.2 q hq ht]
    have : aI (qI w' r i v) q = aI w' q := by funext j; rw [aI_qI, if_neg (fun x => e x.1)]
    show (_, _, _, _, aI (qI w' r i v) q, _) = _
    rw [this]; rfl⟩
theorem Fr.sqR {T : List Nat} {w w' : CW} (h : Fr T w w') {r : Nat} {i : Int} {v : Nat} (hr : r ∈ T ∨ cz w < r) : Fr T w (qR w' r i v) :=
  ⟨h.1, h.2.1, h.2.2.1, h.2.2.2.1, fun q hq ht => by
    have e : q ≠ r := by rintro rfl; rcases hr with x | x; exact ht x; omega
    rw [← h.2.2.2.2 q hq ht]
    have : aR (qR w' r i v) q = aR w' q := by funext j; rw [aR_qR, if_neg (fun x => e x.1)]
    show (_, _, _, _, _, aR (qR w' r i v) q) = _
    rw [this]; rfl⟩
theorem Fr.snO {T : List Nat} {w w' : CW} (h : Fr T w w') {t n : Nat} : Fr T w (nO w' t n) :=
  ⟨Nat.le_succ_of_le h.1, Nat.le_trans h.2.1 (Nat.le_add_right _ _), h.2.2.1, fun q hq => ⟨by rw [tg_nO, if_neg (by have := h.1; omega)]; exact (h.2.2.2.1 q hq).1, (h.2.2.2.1 q hq).2⟩, fun q hq ht => by
    have e : q ≠ cz w' + 1 := by have := h.1; omega
    rw [← h.2.2.2.2 q hq ht]
    have e1 : tg (nO w' t n) q = tg w' q := by rw [tg_nO, if_neg e]
    have e2 : (fun g => fI (nO w' t n) g q) = fun g => fI w' g q := by funext g; rw [fI_nO, if_neg e]
    have e3 : (fun g => fR (nO w' t n) g q) = fun g => fR w' g q := by funext g; rw [fR_nO, if_neg e]
    show (tg (nO w' t n) q, _, (fun g => fI (nO w' t n) g q), (fun g => fR (nO w' t n) g q), _, _) = _
    rw [e1, e2, e3]; rfl⟩
theorem Fr.snA {T : List Nat} {w w' : CW} (h : Fr T w w') {t n : Nat} : Fr T w (nA w' t n) :=
  ⟨Nat.le_succ_of_le h.1, Nat.le_trans h.2.1 (Nat.le_add_right _ _), h.2.2.1, fun q hq => ⟨by rw [tg_nA, if_neg (by have := h.1; omega)]; exact (h.2.2.2.1 q hq).1, by rw [ln_nA, if_neg (by have := h.1; omega)]; exact (h.2.2.2.1 q hq).2⟩, fun q hq ht => by
    have e : q ≠ cz w' + 1 := by have := h.1; omega
    rw [← h.2.2.2.2 q hq ht]
    have e1 : tg (nA w' t n) q = tg w' q := by rw [tg_nA, if_neg e]
    have e4 : ln (nA w' t n) q = ln w' q := by rw [ln_nA, if_neg e]
    have e2 : aI (nA w' t n) q = aI w' q := by funext g; rw [aI_nA, if_neg e]
    have e3 : aR (nA w' t n) q = aR w' q := by funext g; rw [aR_nA, if_neg e]
    show (tg (nA w' t n) q, ln (nA w' t n) q, _, _, aI (nA w' t n) q, aR (nA w' t n) q) = _
    rw [e1, e2, e3, e4]; rfl⟩
theorem Fr.le {T : List Nat} {w w' : CW} (h : Fr T w w') : cz w ≤ cz w' := h.1
theorem Fr.etg {T : List Nat} {w w' : CW} (h : Fr T w w') {p r : Nat} (W : WF p w) (e : tg w r ≠ 0) : tg w' r = tg w r := (h.2.2.2.1 r (W.le e)).1
theorem Fr.eln {T : List Nat} {w w' : CW} (h : Fr T w w') {p r : Nat} (W : WF p w) (e : tg w r ≠ 0) : ln w' r = ln w r := (h.2.2.2.1 r (W.le e)).2
theorem Fr.eob {T : List Nat} {w w' : CW} (h : Fr T w w') {p r : Nat} (W : WF p w) (e : tg w r ≠ 0) (ht : r ∉ T) : ob w' r = ob w r := h.2.2.2.2 r (W.le e) ht
theorem Fr.emz {T : List Nat} {w w' : CW} (h : Fr T w w') : mz w' = mz w := congrArg (·.2.1) h.2.2.1
theorem Fr.emu {T : List Nat} {w w' : CW} (h : Fr T w w') : mu w' = mu w := congrArg (·.2.2.1) h.2.2.1
theorem Fr.esr {T : List Nat} {w w' : CW} (h : Fr T w w') (k : Nat) : sr w' k = sr w k := congrArg (fun x => x.2.2.2 k) h.2.2.1
theorem PF.refl (S : List Nat) (p : Nat) (w : CW) : PF S p w w := fun _ _ => ⟨rfl, rfl⟩
theorem PF.trans {S : List Nat} {p : Nat} {w w' w'' : CW} (h : PF S p w w') (k : PF S p w' w'') : PF S p w w'' := fun f hf => ⟨(k f hf).1.trans (h f hf).1, (k f hf).2.trans (h f hf).2⟩
theorem PF.mono {S S' : List Nat} {p : Nat} {w w' : CW} (h : PF S p w w') (hs : ∀ f, f ∈ S → f ∈ S') : PF S' p w w' := fun f hf => h f (fun x => hf (hs f x))
theorem PF.of {S T : List Nat} {p : Nat} {w w' : CW} (h : Fr T w w') (hp : p ≤ cz w) (ht : p ∉ T) : PF S p w w' := fun f _ => ⟨ob.efI (h.2.2.2.2 p hp ht) f, ob.efR (h.2.2.2.2 p hp ht) f⟩
theorem PF.spI {S : List Nat} {p : Nat} {w w' : CW} (h : PF S p w w') {f r : Nat} {v : Int} (hr : f ∈ S ∨ p ≠ r) : PF S p w (pI w' f r v) := fun g hg => ⟨by
  rw [fI_pI, if_neg (by rintro ⟨rfl, rfl⟩; rcases hr with x | x; exact hg x; exact x rfl)]; exact (h g hg).1, (h g hg).2⟩
theorem PF.spR {S : List Nat} {p : Nat} {w w' : CW} (h : PF S p w w') {f r v : Nat} (hr : f ∈ S ∨ p ≠ r) : PF S p w (pR w' f r v) := fun g hg => ⟨(h g hg).1, by
  rw [fR_pR, if_neg (by rintro ⟨rfl, rfl⟩; rcases hr with x | x; exact hg x; exact x rfl)]; exact (h g hg).2⟩
theorem PF.sqI {S : List Nat} {p : Nat} {w w' : CW} (h : PF S p w w') {r : Nat} {i v : Int} : PF S p w (qI w' r i v) := h
theorem PF.sqR {S : List Nat} {p : Nat} {w w' : CW} (h : PF S p w w') {r : Nat} {i : Int} {v : Nat} : PF S p w (qR w' r i v) := h
theorem PF.snO {S : List Nat} {p : Nat} {w w' : CW} (h : PF S p w w') {t n : Nat} (hp : p ≤ cz w') : PF S p w (nO w' t n) := fun g hg => ⟨by
  rw [fI_nO, if_neg (by omega)]; exact (h g hg).1, by rw [fR_nO, if_neg (by omega)]; exact (h g hg).2⟩
theorem PF.snA {S : List Nat} {p : Nat} {w w' : CW} (h : PF S p w w') {t n : Nat} : PF S p w (nA w' t n) := h
/-- the reference's frame: but the fields and arrays of S -/
def FT (S : List Nat) (τ τ' : TW) : Prop := ∀ f, f ∉ S → tI τ' f = tI τ f ∧ ∀ i, tA τ' f i = tA τ f i
theorem FT.refl (S : List Nat) (τ : TW) : FT S τ τ := fun _ _ => ⟨rfl, fun _ => rfl⟩
theorem FT.trans {S : List Nat} {τ τ' τ'' : TW} (h : FT S τ τ') (k : FT S τ' τ'') : FT S τ τ'' := fun f hf => ⟨(k f hf).1.trans (h f hf).1, fun i => ((k f hf).2 i).trans ((h f hf).2 i)⟩
theorem FT.mono {S S' : List Nat} {τ τ' : TW} (h : FT S τ τ') (hs : ∀ f, f ∈ S → f ∈ S') : FT S' τ τ' := fun f hf => h f (fun x => hf (hs f x))
theorem FT.ssI {S : List Nat} {τ τ' : TW} (h : FT S τ τ') {f : Nat} {v : Int} (hf : f ∈ S) : FT S τ (sI τ' f v) := fun g hg => ⟨by
  rw [tI_sI, if_neg (by rintro rfl; exact hg hf)]; exact (h g hg).1, (h g hg).2⟩
theorem FT.ssA {S : List Nat} {τ τ' : TW} (h : FT S τ τ') {f : Nat} {i v : Int} (hf : f ∈ S) : FT S τ (sA τ' f i v) := fun g hg => ⟨(h g hg).1, fun j => by
  rw [tA_sA, if_neg (by rintro ⟨rfl, _⟩; exact hg hf)]; exact (h g hg).2 j⟩
end ZFrame
section ZFrame2
theorem pI_pI (w : CW) (f r : Nat) (v v' : Int) : pI (pI w f r v) f r v' = pI w f r v' := by
  unfold pI
  refine Prod.ext rfl (Prod.ext rfl (Prod.ext (funext fun g => funext fun q => ?_) rfl))
  show (if g = f ∧ q = r then v' else if g = f ∧ q = r then v else w.2.2.1 g q) = if g = f ∧ q = r then v' else w.2.2.1 g q
  by_cases e : g = f ∧ q = r
  · rw [if_pos e, if_pos e]
  · rw [if_neg e, if_neg e, if_neg e]
theorem pI_id {w : CW} {f r : Nat} {v : Int} (h : fI w f r = v) : pI w f r v = w := by
  unfold pI
  refine Prod.ext rfl (Prod.ext rfl (Prod.ext (funext fun g => funext fun q => ?_) rfl))
  show (if g = f ∧ q = r then v else w.2.2.1 g q) = w.2.2.1 g q
  by_cases e : g = f ∧ q = r
  · rw [if_pos e, e.1, e.2]; exact h.symm
  · rw [if_neg e]
theorem pI_comm (w : CW) {f r g q : Nat} (h : f ≠ g ∨ r ≠ q) (v v' : Int) : pI (pI w f r v) g q v' = pI (pI w g q v') f r v := by
  unfold pI
  refine Prod.ext rfl (Prod.ext rfl (Prod.ext (funext fun a => funext fun b => ?_) rfl))
  show (if a = g ∧ b = q then v' else if a = f ∧ b = r then v else w.2.2.1 a b) = if a = f ∧ b = r then v else if a = g ∧ b = q then v' else w.2.2.1 a b
  by_cases e : a = g ∧ b = q
  · by_cases e2 : a = f ∧ b = r
    · exfalso; rcases h with h | h
      · exact h (e2.1.symm.trans e.1)
      · exact h (e2.2.symm.trans e.2)
    · rw [if_pos e, if_neg e2, if_pos e]
  · by_cases e2 : a = f ∧ b = r
    · rw [if_neg e, if_pos e2, if_pos e2]
    · rw [if_neg e, if_neg e2, if_neg e2, if_neg e]
theorem fI_at (w : CW) (f r : Nat) (v : Int) : fI (pI w f r v) f r = v := if_pos ⟨rfl, rfl⟩
theorem fI_of (w : CW) {f g : Nat} (r q : Nat) (v : Int) (h : g ≠ f) : fI (pI w f r v) g q = fI w g q := if_neg (fun e => h e.1)
theorem fR_at (w : CW) (f r v : Nat) : fR (pR w f r v) f r = v := if_pos ⟨rfl, rfl⟩
theorem fR_of (w : CW) {f g : Nat} (r q v : Nat) (h : g ≠ f) : fR (pR w f r v) g q = fR w g q := if_neg (fun e => h e.1)
/-- a step of the component: T may change (and p), of p the fields of S; A cells and B slots more -/
def St (p : Nat) (T S : List Nat) (A B : Nat) (w w' : CW) : Prop := Fr (p :: T) w w' ∧ PF S p w w' ∧ WF p w' ∧ cz w' ≤ cz w + A ∧ cu w' ≤ cu w + B
theorem St.refl {p : Nat} {w : CW} (W : WF p w) (T S : List Nat) (A B : Nat) : St p T S A B w w := ⟨Fr.refl _ _, PF.refl _ _ _, W, Nat.le_add_right _ _, Nat.le_add_right _ _⟩
theorem St.trans {p : Nat} {T S : List Nat} {A B A' B' A'' B'' : Nat} {w w' w'' : CW} (h : St p T S A B w w') (k : St p T S A' B' w' w'') (ha : A + A' ≤ A'') (hb : B + B' ≤ B'') : St p T S A'' B'' w w'' :=
  ⟨h.1.trans k.1, h.2.1.trans k.2.1, k.2.2.1, by have := h.2.2.2.1; have := k.2.2.2.1; omega, by have := h.2.2.2.2; have := k.2.2.2.2; omega⟩
theorem St.mono {p : Nat} {T S T' S' : List Nat} {A B A' B' : Nat} {w w' : CW} (h : St p T S A B w w') (hT : ∀ r, r ∈ T → r ∈ T' ∨ cz w < r) (hS : ∀ f, f ∈ S → f ∈ S') (ha : A ≤ A') (hb : B ≤ B') : St p T' S' A' B' w w' :=
  ⟨h.1.mono (fun r hr => by
    rcases List.mem_cons.mp hr with e | e
    · exact Or.inl (List.mem_cons.mpr (Or.inl e))
    · rcases hT r e with q | q
      · exact Or.inl (List.mem_cons.mpr (Or.inr q))
      · exact Or.inr q), h.2.1.mono hS, h.2.2.1, by have := h.2.2.2.1; omega, by have := h.2.2.2.2; omega⟩
end ZFrame2
