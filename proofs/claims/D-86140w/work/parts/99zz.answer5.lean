/-! an answer of a rule, both: the whole -/
section ZAnswer5
variable {p b e d : Nat} {w : CW} {τ : TW} {α β α1 β1 : Type}
/-- both have moved on -/
theorem OUTb.al {T S S' T1 S1 S1' : List Nat} {A a a1 t : Int} {N : α → β → CW → TW → Prop} {cm cm' : (α → CW → Prop) → (Nat → CW → Prop) → Prop} {tm tm' : (β → TW → Prop) → Prop} {w' : CW} {τ' : TW} (hR : Rm A w τ) (hc : CF p T1 S1 S1' w τ w' τ') (hp : pot w' τ' ≤ pot w τ + a1) (hC : ∀ Q X, cm' Q X → cm Q X) (hT : ∀ Q, tm' Q → tm Q) (h2 : Rm (A - a1) w' τ' → OUTb p b T S S' (a - a1) (t - a1) N cm' tm' w' τ')
    (hTT : ∀ r, r ∈ T1 → r ∈ T ∨ b < r := by first | exact fun r hr => Or.inl hr | (intro r hr; cases hr)) (hS : ∀ f, f ∈ S1 → f ∈ S := by first | decide | exact fun f hf => hf | (intro f hf; cases hf; done)) (hS' : ∀ f, f ∈ S1' → f ∈ S' := by first | decide | exact fun f hf => hf | (intro f hf; cases hf; done)) : OUTb p b T S S' a t N cm tm w τ := by
  intro hb
  obtain ⟨w2, τ2, b2, c2, run, g⟩ := h2 (hR.to hc.1.emu hc.1.emz hp (Int.le_refl _)) (Nat.le_trans hb hc.1.1)
  have c1 : CFb p b T S S' w τ w' τ' := hc.b.mono hb hTT hS hS'
  refine ⟨w2, τ2, b2, c1.trans c2 (Nat.le_refl _) (fun r hr => Or.inl hr) (fun f hf => hf) (fun f hf => hf), fun Q hQ => hT _ (run _ hQ), ?_⟩
  rcases g with ⟨v2, rb2, p2, n2, k2⟩ | ⟨hh, pl, x, p2, wr2, dd2, k2⟩
  · exact Or.inl ⟨v2, rb2, by omega, n2, fun Q X hQ => hC _ _ (k2 _ _ hQ)⟩
  · exact Or.inr ⟨hh, pl, x, by omega, wr2, dd2, fun Q X hx => hC _ _ (k2 _ _ hx)⟩
/-- what is said of the end may be said otherwise -/
theorem OUTb.nn {T S S' : List Nat} {a t : Int} {N N' : α → β → CW → TW → Prop} {cm : (α → CW → Prop) → (Nat → CW → Prop) → Prop} {tm : (β → TW → Prop) → Prop} (h : OUTb p b T S S' a t N cm tm w τ) (hN : ∀ v v' w' τ', RB p w' τ' → CFb p b T S S' w τ w' τ' → N v v' w' τ' → N' v v' w' τ') : OUTb p b T S S' a t N' cm tm w τ := by
  intro hb
  obtain ⟨w', τ', b', c, run, g⟩ := h hb
  refine ⟨w', τ', b', c, run, ?_⟩
  rcases g with ⟨v, a1, a2, a3, a4⟩ | g
  · exact Or.inl ⟨v, a1, a2, hN _ _ _ _ a1 c a3, a4⟩
  · exact Or.inr g
/-- what is touched may be more -/
theorem OUTb.ts {T S S' T1 S1 S1' : List Nat} {a t : Int} {N : α → β → CW → TW → Prop} {cm : (α → CW → Prop) → (Nat → CW → Prop) → Prop} {tm : (β → TW → Prop) → Prop} (h : OUTb p b T1 S1 S1' a t N cm tm w τ) (hT : ∀ r, r ∈ T1 → r ∈ T ∨ b < r := by first | exact fun r hr => Or.inl hr | (intro r hr; cases hr)) (hS : ∀ f, f ∈ S1 → f ∈ S := by first | decide | exact fun f hf => hf | (intro f hf; cases hf; done)) (hS' : ∀ f, f ∈ S1' → f ∈ S' := by first | decide | exact fun f hf => hf | (intro f hf; cases hf; done)) : OUTb p b T S S' a t N cm tm w τ := by
  intro hb
  obtain ⟨w', τ', b', c, run, g⟩ := h hb
  exact ⟨w', τ', b', c.mono (Nat.le_refl _) hT hS hS', run, g⟩
theorem OUT.B {T S S' : List Nat} {a t : Int} {N : α → β → CW → TW → Prop} {cm : (α → CW → Prop) → (Nat → CW → Prop) → Prop} {tm : (β → TW → Prop) → Prop} (h : OUT p T S S' a t N cm tm w τ) : OUTb p b T S S' a t N cm tm w τ := by
  intro hb
  obtain ⟨w', τ', b', c, run, g⟩ := h
  exact ⟨w', τ', b', c.b.mono hb (fun r hr => Or.inl hr) (fun f hf => hf) (fun f hf => hf), run, g⟩
/-- a call of both without an answer, within a loop of the component's alone -/
theorem OUTb.gVC {ι : Type} {L F : (α → CW → Prop) → (Nat → CW → Prop) → ι → Prop} {T S S' T1 S1 S1' : List Nat} {A a a1 t t1 : Int} {N : α → β → CW → TW → Prop} {N1 : α1 → β1 → CW → TW → Prop} {cm1 : (α1 → CW → Prop) → (Nat → CW → Prop) → Prop} {tm : (β → TW → Prop) → Prop} {tm1 : (β1 → TW → Prop) → Prop} {F2 : CW → (α → CW → Prop) → (Nat → CW → Prop) → ι → Prop} {tm2 : TW → (β → TW → Prop) → Prop} (hR : Rm A w τ)
    (h1 : OUT p T1 S1 S1' a1 t1 N1 cm1 tm1 w τ) (hC : ∀ Q X I, L Q X I → cm1 (fun _ u => F2 u Q X I) X → F Q X I) (hT : ∀ Q, tm1 (fun _ u => tm2 u Q) → tm Q)
    (h2 : ∀ v v' u σ, RB p u σ → N1 v v' u σ → CF p T1 S1 S1' w τ u σ → Rm (A - a1) u σ → OUTb p b T S S' (a - a1) (t - a1) N (cmG L (F2 u)) (tm2 σ) u σ)
    (hd : ∀ h pl σ, Dd h pl σ → FT S1' τ σ → DD S' h pl (tm2 σ) σ)
    (hTT : ∀ r, r ∈ T1 → r ∈ T ∨ b < r := by first | exact fun r hr => Or.inl hr | (intro r hr; cases hr)) (hS : ∀ f, f ∈ S1 → f ∈ S := by first | decide | exact fun f hf => hf | (intro f hf; cases hf; done)) (hS' : ∀ f, f ∈ S1' → f ∈ S' := by first | decide | exact fun f hf => hf | (intro f hf; cases hf; done)) (ht : t1 ≤ t := by decide) : OUTb p b T S S' a t N (cmG L F) tm w τ :=
  OUTb.bd00 (cm2 := fun _ u => cmG L (F2 u)) (tm2 := fun _ σ => tm2 σ) hR h1 (fun Q X _ _ run k I l => hC Q X I l (run _ (k I l))) (fun Q X k I l => hC Q X I l (k _)) (fun Q b1 τ1 run h => hT Q (run _ h)) h2 (fun h pl _ σ => hd h pl σ) hTT hS hS' ht
/-- an answer: the object x against the reference's row R, over the names B and their sorts Sn -/
def AnR (B : Nat → Prop) (Sn : Nat → Int) (p b : Nat) (w : CW) (τ : TW) (x R : Nat) : Prop :=
  (tA τ 54 R = 0 ∧ fR w 62 x = 0 ∧ fI w 61 x = -1 ∧ fI w 60 x = tA τ 55 R ∧ -999999999 ≤ tA τ 55 R ∧ tA τ 55 R ≤ 999999999) ∨
  (tA τ 54 R = 1 ∧ fR w 62 x = 0 ∧ ∃ n : Nat, n < 8 ∧ B n ∧ Sn n = 0 ∧ fI w 61 x = n ∧ tA τ 55 R = n) ∨
  (tA τ 54 R = 2 ∧ fI w 63 x = tA τ 56 R ∧ fI w 64 x = tA τ 57 R ∧ ∃ m A C : Nat, 1 ≤ m ∧ m ≤ 800 ∧ tA τ 58 R = m ∧ fR w 62 x = A ∧ fR w 65 x = C ∧ IArr p w A m ∧ IArr p w C m ∧ b < A ∧ b < C ∧ ∀ j : Nat, j < m → ∃ k : Nat, aI w A j = k ∧ k < 8 ∧ B k ∧ (j < 3 → tA τ 59 (3 * R + j : Nat) = k ∧ tA τ 60 (3 * R + j : Nat) = aI w C j))
/-- names bound by now -/
def bdB (τ : TW) (n : Nat) : Prop := n < nN τ ∧ bit (tI τ 31) n = 1
/-- of the object x and the reference's rows all that an answer leaves -/
def AnK (w w' : CW) (τ τ' : TW) (x R : Nat) : Prop := (∀ f, f < 60 ∨ 65 < f → fI w' f x = fI w f x ∧ fR w' f x = fR w f x) ∧ (∀ f, f = 54 ∨ f = 55 ∨ f = 56 ∨ f = 57 ∨ f = 58 → ∀ y : Nat, y ≠ R → tA τ' f y = tA τ f y) ∧ ∀ y : Nat, y < 3 * R ∨ 3 * R + 3 ≤ y → tA τ' 59 y = tA τ 59 y ∧ tA τ' 60 y = tA τ 60 y
end ZAnswer5
