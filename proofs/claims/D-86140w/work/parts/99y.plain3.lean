/-! a place-holder, texts, truths, none: both -/
section ZPlain3
variable {p b e d : Nat} {w : CW} {τ : TW}
theorem gIo {o : Nat} {q : Int} {I : PI} {QF : PQ} (h : tI τ 32 = o) (k : gI I QF q τ) : I q o τ := by
  have k' : I q (tI τ 32) τ := k
  rw [h] at k'
  exact k'
/-- what an object is for a row -/
def LD (w : CW) (r : Nat) (kd s A X : Int) : Prop := (kd = 0 ∧ tg w r = 6) ∨ (kd = 2 ∧ tg w r = 11 ∧ (fI w 75 r = A ∧ (A = 0 ∨ A = 1) ∧ s = 1)) ∨ (kd = 3 ∧ tg w r = 10 ∧ (fI w 74 r = X ∧ s = 2)) ∨ (kd = 4 ∧ tg w r = 12 ∧ 3 ≤ s)
theorem LD.pn {n o r : Nat} {s kd A X : Int} {S S' : List Nat} {w' : CW} {τ' : TW} (h : PS p w τ o) (c : CF p [] S S' w τ w' τ') (rb : RB p w' τ') (l : LF τ τ' o kd s A 0 X) (hb : b < r) (h68 : fI w' 68 r = -1) (hd : LD w' r kd s A X)
    (hS : ∀ f, f ∈ S → f ≠ 0 ∧ f ≠ 1 ∧ f ≠ 19 ∧ f ≠ 20 ∧ (f < 15 ∨ 18 < f) := by decide) (hS' : ∀ f, f ∈ S' → (f < 10 ∨ 15 < f) ∧ (f < 27 ∨ 32 < f) := by decide) : PN p b n τ s o r (((np τ : Nat) : Int), 1) w' τ' := by
  obtain ⟨l1, l2, l3, l4, l17, l18, l19, l20, l21, l22, l23, l24, l25, l26, l32, lr⟩ := l
  refine PN.leaf h c rb l1 l2 l3 l4 l18 l23 l24 l25 l26 hb h68 ?_ hS hS'
  rw [l17, l19, l20, l21, l22]
  rcases hd with ⟨a, a2⟩ | ⟨a, a2⟩ | ⟨a, a2⟩ | ⟨a, a2⟩
  · exact Or.inl ⟨a, a2⟩
  · exact Or.inr (Or.inr (Or.inl ⟨a, a2⟩))
  · exact Or.inr (Or.inr (Or.inr (Or.inl ⟨a, a2⟩)))
  · exact Or.inr (Or.inr (Or.inr (Or.inr (Or.inl ⟨a, a2⟩))))
theorem LD.fr {r : Nat} {kd s A X : Int} {w' : CW} (h : LD w r kd s A X) (o : ob w' r = ob w r) : LD w' r kd s A X := by
  unfold LD at *
  rw [ob.etg o, ob.efI o, ob.efI o]
  exact h
/-- an object is there, its token at hand: is it one too many, and the next token -/
theorem pl_322 {m n o r : Nat} {s much kd A X a t : Int} {w2 : CW} (h : PS p w τ o) (c2 : CF p [] [] [] w τ w2 τ) (rb2 : RB p w2 τ) (hR : Rm 900 w2 τ) (hb : b ≤ cz w) (hr : cz w < r) (h68 : fI w2 68 r = -1) (h1 : tI τ 3 ≠ 1) (h2 : tI τ 3 ≠ 2) (hs0 : tI τ 3 ≠ 0) (hx : b26 τ) (h34 : ¬ b34 s τ) (h6 : b6 τ = 0)
    (hkd : kd = (if b6 τ = 0 then (if b13 τ = 0 then (if (tI τ 3) = 4 then 3 else (if (tI τ 3) = 2 then 5 else (if (ff_isSign 40 τ) = 0 then (if (ff_isWord 10 τ) = 0 then 0 else 4) else 6))) else 2) else 1)) (hA : A = (if (ff_isWord 8 τ) = 0 then 0 else 1)) (hX : X = if (tI τ 3) = 4 then tI τ 4 else 0) (hd : LD w2 r kd s A X) (ha : -5900 ≤ a := by decide) (ht : 13 ≤ t := by decide) :
    OUTb p (cz w) [fR w 15 p, fR w 16 p] SPC SPT a t (fun r v w' τ' => much = 0 ∧ PN p b n τ s o r v w' τ') (fun Q X => pC_X0_plain_322 p (wpC p (m + 16)) (fun v w => zqR Q X (.inl (some (ar v))) w) (fun x w => zqR Q X (.inr x) w) much (fI w 11 p) r w2) (tmJ e gI (fun I _ => wpT (e + 8) 25 [ai s, ai much] τ (zqI (fun v u => I v o u) zno))) w2 τ := by
  obtain ⟨rb, hK, hN, e16, e5, e32, ho, hwi, hmu, hsl, hsq⟩ := id h
  have hnp : np τ < 1700 := by have := rb.rg; have : tI τ 5 = tI τ 5 := rfl; omega
  have hr2 := Rm.room rb2 hR (k := 1) (n := 8) (by decide)
  have e11 : fI w 11 p = tI τ 5 := rb.pl
  have htg : tg w2 r ≠ 0 := by
    rcases hd with ⟨_, y⟩ | ⟨_, y, _⟩ | ⟨_, y, _⟩ | ⟨_, y, _⟩ <;> rw [y] <;> decide
  by_cases hmz : much = 0
  · subst hmz
    refine OUTb.cc (fun Q X hh => bC_X0_plain_322 (fa (sC_needOk (by decide) hh))) (OUTb.jT (fun I QF cl k => bgL rb ⟨e16, hnp⟩ h1 h2 hx h34 hkd k) ?_)
    rw [h6]
    refine lf_go (m := m) h hR rb2 (by decide) (by omega) hs0 (A := A) (by rw [if_neg h2]; exact hA) hX hnp (C := fun u Q X => zqR Q X (.inl (some (ar r))) u) ?_ ?_ rb.f0 (fun u σ rb3 c3 hR3 l => ?_)
    · rcases hd with ⟨y, _⟩ | ⟨y, _⟩ | ⟨y, _⟩ | ⟨y, _⟩ <;> rw [y] <;> decide
    · rcases hd with ⟨y, _⟩ | ⟨y, _⟩ | ⟨y, _⟩ | ⟨y, _⟩ <;> rw [y] <;> decide
    · have o3 := c3.1.2.2.2.2 r (rb2.1.le htg) (by have := rb.1.pz; simp; omega)
      refine OUTb.iR (v := r) (q := np τ) rb3 ⟨rfl, LD.pn h ((c2.mono rb.1 (S := [9, 10, 11, 12, 13, 14]) (S' := [2, 3, 4, 5, 6, 16, 17, 18, 19, 20, 21, 22, 23, 24, 25, 26]) (T := []) (fun r hr => by cases hr) (fun f hf => by cases hf) (fun f hf => by cases hf)).trans c3 (fun r hr => by cases hr) (fun f hf => hf) (fun f hf => hf)) rb3 l (by omega) ((ob.efI o3 68).trans h68) (hd.fr o3)⟩ (fun Q X hh => hh) (fun I QF cl k => gIo l.2.2.2.2.2.2.2.2.2.2.2.2.2.2.1 k) (by omega)
  · exact OUTb.thr rb2 (fun Q X hh => bC_X0_plain_322 (fa (needNoP e11 (if_neg hmz) hr2 hh))) (thM rb ⟨e16, hnp⟩ h1 h2 hx h34 hmz) ht
end ZPlain3
