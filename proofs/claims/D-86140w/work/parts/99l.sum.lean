/-! a sum of a guard, both -/
section ZSum
variable {p d e : Nat} {w : CW} {τ : TW}
/-- a name that is bound to wholes -/
def wnB (τ : TW) (n : Nat) : Prop := bit (tI τ 31) n = 1 ∧ tA τ 30 (8 * nR τ + n : Nat) = 0
/-- one term: the component's place i of the guard g, the reference's row t -/
def TmR (B : Nat → Prop) (w : CW) (τ : TW) (g i t : Nat) : Prop := (tA τ 50 t = 2 ∧ ∃ n : Nat, (n < 8 ∧ B n) ∧ tA τ 51 t = n ∧ aI w (fR w 78 g) i = n) ∨ (tA τ 50 t = 1 ∧ aI w (fR w 78 g) i = -1 ∧ aI w (fR w 77 g) i = tA τ 51 t) ∨ (tA τ 50 t = 0 ∧ aI w (fR w 78 g) i = -1)
/-- the guard's own rows, below which nothing of the LetterPost lies -/
def GdA (p : Nat) (w : CW) (g : Nat) : Prop := tg w g = 13 ∧ p + 8 < g ∧ IArr p w (fR w 78 g) 4 ∧ IArr p w (fR w 77 g) 4 ∧ IArr p w (fR w 76 g) 2 ∧ fR w 77 g ≠ fR w 78 g ∧ fR w 76 g ≠ fR w 78 g ∧ fR w 76 g ≠ fR w 77 g
theorem GdA.cf {T S S' : List Nat} {w' : CW} {τ' : TW} {g : Nat} (h : GdA p w g) (W : WF p w) (c : CF p T S S' w τ w' τ') (hT : g ∉ T) : GdA p w' g ∧ fR w' 78 g = fR w 78 g ∧ fR w' 77 g = fR w 77 g ∧ fR w' 76 g = fR w 76 g := by
  obtain ⟨g1, g2, g3, g4, g5, g6, g7, g8⟩ := h
  have o := c.1.2.2.2.2 g (W.le (by rw [g1]; decide)) (fun z => by
    rcases List.mem_cons.mp z with y | y
    · omega
    · exact hT y)
  have hA : ∀ a n, IArr p w a n → IArr p w' a n := by
    intro a n ha
    have hz := W.le (r := a) (by rw [ha.1]; decide)
    exact ⟨by rw [(c.1.2.2.2.1 a hz).1]; exact ha.1, by rw [(c.1.2.2.2.1 a hz).2]; exact ha.2.1, ha.2.2⟩
  have e78 := ob.efR o 78
  have e77 := ob.efR o 77
  have e76 := ob.efR o 76
  refine ⟨?_, e78, e77, e76⟩
  unfold GdA
  rw [e78, e77, e76, ob.etg o]
  exact ⟨g1, g2, hA _ _ g3, hA _ _ g4, hA _ _ g5, g6, g7, g8⟩
theorem TmR.keep {B : Nat → Prop} {w w' : CW} {τ τ' : TW} {g i t : Nat} (h : TmR B w τ g i t) (e50 : tA τ' 50 t = tA τ 50 t) (e51 : tA τ' 51 t = tA τ 51 t) (e78 : aI w' (fR w' 78 g) i = aI w (fR w 78 g) i) (e77 : aI w' (fR w' 77 g) i = aI w (fR w 77 g) i) : TmR B w' τ' g i t := by
  unfold TmR
  rw [e50, e51, e78, e77]
  exact h
/-- a term, by what it leaves -/
theorem pr_term' {S S' T : List Nat} {g k t : Nat} (h : RB p w τ) (hN : NmR p w τ) (hG : GdA p w g) (hk : k < 4) (ht : t < 768) (hT : fR w 78 g ∈ T ∧ fR w 77 g ∈ T) (hgT : g ∉ T) (hi : aI w (fR w 78 g) k = -1) (hS : ∀ f, f ∈ [9, 10, 11, 12, 13, 14] → f ∈ S) (hS' : ∀ f, f ∈ [2, 3, 4, 5, 6, 7, 8, 50, 51] → f ∈ S') (hR : Rm 500 w τ) :
    OUT p T S S' (-5700) 60 (fun (_ : Unit) (_ : Unit) w' τ' => (∀ x : Nat, x ≠ t → tA τ' 50 x = tA τ 50 x ∧ tA τ' 51 x = tA τ 51 x) ∧ (∀ i : Nat, i ≠ k → aI w' (fR w 78 g) i = aI w (fR w 78 g) i ∧ aI w' (fR w 77 g) i = aI w (fR w 77 g) i) ∧ tA τ' 50 t ≠ 0 ∧ ((tA τ' 50 t = 2 ∧ ∃ n : Nat, (n < 8 ∧ wnB τ n) ∧ tA τ' 51 t = n ∧ aI w' (fR w 78 g) k = n) ∨ (tA τ' 50 t = 1 ∧ aI w' (fR w 78 g) k = -1 ∧ aI w' (fR w 77 g) k = tA τ' 51 t))) (fun Q X => wpC p (d + 15) 36 [ar p, ar g, ai k] w (zqV (Q ()) X)) (fun Q => wpT (e + 7) 40 [ai t] τ (zqV (Q ()) zno)) w τ := by
  obtain ⟨w1, τ1, b, c, run, g1⟩ := pr_term (d := d) (e := e) h hN hG.1 hG.2.2.1 hG.2.2.2.1 hG.2.2.2.2.2.1 hk ht hT hS hS' hR
  have h8 := hN.2.2.2.2.1
  refine ⟨w1, τ1, b, c, run, ?_⟩
  rcases g1 with ⟨a, q1, q2, ⟨n1, n2, n3⟩, q4⟩ | g1
  · refine Or.inl ⟨a, q1, q2, ⟨n1, n2, ?_, ?_⟩, q4⟩
    · rcases n3 with ⟨x, _⟩ | ⟨x, _⟩ <;> omega
    · rcases n3 with ⟨x, n, y1, y2, y3, y4, y5⟩ | ⟨x, y1, y2⟩
      · exact Or.inl ⟨x, n, ⟨by omega, y4, y5⟩, y2, y3⟩
      · exact Or.inr ⟨x, y1.trans hi, y2⟩
  · exact Or.inr g1
/-- the names stay, where neither writes them -/
theorem NmR.cf {T S S' : List Nat} {w' : CW} {τ' : TW} (h : NmR p w τ) (W : WF p w) (c : CF p T S S' w τ w' τ') (hT : ∀ r, r ∈ T → p + 8 < r) (hS : 15 ∉ S ∧ 16 ∉ S ∧ 17 ∉ S ∧ 18 ∉ S) (hS' : ∀ f, f ∈ S' → f < 27 ∨ 31 < f) : NmR p w' τ' ∧ nR τ' = nR τ ∧ nN τ' = nN τ ∧ ∀ v, nmB τ' v = nmB τ v := by
  obtain ⟨h1, e1, e2, e3⟩ := h.ft c.2.2.2.1 hS'
  refine ⟨?_, e1, e2, e3⟩
  obtain ⟨⟨⟨a1, a2, a3, a4⟩, a5, a6, a7, a8⟩, b1, b2, b3, b4, b5, b6, b7, b8, b9, b10⟩ := h1
  have f15 := (c.2.1 15 hS.1).2
  have f16 := (c.2.1 16 hS.2.1).2
  have f17 := (c.2.1 17 hS.2.2.1).1
  have f18 := (c.2.1 18 hS.2.2.2).1
  have nT : ∀ r, p < r → r ≤ p + 8 → r ∉ p :: T := by
    intro r h1 h2 hm
    rcases List.mem_cons.mp hm with y | y
    · omega
    · have := hT r y; omega
  have o15 := c.1.2.2.2.2 (fR w 15 p) (W.le (by rw [a1]; decide)) (nT _ a3 a4)
  have o16 := c.1.2.2.2.2 (fR w 16 p) (W.le (by rw [a5]; decide)) (nT _ a7 a8)
  refine ⟨⟨⟨by rw [f15, ob.etg o15]; exact a1, by rw [f15, ob.eln o15]; exact a2, by rw [f15]; exact a3, by rw [f15]; exact a4⟩, by rw [f16, ob.etg o16]; exact a5, by rw [f16, ob.eln o16]; exact a6, by rw [f16]; exact a7, by rw [f16]; exact a8⟩, b1, b2, b3, b4, by rw [f17]; exact b5, by rw [f18]; exact b6, b7, fun i hi => by rw [f15, ob.eaI o15]; exact b8 i hi, fun i hi => by rw [f16, ob.eaI o16]; exact b9 i hi, b10⟩
end ZSum
