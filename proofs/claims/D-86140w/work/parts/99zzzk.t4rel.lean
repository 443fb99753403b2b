/-! the text's relations don't hang on the reference's fault, rows' numbers and answers' functions -/
section ZT4
variable {p b e d : Nat} {w : CW} {τ : TW}
theorem t4_rwF (a b' : Int) (A B : Int → Int) (mul : Bool) (c : Nat → Nat) : ∀ i, rwF mul (t4 τ a b' A B) c i = rwF mul τ c i := by
  intro i
  induction i with
  | zero => rfl
  | succ i ih =>
    unfold rwF
    rw [ih]
    rfl
theorem t4_prF (a b' : Int) (A B : Int → Int) (c : Nat → Nat) : ∀ i, prF (t4 τ a b' A B) c i = prF τ c i := by
  intro i
  induction i with
  | zero => rfl
  | succ i ih =>
    unfold prF
    rw [ih]
    rfl
theorem t4_core (a b' : Int) (A B : Int → Int) (P : Nat → Nat → Nat → (Nat → Prop) → Prop) (Sn : Nat → Int) (N r q : Nat) (D : Nat → Prop) (nm : Int) : PCore P p b w (t4 τ a b' A B) Sn N r q D nm = PCore P p b w τ Sn N r q D nm := by
  unfold PCore
  simp only [t4_rwF]
  rfl
theorem t4_rel (a b' : Int) (A B : Int → Int) (Sn : Nat → Int) : ∀ n, PRel p b w (t4 τ a b' A B) Sn n = PRel p b w τ Sn n := by
  intro n
  induction n with
  | zero => rfl
  | succ n ih =>
    funext N r q D
    unfold PRel
    simp only [ih, t4_core]
    rfl
theorem t4_anr {a b' : Int} {A B : Int → Int} (hB : BX τ B) {Bd : Nat → Prop} {Sn : Nat → Int} {x R : Nat} (h : AnR Bd Sn p b w τ x R) : AnR Bd Sn p b w (t4 τ a b' A B) x R := by
  rcases h with ⟨h1, h2, h3, h4, h5, h6⟩ | ⟨h1, h2, n, h3, h4, h5, h6, h7⟩ | h
  · have e : tA (t4 τ a b' A B) 55 R = tA τ 55 R := hB R (by omega)
    exact Or.inl ⟨h1, h2, h3, by rw [e]; exact h4, by rw [e]; exact h5, by rw [e]; exact h6⟩
  · have e : tA (t4 τ a b' A B) 55 R = tA τ 55 R := hB R (by omega)
    exact Or.inr (Or.inl ⟨h1, h2, n, h3, h4, h5, h6, by rw [e]; exact h7⟩)
  · exact Or.inr (Or.inr h)
theorem t4_rur {a b' : Int} {A B : Int → Int} (hB : BX τ B) {f i x lo hi : Nat} (h : RuR p w τ f i x lo hi) : RuR p w (t4 τ a b' A B) f i x lo hi := by
  obtain ⟨h1, kn, h2, ⟨m, N, c, Di, c1, ⟨d1, d2, d3, d4, d5⟩, e1, e2, e3⟩, g1, g2⟩ := h
  refine ⟨h1, kn, h2, ⟨m, N, c, Di, c1, ⟨d1, d2, d3, d4, fun j hj => ?_⟩, e1, ?_, e3⟩, g1, t4_anr hB g2⟩
  · rw [t4_rel]
    exact d5 j hj
  · rw [t4_prF]
    exact e2
theorem t4_fn {a b' : Int} {A B : Int → Int} (hB : BX τ B) (h : FN p w τ) : FN p w (t4 τ a b' A B) := by
  obtain ⟨a1, a2, a3, a4, a5, a6⟩ := h
  obtain ⟨S, s1, s2⟩ := a5
  refine ⟨a1, a2, a3, a4, ⟨S, s1, fun f hf => ⟨(s2 f hf).1, ?_⟩⟩, a6⟩
  obtain ⟨m, k, h1, h2, h3, ⟨q1, q2, q3, s, q5, q4⟩, h5⟩ := (s2 f hf).2
  exact ⟨m, k, h1, h2, h3, ⟨q1, q2, q3, s, q5, fun i hi => ⟨(q4 i hi).1, t4_rur hB (q4 i hi).2⟩⟩, h5⟩
theorem t4_slN (a b' : Int) (A B : Int → Int) (k : Int) : ∀ n, slN (t4 τ a b' A B) k n = slN τ k n := by
  intro n
  induction n with
  | zero => rfl
  | succ n ih =>
    unfold slN
    rw [ih]
    rfl
theorem t4_kr {a b' : Int} {A B : Int → Int} (h : KR p w τ) : KR p w (t4 τ a b' A B) := by
  obtain ⟨a1, a2, a3, a4, a5, a6, a7, a8⟩ := h
  refine ⟨a1, a2, a3, a4, a5, a6, fun k hk => ?_, a8⟩
  rw [t4_slN]
  exact a7 k hk
end ZT4
