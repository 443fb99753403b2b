/-! an answer that begins with a name, both: is a call at hand -/
section ZAnswer4
variable {p b e d : Nat} {w : CW} {τ : TW}
theorem Run.uniq {P : Int → Prop} {bf : Nat → Int} {a k k' : Nat} (h : Run P bf a k) (h' : Run P bf a k') : k = k' := by
  rcases Nat.lt_trichotomy k k' with y | y | y
  · exact absurd (h'.2.1 k h.1 y) h.2.2
  · exact y
  · exact absurd (h.2.1 k' h'.1 y) h'.2.2
/-- the token that comes is a sign 40, or not, whoever reads it -/
theorem Lx_same {τ1 τ2 : TW} {bf : Nat → Int} {a : Nat} (h1 : Lx bf a (tI τ1 5) (tI τ1 6) (tI τ1 3) (tI τ1 4)) (h2 : Lx bf a (tI τ2 5) (tI τ2 6) (tI τ2 3) (tI τ2 4)) : ff_isSign 40 τ1 = ff_isSign 40 τ2 := by
  obtain ⟨k, r1, q1⟩ := Lx_40 h1
  obtain ⟨k', r2, q2⟩ := Lx_40 h2
  have := r1.uniq r2
  subst this
  by_cases z : bf k = 40
  · rw [ff_s1 (q1.mp z), ff_s1 (q2.mp z)]
  · rw [ff_s0 (fun y => z (q1.mpr y)), ff_s0 (fun y => z (q2.mpr y))]
end ZAnswer4
