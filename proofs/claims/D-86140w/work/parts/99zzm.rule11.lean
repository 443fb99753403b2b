/-! a rule's end, both: its guard -/
section ZRule11
variable {p b e d : Nat} {w : CW} {τ : TW}
theorem RuE.pre {f i F R x rr lo : Nat} {u0 u1 w' : CW} {σ0 σ1 τ' : TW} (h : RuE p f i F R x rr lo u1 σ1 w' τ') (e66 : fR u1 66 x = fR u0 66 x) (err : ∀ j, aR u1 rr j = aR u0 rr j) (eF : ∀ g, fI u1 g F = fI u0 g F ∧ fR u1 g F = fR u0 g F) (e45 : ∀ y, tA σ1 45 y = tA σ0 45 y) (hU : URo σ0 σ1 R) : RuE p f i F R x rr lo u0 σ0 w' τ' := by
  obtain ⟨a1, a2, a3, a4, ⟨a5, a6, a7⟩, ⟨a8, a9⟩, a10⟩ := h
  exact ⟨a1, a2, a3.trans e66, fun j => by rw [a4 j, err], ⟨a5, fun g hg => (a6 g hg).trans (eF g).1, fun g => (a7 g).trans (eF g).2⟩, ⟨a8, fun y hy => (a9 y hy).trans (e45 y)⟩, hU.trans a10⟩
/-- the patterns, as they are kept -/
theorem RLI.pts {f R A i m : Nat} {u0 u : CW} {σ0 σ : TW} {c : Nat → Nat} {Di : Nat → Nat → Prop} {Sn : Nat → Nat → Int} (h : RLI p f R A u0 σ0 m u σ c Di Sn) (W : WF p u) (hR : R = 16 * f + i) (hA : p + 8 ≤ A) (m1 : 1 ≤ m) (hN0 : nN σ0 = 0) : PTS p f i m A u σ (nN σ) := by
  obtain ⟨⟨q1, q2, q3, q4, q5⟩, a2, a3, a4, ⟨a5, a6, a7⟩, a8, a9, a10, a11⟩ := h
  subst hR
  refine ⟨c, Di, a6 (by omega), ⟨q1, q2 (by omega), q3, q4, fun j hj => ?_⟩, fun j hj => (a8 j hj).1, a5, fun n => ⟨fun hn => ?_, fun hn => (a4.2.2.1 n hn).1⟩⟩
  · refine PRel.fr W (Fr.refl [] u) hA ⟨Nat.le_refl _, fun _ _ => ⟨rfl, rfl, fun _ _ => rfl⟩⟩ 7 _ _ _ _ (fun x hx => by cases hx) (fun _ _ _ _ _ => rfl) (fun _ _ _ => rfl) (fun n hn => ?_) (q5 j hj)
    rw [a2 j hj n hn]
    unfold SnR SnT
    rw [a3]
  · rcases a4.1.2 n hn with y | y
    · omega
    · exact y
/-- what the rule at hand is, and where it goes -/
def RuH (p f i F x A rr s67 : Nat) (u : CW) (σ : TW) : Prop := (fI u 56 x = i ∧ fI u 57 x = tA σ 48 (16 * f + i : Nat) ∧ fI u 61 x = -1 ∧ fR u 59 x = 0 ∧ fR u 62 x = 0 ∧ fR u 67 x = s67) ∧ (IArr p u s67 8 ∧ s67 = x + 1 ∧ s67 < A) ∧ (fI u 48 F = i ∧ fR u 47 F = rr) ∧ (tg u rr = 117 ∧ ln u rr = 16 ∧ p + 8 < rr) ∧ tA σ 45 f = i
theorem RuH.on {f i F x A rr s67 m R : Nat} {T S S' : List Nat} {u u' : CW} {σ σ' : TW} (h : RuH p f i F x A rr s67 u σ) (W : WF p u) (c : CF p T S S' u σ u' σ') (eF : ∀ g, fI u' g F = fI u g F ∧ fR u' g F = fR u g F) (ex : ∀ g, fI u' g x = fI u g x ∧ fR u' g x = fR u g x) (hT : s67 ∉ T ∧ rr ∉ T) (hS' : ∀ f, f ∈ S' → f ≠ 45 ∧ f ≠ 48) : RuH p f i F x A rr s67 u' σ' ∧ ∀ j, aR u' rr j = aR u rr j := by
  obtain ⟨⟨a1, a2, a3, a4, a5, a6⟩, ⟨b1, b2, b3⟩, ⟨c1, c2⟩, ⟨d1, d2, d3⟩, e1⟩ := h
  have F' := c.2.2.2.1
  have os := b1.fr W c.1 (fun y => by rcases List.mem_cons.mp y with z | z; have := b1.2.2; omega; exact hT.1 z)
  have orr := c.1.2.2.2.2 rr (W.le (by rw [d1]; decide)) (fun y => by rcases List.mem_cons.mp y with z | z; omega; exact hT.2 z)
  refine ⟨⟨⟨(ex 56).1.trans a1, by rw [(ex 57).1, (F' 48 (fun y => (hS' _ y).2 rfl)).2]; exact a2, (ex 61).1.trans a3, (ex 59).2.trans a4, (ex 62).2.trans a5, (ex 67).2.trans a6⟩, ⟨os.1, b2, b3⟩, ⟨(eF 48).1.trans c1, (eF 47).2.trans c2⟩, ⟨by rw [ob.etg orr]; exact d1, by rw [ob.eln orr]; exact d2, d3⟩, by rw [(F' 45 (fun y => (hS' _ y).1 rfl)).2]; exact e1⟩, fun j => ob.eaR orr j⟩
end ZRule11
