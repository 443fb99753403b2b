/-! alternatives, both: what holds -/
section ZEith2
variable {p b e d : Nat} {w : CW} {τ : TW}
/-- a step that writes beside the patterns -/
theorem CHI.nxT {a n q i : Nat} {mul : Bool} {u u' : CW} {σ σ' : TW} {c : Nat → Nat} {Di : Nat → Nat → Prop} {Sn : Nat → Nat → Int} {T S S' : List Nat} (h : CHI p a n mul u σ q i c Di Sn) (W : WF p u) (K : KA p u) (hp : p < a) (ta : tg u a ≠ 0) (cc : CF p T S S' u σ u' σ') (hT : ∀ x, x ∈ T → x ≠ a ∧ x ≠ fR u 0 p ∧ (cz u < x ∨ ¬ ptg (tg u x))) (h0 : 0 ∉ S) (hS' : ∀ f, f ∈ S' → f < 10 ∨ 26 < f) : CHI p a n mul u' σ' q i c Di Sn := by
  obtain ⟨c1, c2, c3, c4, c5, c6, c7, c8, c9⟩ := h
  have F := cc.2.2.2.1
  have g : ∀ f, 10 ≤ f → f ≤ 26 → ∀ x, tA σ' f x = tA σ f x := fun f h1 h2 => (F f (fun y => by have := hS' f y; omega)).2
  have g16 : np σ' = np σ := np_ft F (fun y => by have := hS' _ y; omega)
  have rw' : ∀ j, rwF mul σ' c j = rwF mul σ c j := fun j => rwF_eq j (fun k _ => ⟨rfl, g 26 (by decide) (by decide) _⟩)
  have oa := cc.1.2.2.2.2 a (W.le ta) (fun y => by
    rcases List.mem_cons.mp y with z | z
    · omega
    · exact (hT a z).1 rfl)
  have k0 : fR u 0 p ∉ p :: T := fun y => by
    rcases List.mem_cons.mp y with z | z
    · have := K.2.2.1; have : p < fR u 0 p := this; omega
    · exact (hT _ z).2.1 rfl
  have kk : nK σ ≤ nK σ' ∧ ∀ k, k < nK σ → kd u' p k = kd u p k ∧ tA σ' 14 k = tA σ 14 k ∧ ∀ i : Nat, (i : Int) < tA σ 14 k → tA σ' 15 (4 * k + i : Nat) = tA σ 15 (4 * k + i : Nat) := ⟨by unfold nK; rw [(F 10 (fun y => by have := hS' _ y; omega)).1]; exact Nat.le_refl _, fun k _ => ⟨kd_fr2 K cc.1 (cc.2.1 0 h0).2 k0 k, g 14 (by decide) (by decide) _, fun _ _ => g 15 (by decide) (by decide) _⟩⟩
  refine ⟨fun z => by rw [g 22 (by decide) (by decide)]; exact c1 z, fun z => by rw [g 22 (by decide) (by decide)]; exact c2 z, fun j hj => by rw [g 23 (by decide) (by decide)]; exact c3 j hj, fun z => by rw [g 23 (by decide) (by decide)]; exact c4 z, fun j hj => by rw [g16]; exact c5 j hj, c6, fun z => by rw [g 26 (by decide) (by decide), rw']; exact c7 z, fun j hj => by rw [rw']; exact c8 j hj, fun j hj => ?_⟩
  rw [g16, ob.eaR oa]
  exact PRel.fr W cc.1 (Nat.le_refl _) kk n _ _ _ _ (fun x hx => by
    rcases List.mem_cons.mp hx with y | y
    · left; omega
    · rcases (hT x y).2.2 with z | z
      · exact Or.inr (Or.inl z)
      · exact Or.inr (Or.inr (Or.inl z))) (fun f hf x _ _ => g f (by simp only [List.mem_cons, List.not_mem_nil, or_false] at hf; omega) (by simp only [List.mem_cons, List.not_mem_nil, or_false] at hf; omega) _) (fun x _ _ => g 23 (by decide) (by decide) _) (fun _ _ => rfl) (c9 j hj)
/-- all of them are there -/
theorem CHI.finT {a n q m r b : Nat} {mul : Bool} {u u' : CW} {σ σ' : TW} {c : Nat → Nat} {Di : Nat → Nat → Prop} {Sn : Nat → Nat → Int} {Sn' : Nat → Int} {T : List Nat} (h : CHI p a n mul u σ q m c Di Sn) (W : WF p u) (K : KA p u) (hp : p < a) (hb : b ≤ a) (ta : tg u a ≠ 0) (hF : Fr (p :: T) u u') (hT : ∀ x, x ∈ T → x ≠ a ∧ x ≠ fR u 0 p ∧ (cz u < x ∨ ¬ ptg (tg u x))) (hp0 : fR u' 0 p = fR u 0 p) {S' : List Nat} (F : FT S' σ σ') (hS' : ∀ f, f ∈ S' → f < 10 ∨ 26 < f) (hr : cz u < r) (hSn : ∀ j, j < m → ∀ x, Di j x → Sn' x = Sn j x) :
    Chn σ' (np σ') q m c ∧ (0 < m → tA σ' 26 q = rwF mul σ' c (m - 1)) ∧ ∀ j, j < m → aR u a j < r ∧ PRel p b u' σ' Sn' n (nxt c m (np σ') j) (aR u a j) (c j) (Di j) := by
  obtain ⟨c1, c2, c3, c4, c5, c6, c7, c8, c9⟩ := h
  have g : ∀ f, 10 ≤ f → f ≤ 26 → ∀ x, tA σ' f x = tA σ f x := fun f h1 h2 => (F f (fun y => by have := hS' f y; omega)).2
  have g16 : np σ' = np σ := np_ft F (fun y => by have := hS' _ y; omega)
  have rw' : ∀ j, rwF mul σ' c j = rwF mul σ c j := fun j => rwF_eq j (fun k _ => ⟨rfl, g 26 (by decide) (by decide) _⟩)
  have k0 : fR u 0 p ∉ p :: T := fun y => by
    rcases List.mem_cons.mp y with z | z
    · have := K.2.2.1; have : p < fR u 0 p := this; omega
    · exact (hT _ z).2.1 rfl
  have kk : nK σ ≤ nK σ' ∧ ∀ k, k < nK σ → kd u' p k = kd u p k ∧ tA σ' 14 k = tA σ 14 k ∧ ∀ i : Nat, (i : Int) < tA σ 14 k → tA σ' 15 (4 * k + i : Nat) = tA σ 15 (4 * k + i : Nat) := ⟨by unfold nK; rw [(F 10 (fun y => by have := hS' _ y; omega)).1]; exact Nat.le_refl _, fun k _ => ⟨kd_fr2 K hF hp0 k0 k, g 14 (by decide) (by decide) _, fun _ _ => g 15 (by decide) (by decide) _⟩⟩
  refine ⟨⟨fun z => (g 22 (by decide) (by decide) _).trans (c1 z), fun z => (g 22 (by decide) (by decide) _).trans (c2 z), fun j hj => (g 23 (by decide) (by decide) _).trans (c3 j hj), fun z => (g 23 (by decide) (by decide) _).trans (c4 z), fun j hj => by rw [g16]; exact c5 j hj⟩, fun z => by rw [g 26 (by decide) (by decide), rw']; exact c7 z, fun j hj => ?_⟩
  have pj := c9 j hj
  rw [g16]
  refine ⟨by have := W.le (r := aR u a j) (by have := pj.lt.2.2; omega); omega, PRel.fr W hF hb kk n _ _ _ _ (fun x hx => by
    rcases List.mem_cons.mp hx with y | y
    · left; omega
    · rcases (hT x y).2.2 with z | z
      · exact Or.inr (Or.inl z)
      · exact Or.inr (Or.inr (Or.inl z))) (fun f hf x _ _ => g f (by simp only [List.mem_cons, List.not_mem_nil, or_false] at hf; omega) (by simp only [List.mem_cons, List.not_mem_nil, or_false] at hf; omega) _) (fun x _ _ => g 23 (by decide) (by decide) _) (fun x hx => hSn j hj x hx) pj⟩
/-- i alternatives are read: what they share, what the first binds, are they alike -/
def EIC (p a x7 n : Nat) (w : CW) (τ : TW) (s : Int) (o B0 i : Nat) (x6 x8 : Int) (u : CW) (σ : TW) (c : Nat → Nat) (Di : Nat → Nat → Prop) (Sn : Nat → Nat → Int) : Prop :=
  (CHI p a n false u σ (np τ) i c Di Sn ∧ UT τ σ o ∧ nR σ = nR τ ∧ np τ < np σ) ∧
  ((tA σ 17 (np τ) = 6 ∧ tA σ 18 (np τ) = s ∧ tA σ 23 (np τ) = -4 ∧ tA σ 24 (np τ) = -4 ∧ tA σ 25 (np τ) = -4) ∧ (tA σ 33 o = np τ ∧ tA σ 34 o = i ∧ tA σ 35 o = (if i = 0 then (-4 : Int) else c (i - 1)) ∧ tA σ 36 o = tI τ 5 ∧ tA σ 37 o = B0) ∧ ∀ j, j < i → tA σ 18 (c j) = s) ∧
  ((nN τ ≤ nN σ ∧ ∀ k, k < nN σ → k < nN τ ∨ ∃ j, j < i ∧ Di j k) ∧ (∀ k, k < nN τ → tA σ 29 (8 * nR τ + k : Nat) = tA τ 29 (8 * nR τ + k : Nat)) ∧ ∀ j, j < i → ∀ k, Di j k → k < nN σ ∧ bit B0 k = 0) ∧
  (0 < i → (∃ m : Nat, x6 = m ∧ m < 256 ∧ ∀ k, k < 8 → (m.testBit k = true ↔ Di 0 k)) ∧ (∃ f : Nat, tA σ 38 o = f ∧ f < 256 ∧ ∀ k, k < 8 → (f.testBit k = true ↔ B0.testBit k = true ∨ Di 0 k)) ∧ (∀ k, k < 8 → Di 0 k → aI u x7 k = Sn 0 k ∧ tA σ 40 (8 * o + k : Nat) = Sn 0 k) ∧ ∀ k, k < 8 → ¬ Di 0 k → tA σ 40 (8 * o + k : Nat) = SnR τ k) ∧
  (((x8 = 0 ∧ 0 < i) ∨ x8 = 1) ∧ (tA σ 39 o = 0 ↔ x8 = 1) ∧ (x8 = 1 → (∀ j, j < i → ∀ k, k < 8 → (Di j k ↔ Di 0 k)) ∧ (∀ j, j < i → ∀ k, k < 8 → Di 0 k → Sn j k = Sn 0 k) ∧ ∀ k, k < 8 → (∀ j, j < i → ¬ Di j k) → SnR σ k = SnR τ k)) ∧
  (tg u a = 114 ∧ ln u a = 6 ∧ tg u x7 = 102 ∧ ln u x7 = 8) ∧ CF p [fR w 15 p, fR w 16 p] SPC SPT w τ u σ
/-- it stays while tokens are read, and names are bound no more -/
theorem EIC.nx {a x7 n o B0 i : Nat} {s x6 x8 : Int} {u u' : CW} {σ σ' : TW} {c : Nat → Nat} {Di : Nat → Nat → Prop} {Sn : Nat → Nat → Int} {S S' : List Nat} (h : EIC p a x7 n w τ s o B0 i x6 x8 u σ c Di Sn) (W : WF p u) (K : KA p u) (hp : p < a) (hx : p < x7) (cc : CF p [] S S' u σ u' σ') (hS : ∀ f, f ∈ S → f ∈ SPC := by decide) (hS' : ∀ f, f ∈ S' → f ∈ [2, 3, 4, 5, 6, 31] := by decide) : EIC p a x7 n w τ s o B0 i x6 x8 u' σ' c Di Sn := by
  obtain ⟨⟨a1, a2, a3, a4⟩, ⟨b1, b2, b3⟩, ⟨c1, c2, c3⟩, d1, ⟨e1, e2, e3⟩, ⟨f1, f2, f3, f4⟩, g1⟩ := h
  have n0 : 0 ∉ S := fun y => by have := hS _ y; exact absurd this (by decide)
  have nS : ∀ f, f ∈ S' → f < 10 ∨ f = 31 := fun f y => by have := hS' _ y; simp only [List.mem_cons, List.not_mem_nil, or_false] at this; omega
  have F := cc.2.2.2.1
  have g : ∀ f, 10 ≤ f → f ≠ 31 → ∀ x, tA σ' f x = tA σ f x := fun f h1 h2 => (F f (fun y => by have := nS f y; omega)).2
  have ni : ∀ f, 10 ≤ f → f ≠ 31 → f ∉ S' := fun f h1 h2 y => by have := nS f y; omega
  have en : np σ' = np σ := np_ft F (ni _ (by decide) (by decide))
  have eN : nN σ' = nN σ := nN_ft F (ni _ (by decide) (by decide)) (ni _ (by decide) (by decide))
  have eR : nR σ' = nR σ := nR_ft F (ni _ (by decide) (by decide))
  have eS : ∀ k, SnR σ' k = SnR σ k := fun k => by unfold SnR; rw [eR, g 30 (by decide) (by decide)]
  have oa := cc.1.2.2.2.2 a (W.le (by rw [f1]; decide)) (by simp; omega)
  have ox := cc.1.2.2.2.2 x7 (W.le (by rw [f3]; decide)) (by simp; omega)
  refine ⟨⟨a1.nxT W K hp (by rw [f1]; decide) cc (fun x hx => by cases hx) n0 (fun f y => by have := nS f y; omega), ?_, eR.trans a3, by rw [en]; exact a4⟩, ⟨?_, ?_, fun j hj => by rw [g 18 (by decide) (by decide)]; exact b3 j hj⟩, ⟨by rw [eN]; exact c1, fun k hk => by rw [g 29 (by decide) (by decide)]; exact c2 k hk, fun j hj k hk => by rw [eN]; exact c3 j hj k hk⟩, fun hi => ?_, ⟨e1, by rw [g 39 (by decide) (by decide)]; exact e2, fun h => ?_⟩, ⟨(ob.etg oa).trans f1, (ob.eln oa).trans f2, (ob.etg ox).trans f3, (ob.eln ox).trans f4⟩, ?_⟩
  · obtain ⟨u1, u2, u3, u4, u5⟩ := a2
    exact ⟨fun f h1 h2 x hx => (g f (by omega) (by omega) x).trans (u1 f h1 h2 x hx), fun f h1 h2 x hx => (g f (by omega) (by omega) x).trans (u2 f h1 h2 x hx), fun x hx => (g 40 (by decide) (by decide) x).trans (u3 x hx), fun x hx => ⟨(g 29 (by decide) (by decide) x).trans (u4 x hx).1, (g 30 (by decide) (by decide) x).trans (u4 x hx).2⟩, fun x hx => (g 28 (by decide) (by decide) x).trans (u5 x hx)⟩
  · rw [g 17 (by decide) (by decide), g 18 (by decide) (by decide), g 23 (by decide) (by decide), g 24 (by decide) (by decide), g 25 (by decide) (by decide)]; exact b1
  · rw [g 33 (by decide) (by decide), g 34 (by decide) (by decide), g 35 (by decide) (by decide), g 36 (by decide) (by decide), g 37 (by decide) (by decide)]; exact b2
  · obtain ⟨q1, q2, q3, q4⟩ := d1 hi
    refine ⟨q1, by rw [g 38 (by decide) (by decide)]; exact q2, fun k hk hd => ?_, fun k hk hd => by rw [g 40 (by decide) (by decide)]; exact q4 k hk hd⟩
    rw [ob.eaI ox, g 40 (by decide) (by decide)]
    exact q3 k hk hd
  · obtain ⟨q1, q2, q3⟩ := e3 h
    exact ⟨q1, q2, fun k hk hd => (eS k).trans (q3 k hk hd)⟩
  · exact g1.trans cc (fun r hr => by cases hr) hS (fun f hf => by
      have := hS' f hf
      simp only [List.mem_cons, List.not_mem_nil, or_false] at this
      simp [SPT]; omega)
end ZEith2
