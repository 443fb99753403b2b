/-! both read a piece of text: they go on, or both have the same fault -/
section ZOut
variable {p : Nat} {w : CW} {τ : TW} {α β α1 β1 : Type}
/-- what is used up, with what the rest of the text may still use -/
def zm (w : CW) : Int := cu w + 5 * cz w
def pot (w : CW) (τ : TW) : Int := zm w + 6000 * max 0 (tI τ 1 - tI τ 5)
def Rm (a : Int) (w : CW) (τ : TW) : Prop := pot w τ + a ≤ mu w ∧ pot w τ + a ≤ 5 * mz w
def CF (p : Nat) (T S S' : List Nat) (w : CW) (τ : TW) (w' : CW) (τ' : TW) : Prop := Fr (p :: T) w w' ∧ PF S p w w' ∧ WF p w' ∧ FT S' τ τ' ∧ tI τ 5 ≤ tI τ' 5 ∧ tI τ' 1 = tI τ 1
def OUT (p : Nat) (T S S' : List Nat) (an at' : Int) (N : α → β → CW → TW → Prop) (cm : (α → CW → Prop) → (Nat → CW → Prop) → Prop) (tm : (β → TW → Prop) → Prop) (w : CW) (τ : TW) : Prop :=
  ∃ w' τ' b, CF p T S S' w τ w' τ' ∧ (∀ Q, Q b τ' → tm Q) ∧ ((∃ a, RB p w' τ' ∧ pot w' τ' ≤ pot w τ + an ∧ N a b w' τ' ∧ ∀ Q X, Q a w' → cm Q X) ∨ (∃ h pl x, pot w' τ' ≤ pot w τ + at' ∧ Wr w' x h pl ∧ Dd h pl τ' ∧ ∀ Q X, X x w' → cm Q X))
theorem CF.refl (W : WF p w) (T S S' : List Nat) : CF p T S S' w τ w τ := ⟨Fr.refl _ _, PF.refl _ _ _, W, FT.refl _ _, Int.le_refl _, rfl⟩
theorem CF.trans {T S S' T2 S2 S2' : List Nat} {w' w'' : CW} {τ' τ'' : TW} (h : CF p T S S' w τ w' τ') (k : CF p T2 S2 S2' w' τ' w'' τ'') (hT : ∀ r, r ∈ T2 → r ∈ T ∨ cz w < r) (hS : ∀ f, f ∈ S2 → f ∈ S) (hS' : ∀ f, f ∈ S2' → f ∈ S') : CF p T S S' w τ w'' τ'' :=
  ⟨h.1.trans' k.1 (fun r hr => by
    rcases List.mem_cons.mp hr with e | e
    · exact Or.inl (List.mem_cons.mpr (Or.inl e))
    · rcases hT r e with q | q
      · exact Or.inl (List.mem_cons.mpr (Or.inr q))
      · exact Or.inr q), h.2.1.trans (k.2.1.mono hS), k.2.2.1, h.2.2.2.1.trans (k.2.2.2.1.mono hS'), Int.le_trans h.2.2.2.2.1 k.2.2.2.2.1, k.2.2.2.2.2.trans h.2.2.2.2.2⟩
theorem CF.mono {T S S' T2 S2 S2' : List Nat} {w' : CW} {τ' : TW} (W : WF p w) (k : CF p T2 S2 S2' w τ w' τ') (hT : ∀ r, r ∈ T2 → r ∈ T ∨ cz w < r) (hS : ∀ f, f ∈ S2 → f ∈ S) (hS' : ∀ f, f ∈ S2' → f ∈ S') : CF p T S S' w τ w' τ' := (CF.refl W T S S').trans k hT hS hS'
theorem OUT.bind {T S S' T2 S2 S2' : List Nat} {a1 t1 a2 t2 a t : Int} {N1 : α1 → β1 → CW → TW → Prop} {N : α → β → CW → TW → Prop} {cm1 : (α1 → CW → Prop) → (Nat → CW → Prop) → Prop} {tm1 : (β1 → TW → Prop) → Prop} {cm : (α → CW → Prop) → (Nat → CW → Prop) → Prop} {tm : (β → TW → Prop) → Prop}
    (cm2 : α1 → CW → (α → CW → Prop) → (Nat → CW → Prop) → Prop) (tm2 : β1 → TW → (β → TW → Prop) → Prop)
    (h1 : OUT p T S S' a1 t1 N1 cm1 tm1 w τ) (hC : ∀ Q X, cm1 (fun v u => cm2 v u Q X) X → cm Q X) (hT : ∀ Q, tm1 (fun v σ => tm2 v σ Q) → tm Q)
    (h2 : ∀ v b u σ, RB p u σ → N1 v b u σ → CF p T S S' w τ u σ → pot u σ ≤ pot w τ + a1 → OUT p T2 S2 S2' a2 t2 N (cm2 v u) (tm2 b σ) u σ)
    (hd : ∀ h pl b σ, Dd h pl σ → FT S' τ σ → ∃ σ' b', FT S' σ σ' ∧ tI σ' 5 = tI σ 5 ∧ tI σ' 1 = tI σ 1 ∧ Dd h pl σ' ∧ ∀ Q, Q b' σ' → tm2 b σ Q)
    (hTT : ∀ u, cz w ≤ cz u → ∀ r, r ∈ T2 → r ∈ T ∨ cz w < r) (hS : ∀ f, f ∈ S2 → f ∈ S) (hS' : ∀ f, f ∈ S2' → f ∈ S') (ha : a1 + a2 ≤ a) (ht : t1 ≤ t) (ht2 : a1 + t2 ≤ t) : OUT p T S S' a t N cm tm w τ := by
  obtain ⟨w1, τ1, b1, c1, run1, h⟩ := h1
  rcases h with ⟨v1, rb1, p1, n1, k1⟩ | ⟨hh, pl, x, p1, wr1, dd1, k1⟩
  · obtain ⟨w2, τ2, b2, c2, run2, g⟩ := h2 v1 b1 w1 τ1 rb1 n1 c1 p1
    refine ⟨w2, τ2, b2, c1.trans c2 (hTT w1 c1.1.1) hS hS', fun Q hQ => hT _ (run1 _ (run2 _ hQ)), ?_⟩
    rcases g with ⟨v2, rb2, p2, n2, k2⟩ | ⟨hh, pl, x, p2, wr2, dd2, k2⟩
    · exact Or.inl ⟨v2, rb2, by omega, n2, fun Q X hQ => hC _ _ (k1 _ _ (k2 _ _ hQ))⟩
    · exact Or.inr ⟨hh, pl, x, by omega, wr2, dd2, fun Q X hX => hC _ _ (k1 _ _ (k2 _ _ hX))⟩
  · obtain ⟨σ', b', f1, f2, f3, dd2, run2⟩ := hd hh pl b1 τ1 dd1 c1.2.2.2.1
    refine ⟨w1, σ', b', ⟨c1.1, c1.2.1, c1.2.2.1, c1.2.2.2.1.trans f1, by rw [f2]; exact c1.2.2.2.2.1, by rw [f3]; exact c1.2.2.2.2.2⟩, fun Q hQ => hT _ (run1 _ (run2 _ hQ)), Or.inr ⟨hh, pl, x, ?_, wr1, dd2, fun Q X hX => hC _ _ (k1 _ _ hX)⟩⟩
    unfold pot at p1 ⊢
    rw [f2, f3]
    omega
/-- nothing is done -/
theorem OUT.ret {T S S' : List Nat} {an at' : Int} {N : α → β → CW → TW → Prop} {cm : (α → CW → Prop) → (Nat → CW → Prop) → Prop} {tm : (β → TW → Prop) → Prop} {v : α} {b : β} (h : RB p w τ) (hN : N v b w τ) (ha : 0 ≤ an) (hc : ∀ Q X, Q v w → cm Q X) (ht : ∀ Q, Q b τ → tm Q) : OUT p T S S' an at' N cm tm w τ :=
  ⟨w, τ, b, CF.refl h.1 _ _ _, ht, Or.inl ⟨v, h, by omega, hN, hc⟩⟩
/-- the component throws at once; the reference meets its fault -/
theorem OUT.thr {T S S' : List Nat} {an at' : Int} {N : α → β → CW → TW → Prop} {cm : (α → CW → Prop) → (Nat → CW → Prop) → Prop} {tm : (β → TW → Prop) → Prop} {how pl : Int} {b : β} {τ' : TW} (h : RB p w τ) (ha : 13 ≤ at') (hc : ∀ Q X, X (cz w + 1) (wrW w how pl) → cm Q X) (hF : FT S' τ τ') (h5 : tI τ' 5 = tI τ 5) (h1 : tI τ' 1 = tI τ 1) (hD : Dd how pl τ') (ht : ∀ Q, Q b τ' → tm Q) : OUT p T S S' an at' N cm tm w τ := by
  refine ⟨wrW w how pl, τ', b, ⟨wrW_fr _ _ _ _, (wrW_st h.1 [] S how pl).2.1, (wrW_st h.1 [] S how pl).2.2.1, hF, by rw [h5]; exact Int.le_refl _, h1⟩, ht, Or.inr ⟨how, pl, cz w + 1, ?_, wrW_wr _ _ _, hD, hc⟩⟩
  have e1 : cz (wrW w how pl) = cz w + 1 := rfl
  have e2 : cu (wrW w how pl) = cu w + 8 := rfl
  unfold pot zm
  rw [h5, h1, e1, e2]
  omega
/-- next, both -/
theorem nxL {d e : Nat} {S S' : List Nat} {T : List Nat} (h : RB p w τ) (h0 : tI τ 3 ≠ 0) (hS : ∀ f, f ∈ [9, 10, 11, 12, 13, 14] → f ∈ S) (hS' : ∀ f, f ∈ [2, 3, 4, 5, 6] → f ∈ S') (hR : Rm 100 w τ) : ∃ w' τ', CF p T S S' w τ w' τ' ∧ pot w' τ' ≤ pot w τ + (-5900) ∧ Lx (bt τ) (tI τ 6).toNat (tI τ' 5) (tI τ' 6) (tI τ' 3) (tI τ' 4) ∧ (∀ Q, Q (.inl none) τ' → wpT (e + 4) 4 [] τ Q) ∧ ((RB p w' τ' ∧ ∀ Q, Q (.inl none) w' → wpC p (d + 12) 4 [ar p] w Q) ∨ (∃ h pl x, Wr w' x h pl ∧ Dd h pl τ' ∧ ∀ Q, Q (.inr x) w' → wpC p (d + 12) 4 [ar p] w Q)) := by
  have hh := h
  obtain ⟨W, L, T0, R, ⟨g1, g2, g3, g4, g5, g6, g7, g8, g9⟩, ⟨q1, q2, q3, q4, q5, q6⟩, hf, h45⟩ := h
  have hroom : cz w + 5 ≤ mz w ∧ cu w + 70 ≤ mu w := by
    have := T0.1
    unfold Rm pot zm at hR
    omega
  obtain ⟨w', τ', ⟨s, F, hfr, hL⟩, run, g⟩ := pr_nextL (d := d) (e := e) W L T0 R q1 (by omega) (by omega) hroom hf h45
  have e1 := (F 1 (by decide)).1
  have hp : pot w' τ' ≤ pot w τ + (-5900) := by
    have h5 := g6 h0
    have a1 := s.2.2.2.1
    have a2 := s.2.2.2.2
    unfold pot zm
    rw [e1]
    omega
  have hc : CF p T S S' w τ w' τ' := ⟨s.1.mono (fun r hr => by
    rcases List.mem_cons.mp hr with z | z
    · exact Or.inl (List.mem_cons.mpr (Or.inl z))
    · cases z), s.2.1.mono hS, s.2.2.1, F.mono hS', by omega, e1⟩
  refine ⟨w', τ', hc, hp, hL, run, ?_⟩
  rcases g with ⟨rb, k⟩ | ⟨⟨z7, zf, z45⟩, x, wr, k⟩
  · exact Or.inl ⟨rb, k⟩
  · exact Or.inr ⟨1, tI τ' 5, x, wr, Or.inr ⟨zf, z7, rfl, rfl, z45⟩, k⟩
theorem nx {d e : Nat} {S S' : List Nat} {T : List Nat} (h : RB p w τ) (h0 : tI τ 3 ≠ 0) (hS : ∀ f, f ∈ [9, 10, 11, 12, 13, 14] → f ∈ S) (hS' : ∀ f, f ∈ [2, 3, 4, 5, 6] → f ∈ S') (hR : Rm 100 w τ) : ∃ w' τ', CF p T S S' w τ w' τ' ∧ pot w' τ' ≤ pot w τ + (-5900) ∧ (∀ Q, Q (.inl none) τ' → wpT (e + 4) 4 [] τ Q) ∧ ((RB p w' τ' ∧ ∀ Q, Q (.inl none) w' → wpC p (d + 12) 4 [ar p] w Q) ∨ (∃ h pl x, Wr w' x h pl ∧ Dd h pl τ' ∧ ∀ Q, Q (.inr x) w' → wpC p (d + 12) 4 [ar p] w Q)) := by
  obtain ⟨w', τ', a, b, c, f, g⟩ := nxL (d := d) (e := e) (T := T) (S := S) (S' := S') h h0 hS hS' hR
  exact ⟨w', τ', a, b, f, g⟩
theorem OUT.next {d e : Nat} {S S' : List Nat} {T : List Nat} (h : RB p w τ) (h0 : tI τ 3 ≠ 0) (hS : ∀ f, f ∈ [9, 10, 11, 12, 13, 14] → f ∈ S) (hS' : ∀ f, f ∈ [2, 3, 4, 5, 6] → f ∈ S') (hR : Rm 100 w τ) : OUT p T S S' (-5900) (-5900) (fun (_ : Unit) (_ : Unit) _ _ => True) (fun Q X => wpC p (d + 12) 4 [ar p] w (zqV (Q ()) X)) (fun Q => wpT (e + 4) 4 [] τ (zqV (Q ()) zno)) w τ := by
  obtain ⟨w', τ', hc, hp, run, g⟩ := nx (d := d) (e := e) (T := T) (S := S) (S' := S') h h0 hS hS' hR
  refine ⟨w', τ', (), hc, fun Q hQ => run _ hQ, ?_⟩
  rcases g with ⟨rb, k⟩ | ⟨h, pl, x, wr, dd, k⟩
  · exact Or.inl ⟨(), rb, hp, trivial, fun Q X hQ => k _ hQ⟩
  · exact Or.inr ⟨h, pl, x, hp, wr, dd, fun Q X hX => k _ hX⟩
end ZOut
