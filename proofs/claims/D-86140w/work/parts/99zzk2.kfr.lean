/-! kinds stay, whatever else is written -/
section ZKfr
variable {p b e d : Nat} {w : CW} {τ : TW}
theorem KRs.fr2 {m : Nat} {T S' : List Nat} {w' : CW} {τ' : TW} (hW : WF p w) (h : KRs p w τ m) (hf : Fr T w w') (hp0 : fR w' 0 p = fR w 0 p ∧ fI w' 1 p = fI w 1 p) (hT : fR w 0 p ∉ T) (hno : ∀ k, k < nK τ → kd w p k ∉ T ∧ kd w p k + 1 ∉ T) (hF : FT S' τ τ') (hS' : ∀ f, f ∈ S' → f < 10 ∨ 15 < f) : KRs p w' τ' m := by
  obtain ⟨⟨a1, a2, a3, a4⟩, b1, b2, b3, b4, b5, b6, b7⟩ := h
  have t : ∀ f, 10 ≤ f → f ≤ 15 → tI τ' f = tI τ f ∧ ∀ i, tA τ' f i = tA τ f i := fun f q1 q2 => hF f (fun z => by have := hS' f z; omega)
  have e0 : fR w' 0 p = fR w 0 p := hp0.1
  have e1 : fI w' 1 p = fI w 1 p := hp0.2
  have o0 := hf.eob hW (r := fR w 0 p) (by rw [a1]; decide) hT
  have ek : ∀ j, kd w' p j = kd w p j := fun j => by unfold kd; rw [e0, ob.eaR o0]
  have en : nK τ' = nK τ := by unfold nK; rw [(t 10 (by decide) (by decide)).1]
  refine ⟨⟨by rw [e0, ob.etg o0]; exact a1, by rw [e0, ob.eln o0]; exact a2, by rw [e0]; exact a3, by rw [e0]; exact a4.1, Nat.le_trans a4.2 hf.1⟩, by rw [e1, (t 10 (by decide) (by decide)).1]; exact b1, by rw [(t 10 (by decide) (by decide)).1]; exact b2, by rw [(t 10 (by decide) (by decide)).1]; exact b3, fun k hk => ?_, fun j k q1 q2 => ?_, fun k hk => ?_, fun j k q1 q2 q3 => ?_⟩
  · rw [en] at hk ⊢
    obtain ⟨h1, h2, h3, h4, h5, h6, h7, h8, h9, h10, h11, h12⟩ := b4 k hk
    have o1 := hf.eob hW (r := kd w p k) (by rw [h1]; decide) (hno k hk).1
    have o2 := hf.eob hW (r := fR w 41 (kd w p k)) (by rw [h9]; decide) (by rw [show fR w 41 (kd w p k) = kd w p k + 1 from h11]; exact (hno k hk).2)
    have e12 := (t 12 (by decide) (by decide)).2 (k : Int)
    have e13 := (t 13 (by decide) (by decide)).2 (k : Int)
    have e14 := (t 14 (by decide) (by decide)).2 (k : Int)
    unfold KL
    rw [ek, ob.etg o1, ob.efI o1, ob.efI o1, ob.efI o1, ob.efR o1, ob.efR o1, ob.etg o2, ob.eln o2, e12, e13, e14]
    refine ⟨h1, h2, h3, h4, ?_, h6, h7, h8, h9, h10, h11, fun i hi => ?_⟩
    · rcases h5 with z | ⟨u, z1, z2, z3⟩
      · exact Or.inl z
      · exact Or.inr ⟨u, z1, z2, by rw [ek]; exact z3⟩
    · rw [ob.eaI o2, (t 15 (by decide) (by decide)).2]
      exact h12 i hi
  · rw [en] at q2
    rw [(t 12 (by decide) (by decide)).2, (t 12 (by decide) (by decide)).2]
    exact b5 j k q1 q2
  · rw [en] at hk
    have hl := b4 k hk
    have o1 := hf.eob hW (r := kd w p k) (by rw [hl.1]; decide) (hno k hk).1
    rw [ek, ob.efI o1, b6 k hk]
    exact (slN_eq _ _ (fun j _ => (t 13 (by decide) (by decide)).2 _)).symm
  · rw [en] at q1 q2
    rw [(t 13 (by decide) (by decide)).2] at q3
    rw [(t 14 (by decide) (by decide)).2]
    exact b7 j k q1 q2 q3
theorem KR.fr2 {T S' : List Nat} {w' : CW} {τ' : TW} (hW : WF p w) (h : KR p w τ) (hf : Fr T w w') (hp0 : fR w' 0 p = fR w 0 p ∧ fI w' 1 p = fI w 1 p) (hT : ∀ r, r ∈ T → (r ≤ p + 8 ∧ r ≠ fR w 0 p) ∨ cz w < r ∨ (p + 8 < r ∧ tg w r ≠ 3 ∧ (tg w r = 102 → tg w (r - 1) ≠ 3))) (hF : FT S' τ τ') (hS' : ∀ f, f ∈ S' → f < 10 ∨ 15 < f) : KR p w' τ' := by
  have hk0 : tg w (fR w 0 p) = 112 := h.1.1
  have lk0 : fR w 0 p ≤ p + 8 := h.1.2.2.2.1
  have q := KRs.fr2 hW h hf hp0 (fun y => by
    have := hW.le (r := fR w 0 p) (by rw [hk0]; decide)
    rcases hT _ y with z | z | z
    · exact z.2 rfl
    · omega
    · omega) (fun k hk => by
    obtain ⟨h1, h2, h3, h4, h5, h6, h7, h8, h9, h10, h11, h12⟩ := h.2.2.2.2.1 k hk
    have l1 := hW.le (r := kd w p k) (by rw [h1]; decide)
    have l2 := hW.le (r := fR w 41 (kd w p k)) (by rw [show tg w (fR w 41 (kd w p k)) = 102 from h9]; decide)
    have e11 : fR w 41 (kd w p k) = kd w p k + 1 := h11
    have t11 : tg w (kd w p k + 1) = 102 := by rw [← e11]; exact h9
    refine ⟨fun y => ?_, fun y => ?_⟩
    · rcases hT _ y with z | z | z
      · omega
      · omega
      · exact z.2.1 h1
    · rcases hT _ y with z | z | z
      · omega
      · omega
      · exact z.2.2 t11 h1) hF hS'
  have en : nK τ' = nK τ := by unfold nK; rw [(hF 10 (fun z => by have := hS' 10 z; omega)).1]
  unfold KR
  rw [en]
  exact q
end ZKfr
