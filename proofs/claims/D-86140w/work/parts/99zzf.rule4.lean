/-! the loop over a rule's patterns, both: dead -/
section ZRule4
variable {p b e d : Nat} {w : CW} {τ : TW}
theorem rl_dead {h pl much x3 x4 : Int} {f : Nat} (hf : f < 12) (D : Dd h pl τ) (r27 : 0 ≤ tI τ 27 ∧ tI τ 27 < 192) (h4 : ¬ (x4 ≤ 0)) : DD [7, 8, 45, 53] h pl (tmL (rlT (e + 9) f much) (fun (_ : Unit → TW → Prop) I => I x3 x4 τ)) τ := by
  have hff : (0 : Int) ≤ (f : Int) ∧ (f : Int) < 12 := by omega
  by_cases z : ¬ (tA τ 43 f ≤ x4) ∧ tI τ 7 = 0
  · obtain ⟨σ', ⟨a, bb, c⟩, run⟩ := dd_stop (d := e + 7) (k := 6) D (by decide)
    refine DD.pre (tm' := fun (Q : Unit → TW → Prop) => Q () σ') (S1 := [7, 8]) a (fun Q k I l => l x3 x4 τ ⟨hff, br1 z (br0 h4 (br1 (D.ns z.2 44).1 (run _ (bT_readRule_123 (bb.takes (e := e + 7) _ (br1 rfl (bT_readRule_132 k)))))))⟩) (DD.ret (b := ()) bb (fun Q k => k))
  · exact DD.gT (G' := fun Q _ => pT_readRule_252 (wpT (e + 9)) (fun w => Q () w) f τ) (fun Q I l k => l x3 x4 τ ⟨hff, br0 z k⟩) (DD.gO (rl_dead252 (e := e) hf D r27))
/-- dead, behind a pattern -/
theorem rl_deadG {h pl much x3 v26 : Int} {f i : Nat} (hf : f < 12) (hi : i < 3) (D : Dd h pl τ) (hG : RG τ v26) (r27 : 0 ≤ tI τ 27 ∧ tI τ 27 < 192) (h3 : i ≠ 0 → 0 ≤ x3 ∧ x3 < 1700) : DD [7, 8, 23, 45, 47, 49, 53] h pl (tmL (rlT (e + 9) f much) (fun (Q : Unit → TW → Prop) I => rlG (wpT (e + 9)) (fun w => Q () w) I f much x3 i v26 τ)) τ := by
  by_cases h0 : tI τ 7 = 0
  · have h26 : 0 ≤ v26 ∧ v26 < 1700 := by
      rcases hG with y | y
      · exact absurd h0 y
      · exact y
    have e1 : w32 ((i : Int) + 1) = ((i + 1 : Nat) : Int) := w32_k (by omega)
    have key : ∀ (S1 : List Nat) (σ : TW), (∀ f, f ∈ S1 → f ∈ [23, 47]) → FT S1 τ σ → (∀ (Q : Unit → TW → Prop) (I : Int → Int → TW → Prop), pT_readRule_199 (wpT (e + 9)) (fun w => Q () w) I f much i v26 σ → rlG (wpT (e + 9)) (fun w => Q () w) I f much x3 i v26 τ) → DD [7, 8, 23, 45, 47, 49, 53] h pl (tmL (rlT (e + 9) f much) (fun (Q : Unit → TW → Prop) I => rlG (wpT (e + 9)) (fun w => Q () w) I f much x3 i v26 τ)) τ := by
      intro S1 σ hS F hk
      have D1 := D.ft F (fun f hf => by have := hS f hf; simp only [List.mem_cons, List.not_mem_nil, or_false] at this; omega)
      have q27 : tI σ 27 = tI τ 27 := (F 27 (fun y => by have := hS _ y; simp at this)).1
      refine DD.pre (tm' := tmL (rlT (e + 9) f much) (fun Q I => pT_readRule_199 (wpT (e + 9)) (fun w => Q () w) I f much i v26 σ)) (S1 := S1) F (fun Q k I l => hk Q I (k I l)) ?_ (fun g hg => by have := hS g hg; simp only [List.mem_cons, List.not_mem_nil, or_false] at this ⊢; omega) (fun g hg => by have := hS g hg; simp only [List.mem_cons, List.not_mem_nil, or_false] at this; omega)
      obtain ⟨v34, hv34⟩ : ∃ v34 : Int, v34 = (if ¬ (w32 ((tA σ 49 (tI σ 27)) * (tA σ 26 v26)) ≤ 1000) then 1000 else w32 ((tA σ 49 (tI σ 27)) * (tA σ 26 v26))) := ⟨_, rfl⟩
      refine DD.gW (S1 := [49]) (G2 := fun u _ I => I v26 (w32 ((i : Int) + 1)) u) D1 (sA σ 49 (tI σ 27) v34) ((FT.refl _ _).ssA (by decide)) (fun Q I l k => bT_readRule_199 ⟨by rw [q27]; exact r27, h26, fa (fa ⟨by rw [q27]; exact r27, fun u hu => fa (k u (by rw [hu, hv34]))⟩)⟩) (fun u eu D2 F2 => ?_)
      rw [e1]
      exact (rl_dead (e := e) hf D2 (by rw [(F2 27 (by decide)).1, q27]; exact r27) (by omega)).mono
    by_cases z : i = 0
    · subst z
      exact key [47] (sA τ 47 (tI τ 27) v26) (by decide) ((FT.refl _ _).ssA (by decide)) (fun Q I k => br1 h0 (br1 rfl ⟨r27, fa k⟩))
    · exact key [23] (sA τ 23 x3 v26) (by decide) ((FT.refl _ _).ssA (by decide)) (fun Q I k => br1 h0 (br0 (by omega) ⟨h3 z, fa k⟩))
  · exact DD.gT (G' := fun Q _ => Q () τ) (fun Q I l k => br0 h0 (bT_readRule_171 k)) (DD.gO (DD.ret (b := ()) D (fun Q k => k)))
end ZRule4
