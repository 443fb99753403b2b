/-! kindNamed: both -/
section ZKindq
variable {p b e d : Nat} {w : CW} {τ : TW}
theorem api_kindNamed {x : Int} (hK : KR p w τ) {K : Int → Int → CW → TW → Prop} (h1 : ∀ v : Int, K v v w τ) : wpC p (d + 2) 50 [ar p, al x] w (zqI (fun v w' => wpT (e + 2) 71 [al x] τ (zqI (fun v' τ' => K v v' w' τ') zno)) zno) := by
  have k0 := hK.2.2.1
  have k24 := hK.2.2.2.1
  have ref : ∀ Q : Int → TW → Prop, Q (kfB τ x) τ → wpT (e + 2) 71 [al x] τ (zqI Q zno) := fun Q h => wT_kindNamed (Nat.zero_le _) (bT_kindNamed_0 (sT_kindOf (d := e) k0 k24 h))
  refine wC_X0_kindNamed (Nat.zero_le _) (bC_X0_kindNamed_0 (sC_named (d := d) hK ?_))
  rcases kfB_rg τ x with z | ⟨k, k1, k2⟩
  · rw [if_pos z]
    refine ⟨fun q => absurd rfl q, fa ?_⟩
    rw [if_pos rfl]
    refine ref _ ?_
    rw [z]
    exact h1 _
  · rw [if_neg (by omega), k2, Int.toNat_natCast]
    have kl := hK.2.2.2.2.1 k k1
    have hne : kd w p k ≠ 0 := by have := kl.2.1; omega
    refine ⟨fun _ => by rw [kl.1]; decide, fa ?_⟩
    rw [if_neg hne]
    have e37 : fI w 37 (kd w p k) = k := kl.2.2.1
    rw [e37]
    refine ref _ ?_
    rw [k2]
    exact h1 _
end ZKindq
