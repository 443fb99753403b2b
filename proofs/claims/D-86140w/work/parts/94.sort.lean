/-! a sort at hand -/
section ZSort
variable {p d : Nat} {w : CW} {τ : TW} {m : Nat}
theorem RB.word (h : RB p w τ) (k i : Nat) (e : litL[k]? = some (wdL.getD i [])) (hi : i < 11) {Q : ZRes → CW → Prop} (hQ : Q (.inl (some (ai (ff_isWord i τ)))) w) : wpC p (d + 5) 12 [ar p, ar (sr w k)] w Q :=
  sR_isWord h (h.2.1 k _ e).1 hi hQ
theorem ff_w1 {i : Int} (h : tI τ 3 = 6 ∧ tI τ 4 = i) : ff_isWord i τ = 1 := if_pos h
theorem ff_w0 {i : Int} (h : ¬ (tI τ 3 = 6 ∧ tI τ 4 = i)) : ff_isWord i τ = 0 := if_neg h
theorem ff_s1 {i : Int} (h : tI τ 3 = 5 ∧ tI τ 4 = i) : ff_isSign i τ = 1 := if_pos h
theorem ff_s0 {i : Int} (h : ¬ (tI τ 3 = 5 ∧ tI τ 4 = i)) : ff_isSign i τ = 0 := if_neg h
theorem ff_w01 (i : Int) (τ : TW) : ff_isWord i τ = 0 ∨ ff_isWord i τ = 1 := by
  by_cases h : tI τ 3 = 6 ∧ tI τ 4 = i
  · exact Or.inr (ff_w1 h)
  · exact Or.inl (ff_w0 h)
theorem ff_s01 (i : Int) (τ : TW) : ff_isSign i τ = 0 ∨ ff_isSign i τ = 1 := by
  by_cases h : tI τ 3 = 5 ∧ tI τ 4 = i
  · exact Or.inr (ff_s1 h)
  · exact Or.inl (ff_s0 h)
/-- the sort that is told at hand; -1 -/
def srt (τ : TW) : Int := if tI τ 3 = 6 ∧ (5 ≤ tI τ 4 ∧ tI τ 4 ≤ 7) then tI τ 4 - 5 else if tI τ 3 = 2 ∧ kfB τ (tI τ 4) ≠ -4 then kfB τ (tI τ 4) + 3 else -1
theorem kfB_rg (τ : TW) (v : Int) : kfB τ v = -4 ∨ ∃ k : Nat, k < nK τ ∧ kfB τ v = k := by
  rcases kfN_spec (τ := τ) v (nK τ) with ⟨a, _⟩ | ⟨k, a, b, _⟩
  · exact Or.inl a
  · exact Or.inr ⟨k, a, b⟩
theorem srt_rg (h : srt τ ≠ -1) : 0 ≤ srt τ ∧ srt τ < 3 + nK τ := by
  unfold srt at *
  split at h
  · rename_i z; rw [if_pos z]; omega
  · rename_i z; rw [if_neg z]
    split at h
    · rename_i y; rw [if_pos y]
      rcases kfB_rg τ (tI τ 4) with x | ⟨k, x1, x2⟩
      · exact absurd x y.2
      · omega
    · exact absurd rfl h
theorem sC_readSort (h : RB p w τ) (K : KRs p w τ m) (hs : srt τ ≠ -1) {Q : ZRes → CW → Prop} (hQ : Q (.inl (some (ai (srt τ)))) w) : wpC p (d + 7) 17 [ar p] w Q := by
  have q3 := h.2.2.2.2.2.1.2.2.1
  have q4 := h.2.2.2.2.2.1.2.2.2.1
  have W := h.1
  refine wC_X0_readSort (Nat.zero_le _) ⟨fun e => ?_, fun e => ?_⟩
  · rw [q3] at e
    rw [q4 (Or.inr (Or.inl e))]
    have e6 : ¬ (tI τ 3 = 6 ∧ (5 ≤ tI τ 4 ∧ tI τ 4 ≤ 7)) := by omega
    have hne : kfB τ (tI τ 4) ≠ -4 := by
      intro z
      apply hs
      unfold srt
      rw [if_neg e6, if_neg (fun y => y.2 z)]
    have hv : srt τ = kfB τ (tI τ 4) + 3 := by
      unfold srt
      rw [if_neg e6, if_pos ⟨e, hne⟩]
    obtain ⟨k, k1, k2⟩ := (kfB_rg τ (tI τ 4)).resolve_left hne
    have hl := K.2.2.2.2.1 k k1
    refine sC_named K ?_
    rw [if_neg hne, k2, Int.toNat_natCast]
    have hk0 : kd w p k ≠ 0 := by intro z; have := hl.1; rw [z, W.1] at this; cases this
    refine fa ?_
    rw [if_pos hk0]
    refine sC_needOk (by decide) ⟨by rw [hl.1]; decide, fa ?_⟩
    rw [hl.2.2.1]
    have hk24 := (K.un k k1).1
    rw [w32_s (by omega) (by omega), show (3 : Int) + (k : Int) = srt τ by omega]
    exact hQ
  · rw [q3] at e
    have e2 : ¬ (tI τ 3 = 2 ∧ kfB τ (tI τ 4) ≠ -4) := fun z => e z.1
    have e6 : tI τ 3 = 6 ∧ (5 ≤ tI τ 4 ∧ tI τ 4 ≤ 7) := by
      apply Classical.byContradiction
      intro z
      apply hs
      unfold srt
      rw [if_neg z, if_neg e2]
    have hv : srt τ = tI τ 4 - 5 := by unfold srt; rw [if_pos e6]
    have tail : pC_X0_readSort_73 p (wpC p (d + 6)) (fun v w => Q (.inl (some (ai v))) w) (fun x w => Q (.inr x) w) p w := by
      refine ⟨W.2.1, sC_want (by decide) (h.word 5 5 rfl (by decide) ⟨fun z => h.word 6 6 rfl (by decide) ⟨fun y => ?_, fun y => ?_⟩, fun z => ?_⟩)⟩
      · have : srt τ = 2 := by
          have z1 : ¬ tI τ 4 = 5 := fun q => by have : ff_isWord ((5 : Nat) : Int) τ = 1 := ff_w1 ⟨e6.1, q⟩; omega
          have y1 : ¬ tI τ 4 = 6 := fun q => by have : ff_isWord ((6 : Nat) : Int) τ = 1 := ff_w1 ⟨e6.1, q⟩; omega
          omega
        rw [this] at hQ; exact hQ
      · have : srt τ = 1 := by
          have y1 : tI τ 4 = 6 := Classical.byContradiction (fun q => y (ff_w0 (fun x => q x.2)))
          omega
        rw [this] at hQ; exact hQ
      · have : srt τ = 0 := by
          have y1 : tI τ 4 = 5 := Classical.byContradiction (fun q => z (ff_w0 (fun x => q x.2)))
          omega
        rw [this] at hQ; exact hQ
    refine h.word 5 5 rfl (by decide) ⟨fun z => h.word 6 6 rfl (by decide) ⟨fun y => h.word 7 7 rfl (by decide) ⟨fun x => ?_, fun _ => tail⟩, fun _ => tail⟩, fun _ => tail⟩
    exfalso
    have z1 : ¬ tI τ 4 = 5 := fun q => by have : ff_isWord ((5 : Nat) : Int) τ = 1 := ff_w1 ⟨e6.1, q⟩; omega
    have y1 : ¬ tI τ 4 = 6 := fun q => by have : ff_isWord ((6 : Nat) : Int) τ = 1 := ff_w1 ⟨e6.1, q⟩; omega
    have x1 : ¬ tI τ 4 = 7 := fun q => by have : ff_isWord ((7 : Nat) : Int) τ = 1 := ff_w1 ⟨e6.1, q⟩; omega
    omega
theorem sC_readSortNo (h : RB p w τ) (K : KRs p w τ m) (hs : srt τ = -1) (hm : cz w + 1 ≤ mz w ∧ cu w + 8 ≤ mu w) {Q : ZRes → CW → Prop} (hQ : Q (.inr (cz w + 1)) (wrW w (if tI τ 3 = 2 then 4 else 2) (tI τ 5))) : wpC p (d + 7) 17 [ar p] w Q := by
  have q2 := h.2.2.2.2.2.1.2.1
  have q3 := h.2.2.2.2.2.1.2.2.1
  have q4 := h.2.2.2.2.2.1.2.2.2.1
  have W := h.1
  refine wC_X0_readSort (Nat.zero_le _) ⟨fun e => ?_, fun e => ?_⟩
  · rw [q3] at e
    rw [q4 (Or.inr (Or.inl e))]
    have e6 : ¬ (tI τ 3 = 6 ∧ (5 ≤ tI τ 4 ∧ tI τ 4 ≤ 7)) := by omega
    have hne : kfB τ (tI τ 4) = -4 := by
      apply Classical.byContradiction
      intro z
      have : srt τ = kfB τ (tI τ 4) + 3 := by
        unfold srt
        rw [if_neg e6, if_pos ⟨e, z⟩]
      rcases kfB_rg τ (tI τ 4) with y | ⟨k, k1, k2⟩
      · exact z y
      · omega
    refine sC_named K ?_
    rw [if_pos hne]
    refine fa ?_
    rw [if_neg (fun z => z rfl), q2]
    rw [if_pos e] at hQ
    exact sC_needNo rfl hm hQ
  · rw [q3] at e
    have e6 : ¬ (tI τ 3 = 6 ∧ (5 ≤ tI τ 4 ∧ tI τ 4 ≤ 7)) := by
      intro z
      have : srt τ = tI τ 4 - 5 := by unfold srt; rw [if_pos z]
      omega
    rw [if_neg e] at hQ
    refine h.word 5 5 rfl (by decide) ⟨fun z => h.word 6 6 rfl (by decide) ⟨fun y => h.word 7 7 rfl (by decide) ⟨fun x => ?_, fun x => ?_⟩, fun y => ?_⟩, fun z => ?_⟩
    · refine ⟨W.2.1, sC_wantNo rfl hm ?_⟩
      rw [q2]
      exact hQ
    · exact absurd (ff_w0 (fun q => e6 ⟨q.1, by have := q.2; omega⟩)) x
    · exact absurd (ff_w0 (fun q => e6 ⟨q.1, by have := q.2; omega⟩)) y
    · exact absurd (ff_w0 (fun q => e6 ⟨q.1, by have := q.2; omega⟩)) z
theorem sT_readSort (h0 : 0 ≤ tI τ 10) (h24 : tI τ 10 ≤ 24) (hs : srt τ ≠ -1) {much : Int} {Q : ZRes → TW → Prop} (hQ : pT_readSort_82 (wpT (d + 4)) (fun v w => Q (.inl (some (ai v))) w) much (srt τ) τ) : wpT (d + 5) 19 [ai much] τ Q := by
  have hin : ∀ v : Int, ff_in v 5 7 τ = 0 ↔ ¬ (5 ≤ v ∧ v ≤ 7) := by
    intro v
    rw [ff_in_eq]
    by_cases z : 5 ≤ v ∧ v ≤ 7
    · rw [if_pos z]; exact ⟨fun q => (by cases q), fun q => absurd z q⟩
    · rw [if_neg z]; exact ⟨fun _ => z, fun _ => rfl⟩
  refine wT_readSort (by omega) ⟨fun e => fa ?_, fun e => ⟨fun e2 => sT_kindOf h0 h24 ⟨fun z => ?_, fun z => fa ?_⟩, fun e2 => ?_⟩⟩
  · have hv : 5 ≤ tI τ 4 ∧ tI τ 4 ≤ 7 := Classical.byContradiction (fun z => e.2 ((hin _).mpr z))
    have : srt τ = tI τ 4 - 5 := by unfold srt; rw [if_pos ⟨e.1, hv⟩]
    have e9 : w32 ((w32 (tI τ 4)) - 5) = srt τ := by
      have hv' : 5 ≤ tI τ 4 ∧ tI τ 4 ≤ 7 := hv
      rw [w32_s (a := tI τ 4) (by omega) (by omega), w32_s (by omega) (by omega)]; exact this.symm
    rw [e9]
    exact hQ
  · exfalso
    apply hs
    unfold srt
    have e2' : tI τ 3 = 2 := e2
    rw [if_neg (by omega), if_neg (fun y => y.2 z)]
  · have e2' : tI τ 3 = 2 := e2
    have : srt τ = kfB τ (tI τ 4) + 3 := by
      unfold srt
      rw [if_neg (by omega), if_pos ⟨e2', z⟩]
    have hr := kfB_rg τ (tI τ 4)
    have e9 : w32 (kfB τ (tI τ 4) + 3) = srt τ := by
      have hn : (nK τ : Int) ≤ 24 := by unfold nK; omega
      rw [this, w32_s (by omega) (by omega)]
    have e9' : w32 (kfB τ (tI τ 4) + 3) = srt τ := e9
    rw [e9']
    exact hQ
  · exfalso
    apply hs
    unfold srt
    rw [if_neg (fun z => e ⟨z.1, fun y => (hin _).mp y z.2⟩), if_neg (fun z => e2 z.1)]
/-- the reference's fault at a sort -/
theorem sT_readSortNo (h0 : 0 ≤ tI τ 10) (h24 : tI τ 10 ≤ 24) (hf : tI τ 7 = 0) (hs : srt τ = -1) {much : Int} : ∃ τ' s, (FT [7, 8] τ τ' ∧ Dd (if tI τ 3 = 7 then 1 else if tI τ 3 = 2 then 4 else 2) (tI τ 5) τ' ∧ tI τ' 7 ≠ 0) ∧ ∀ Q, Q (.inl (some (ai s))) τ' → wpT (d + 5) 19 [ai much] τ Q := by
  have hin : ∀ v : Int, ff_in v 5 7 τ = 0 ↔ ¬ (5 ≤ v ∧ v ≤ 7) := by
    intro v
    rw [ff_in_eq]
    by_cases z : 5 ≤ v ∧ v ≤ 7
    · rw [if_pos z]; exact ⟨fun q => (by cases q), fun q => absurd z q⟩
    · rw [if_neg z]; exact ⟨fun _ => z, fun _ => rfl⟩
  have e6 : ¬ (tI τ 3 = 6 ∧ (5 ≤ tI τ 4 ∧ tI τ 4 ≤ 7)) := by
    intro z
    have : srt τ = tI τ 4 - 5 := by unfold srt; rw [if_pos z]
    omega
  have e6' : ¬ (((tI τ 3) = 6) ∧ (¬ ((ff_in (tI τ 4) 5 7 τ) = 0))) := fun z => e6 ⟨z.1, Classical.byContradiction (fun y => z.2 ((hin _).mpr y))⟩
  -- behind the fault
  have post : ∀ (τ' : TW) (x2 : Int) (Q : ZRes → TW → Prop), tI τ' 7 ≠ 0 → Q (.inl (some (ai x2))) τ' → pT_readSort_82 (wpT (d + 4)) (fun v w => Q (.inl (some (ai v))) w) much x2 τ' := by
    intro τ' x2 Q hne hQ
    have h96 : pT_readSort_96 (wpT (d + 4)) (fun v w => Q (.inl (some (ai v))) w) x2 τ' := ⟨fun z => absurd z hne, fun _ => hQ⟩
    refine ⟨fun _ => h96, fun _ => ?_⟩
    obtain ⟨τ'', ⟨_, _, h3⟩, run⟩ := sT_fails (d := d + 3) (τ := τ') (k := 9) (pl := tI τ' 5)
    refine run _ ?_
    rw [h3 hne]
    exact h96
  by_cases e2 : tI τ 3 = 2
  · have hk : kfB τ (tI τ 4) = -4 := by
      apply Classical.byContradiction
      intro z
      have : srt τ = kfB τ (tI τ 4) + 3 := by
        unfold srt
        rw [if_neg e6, if_pos ⟨e2, z⟩]
      rcases kfB_rg τ (tI τ 4) with y | ⟨k, k1, k2⟩
      · exact z y
      · omega
    obtain ⟨τ', ⟨h1, h2, h3⟩, run⟩ := sT_fails (d := d + 3) (τ := τ) (k := 4) (pl := tI τ 5)
    have hD := h2 hf (by decide)
    have hne : tI τ' 7 ≠ 0 := by
      rcases hD with ⟨a, b, c⟩ | ⟨a, b, c, e⟩
      · omega
      · cases c
    refine ⟨τ', w32 (-4 + 3), ⟨h1, ?_, hne⟩, fun Q hQ => wT_readSort (by omega) ⟨fun z => absurd z e6', fun _ => ⟨fun _ => sT_kindOf h0 h24 ⟨fun _ => run _ (fa ?_), fun z => absurd hk z⟩, fun z => absurd e2 z⟩⟩⟩
    · rw [if_neg (by omega), if_pos e2]; exact hD
    · rw [show kfB τ (tI τ 4) = -4 from hk]
      exact post _ _ Q hne hQ
  · obtain ⟨τ', ⟨h1, h2, h3⟩, run⟩ := sT_stop (d := d + 2) (τ := τ) (k := 2) (by decide)
    refine ⟨τ', -4, ⟨h1, ?_, (h2 hf).2⟩, fun Q hQ => wT_readSort (by omega) ⟨fun z => absurd z e6', fun _ => ⟨fun z => absurd z e2, fun _ => run _ (post _ _ Q (h2 hf).2 hQ)⟩⟩⟩
    have := (h2 hf).1
    rw [if_neg e2]
    exact this
end ZSort
