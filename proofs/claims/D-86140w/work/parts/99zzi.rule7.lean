/-! the loop over a rule's patterns, both: the whole -/
section ZRule7
variable {p b e d : Nat} {w : CW} {τ : TW}
theorem dd_pattern {h pl x1 x2 : Int} (D : Dd h pl τ) (h0 : tI τ 7 = 0) : ∃ σ', FT [7, 8, 32] τ σ' ∧ Dd h pl σ' ∧ tI σ' 7 ≠ 0 ∧ ∀ Q : Int → TW → Prop, Q (-4) σ' → wpT (e + 9) 24 [ai x1, ai x2] τ (zqI (fun v u => Q v u) zno) := by
  have F0 : FT [32] τ (sI τ 32 0) := (FT.refl _ _).ssI (by decide)
  have D0 := D.ft F0 (by decide)
  obtain ⟨σ', F, D', hf, run⟩ := dd_begins (e := e) (x1 := x1) (x2 := x2) D0 ((F0 7 (by decide)).1.trans h0)
  refine ⟨σ', (F0.mono (by decide)).trans (F.mono (by decide)), D', hf, fun Q hQ => wT_readPattern (by omega) (bT_readPattern_0 (fun u hu => ?_))⟩
  rw [hu]
  refine run _ ?_
  show pT_readPattern_15 (wpT (e + 8)) (fun v w => Q v w) (-4) 0 σ'
  rw [pT_rp]
  intro I hI
  exact hI _ _ _ (br0 hf (bT_readPattern_208 hQ))
theorem rl_dead133 {h pl much lst : Int} {f i : Nat} (hf : f < 12) (hi : i < 3) (D : Dd h pl τ) (h0 : tI τ 7 = 0) : DD [7, 8, 32] h pl (tmL (rlT (e + 9) f much) (fun (Q : Unit → TW → Prop) I => pT_readRule_133 (wpT (e + 9)) (fun w => Q () w) I f much lst i τ)) τ := by
  have e44 : w32 ((w32 (3 * (f : Int))) + (i : Int)) = ((3 * f + i : Nat) : Int) := ix3 rfl rfl (by omega)
  obtain ⟨v24, hv⟩ : ∃ v : Int, v = (if ¬ (much = 0) ∧ ((i : Int) = 0) then 1 else 0) := ⟨_, rfl⟩
  obtain ⟨σ', F, D', hn, run⟩ := dd_pattern (e := e) (x1 := tA τ 44 (3 * f + i : Nat)) (x2 := v24) D h0
  refine DD.pre (tm' := fun (Q : Unit → TW → Prop) => Q () σ') (S1 := [7, 8, 32]) F (fun Q k I l => bT_readRule_133 ⟨by rw [e44]; omega, fun v hv2 => ?_⟩) (DD.ret (b := ()) D' (fun Q k => k))
  rw [hv2, ← hv, e44]
  exact run _ (br0 hn (bT_readRule_171 k))
theorem rl_loop {f F m R x A M : Nat} {much a t : Int} {u0 : CW} {σ0 : TW} {T S S' : List Nat} {N : Unit → Unit → CW → TW → Prop} (hM : 39 ≤ M) (hb0 : b < A) (hm01 : much = 0 ∨ much = 1) (h31 : tI σ0 31 = 0)
    (hEnd : ∀ u' σ' c' Di' Sn', RU0 p f F m R x A u' σ' → PS p u' σ' 0 → RLI p f R A u0 σ0 m u' σ' c' Di' Sn' → (fR u' 15 p = fR u0 15 p ∧ fR u' 16 p = fR u0 16 p) → Rm 4000 u' σ' → OUTb p b T S S' a t N (fun Q X => pC_X0_rule_116 p (wpC p M) (fun w => Q () w) (fun x w => X x w) F x u') (fun Q => pT_readRule_252 (wpT (e + 9)) (fun w => Q () w) f σ') u' σ')
    (hTn : fR u0 15 p ∈ T ∧ fR u0 16 p ∈ T) (hS : ∀ f, f ∈ SPC → f ∈ S) (hS' : ∀ f, f ∈ SPR → f ∈ S') (ht : 400 ≤ t) : ∀ (g i : Nat) (u : CW) (σ : TW) (c : Nat → Nat) (Di : Nat → Nat → Prop) (Sn : Nat → Nat → Int), i + g = m → 0 < i → RU0 p f F m R x A u σ → PS p u σ 0 → RLI p f R A u0 σ0 i u σ c Di Sn → (fR u 15 p = fR u0 15 p ∧ fR u 16 p = fR u0 16 p) → Rm 4000 u σ →
    OUTb p b T S S' a t N (cmG (rlC p M F x) (fun _ _ I => I i u)) (tmL (rlT (e + 9) f much) (fun _ I => I (c (i - 1)) i σ)) u σ := by
  intro g
  induction g with
  | zero =>
    intro i u σ c Di Sn hg hi h0 hP hI hf hR
    have him : i = m := by omega
    subst him
    obtain ⟨⟨a1, a2, a3, a4⟩, b1, ⟨c1, c2, c3, c4, c5, c6⟩, -⟩ := id h0
    refine OUTb.kT (F' := fun Q X _ => pC_X0_rule_116 p (wpC p M) (fun w => Q () w) (fun x w => X x w) F x u) (fun Q X I l k => l _ _ ⟨by rw [a1]; decide, br1 (by rw [a3]; omega) k⟩) (OUTb.gT (G' := fun Q _ => pT_readRule_252 (wpT (e + 9)) (fun w => Q () w) f σ) (fun Q I l k => l _ _ _ ⟨by omega, br0 (fun y => y.1 (by rw [c1]; omega)) k⟩) ?_)
    exact OUTb.kO (OUTb.gO (hEnd u σ c Di Sn h0 hP hI hf hR))
  | succ g ih =>
    intro i u σ c Di Sn hg hi h0 hP hI hf hR
    obtain ⟨⟨a1, a2, a3, a4⟩, b1, ⟨c1, c2, c3, c4, c5, c6⟩, ⟨d1, d2, d3⟩, -⟩ := id h0
    have rb := hP.1
    have hroom := Rm.room rb hR (k := 1) (n := 8) (by decide)
    have lw : ∀ {Q : Unit → CW → Prop} {X : Nat → CW → Prop} {I : Int → CW → Prop}, rlC p M F x Q X I → wpC p M 16 [ar p, ai 44] u (zqI (fun v73 u72 => wpC p M 10 [ar p, ai v73, ai 6, ai (fI u72 11 p)] u72 (zqV (fun u74 => wpC p M 4 [ar p] u74 (zqV (fun u76 => pC_X0_rule_94 p (wpC p M) (fun w => Q () w) (fun x w => X x w) I F x i u76) (fun x78 u79 => X x78 u79))) (fun x80 u81 => X x80 u81))) zno) → I i u := fun l k => l _ _ ⟨by rw [a1]; decide, br0 (by rw [a3]; omega) (br0 (by omega) k)⟩
    obtain ⟨M', rfl⟩ : ∃ M', M = M' + 39 := ⟨M - 39, by omega⟩
    by_cases z : ff_isSign 44 σ = 0
    · obtain ⟨σ', ⟨q1, q2, q3⟩, run⟩ := RB.stop (e := e + 7) rb (k := 6) (by decide)
      have lt : ∀ (Q : Unit → TW → Prop) (I : Int → Int → TW → Prop), rlT (e + 9) f much Q I → Q () σ' → I (c (i - 1)) i σ := fun Q I l k => l _ _ _ ⟨by omega, br1 ⟨by rw [c1]; omega, rb.f0⟩ (br0 (by omega) (br1 z (run _ (bT_readRule_123 (q2.takes (e := e + 7) _ (br1 rfl (bT_readRule_132 k)))))))⟩
      refine OUTb.gX (how := 6) (pl := tI σ 5) rb (fun Q X I l k => lw l (sR_isSign (d := M' + 38) rb (by decide) (rb.needNo (d := M' + 35) z hroom k))) (DD.mono (S1 := [7, 8]) (DD.pre (tm' := fun (Q : Unit → TW → Prop) => Q () σ') (S1 := [7, 8]) q1 (fun Q k I l => lt Q I l k) (DD.ret (b := ()) q2 (fun Q k => k))) (fun f hf => hS' f ((by decide : ∀ f, f ∈ [7, 8] → f ∈ SPR) f hf))) (by omega)
    · have s3 : tI σ 3 ≠ 0 := by
        intro y
        exact z (ff_s0 (fun q => by omega))
      refine OUTb.kT (F' := fun Q X I => wpC p (M' + 39) 4 [ar p] u (zqV (fun u76 => pC_X0_rule_94 p (wpC p (M' + 39)) (fun w => Q () w) (fun x w => X x w) I F x i u76) (fun x78 u79 => X x78 u79))) (fun Q X I l k => lw l (sR_isSign (d := M' + 38) rb (by decide) (sC_needOk (d := M' + 38) z k))) ?_
      refine OUTb.gT (G' := fun Q I => wpT (e + 8) 4 [] σ (zqV (fun u => ((1 : Int) = 0 ∨ (1 : Int) = 1) ∧ ((1 : Int) = 0 → pT_readRule_132 (wpT (e + 9)) (fun w => Q () w) u) ∧ (¬ ((1 : Int) = 0) → pT_readRule_133 (wpT (e + 9)) (fun w => Q () w) I f much (c (i - 1)) i u)) zno)) (fun Q I l k => l _ _ _ ⟨by omega, br1 ⟨by rw [c1]; omega, rb.f0⟩ (br0 (by omega) (br0 z (bT_readRule_123 (sT_takes1 (d := e + 4) rb.f0 z k))))⟩) ?_
      refine OUTb.gV hR (OUT.nx1 (d := M' + 27) (e := e + 4) rb s3 (hR.le (by decide))) (fun Q X I l k => k) (fun Q I l k => k) (fun _ _ u1 σ1 rb1 n1 k1 hR1 => ?_) (fun h pl σ1 D F1 => ?_) (hS := fun f hf => hS f ((by decide : ∀ f, f ∈ [9, 10, 11, 12, 13, 14] → f ∈ SPC) f hf)) (hS' := fun f hf => hS' f ((by decide : ∀ f, f ∈ [2, 3, 4, 5, 6] → f ∈ SPR) f hf)) (ht := by omega)
      · refine OUTb.gT (G' := fun Q I => pT_readRule_133 (wpT (e + 9)) (fun w => Q () w) I f much (c (i - 1)) i σ1) (fun Q I l k => ⟨Or.inr rfl, br0 (by decide) k⟩) ?_
        obtain ⟨R1, f15, f16, -, -⟩ := h0.on rb.1 k1 (fun r hr => by cases hr) ⟨by decide, by decide⟩ (by decide)
        have P1 : PS p u1 σ1 0 := hP.nx k1 rb1
        have P1' : PS p (pI u1 20 p 0) (sI σ1 32 0) 0 := by
          rw [pI_id P1.2.2.2.2.2.2.2.2.1, sI_same (show tI σ1 32 = 0 from P1.2.2.2.2.2.1)]
          exact P1
        have RL1 := hI.nx rb.1 hP.2.1.1 d3 (by rw [d1]; decide) k1
        refine (rl_pat (α := Unit) (e := e) hM hb0 R1 P1' rb1 (by rw [if_neg (by omega)]; exact P1.2.2.2.2.2.2.2.2.1) hm01 h31 RL1 ⟨by rw [f15]; exact hf.1, by rw [f16]; exact hf.2⟩ (by omega) (by rw [if_neg (by omega)]) (hR1.le (by decide)) (fun u' σ' c' Di' Sn' _ r1 r2 r3 r4 r5 => ?_) hTn hS hS' (by omega)).le (a' := a) (t' := t) (by omega) (by omega)
        exact ih (i + 1) u' σ' c' Di' Sn' (by omega) (by omega) r1 r2 r3 r4 r5
      · have zf : tI σ1 7 = 0 := (F1 7 (by decide)).1.trans rb.f0
        refine DD.gT (G' := fun Q I => pT_readRule_133 (wpT (e + 9)) (fun w => Q () w) I f much (c (i - 1)) i σ1) (fun Q I l k => ⟨Or.inr rfl, br0 (by decide) k⟩) ?_
        exact (rl_dead133 (e := e) (i := i) c4 (by omega) D zf).mono (fun f hf => hS' f ((by decide : ∀ f, f ∈ [7, 8, 32] → f ∈ SPR) f hf))
end ZRule7
