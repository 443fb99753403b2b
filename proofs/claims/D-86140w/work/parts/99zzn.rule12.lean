/-! a rule's end, both: the whole -/
section ZRule12
variable {p b e d : Nat} {w : CW} {τ : TW}
theorem rl_end {f F m i x A rr s67 R M : Nat} {u0 : CW} {σ0 : TW} {T S S' : List Nat} (hR : R = 16 * f + i) (i16 : i < 16) (W0 : WF p u0) (H0 : RuH p f i F x A rr s67 u0 σ0) (h00 : RU0 p f F m R x A u0 σ0) (hN0 : nN σ0 = 0) (hT : b < x ∧ b < s67 ∧ F ∈ T ∧ rr ∈ T) (hS : ∀ f, f ∈ SPC → f ∈ S) (hS' : ∀ f, f ∈ SPR → f ∈ S') :
    ∀ (u : CW) (σ : TW) (c : Nat → Nat) (Di : Nat → Nat → Prop) (Sn : Nat → Nat → Int), RU0 p f F m R x A u σ → PS p u σ 0 → RLI p f R A u0 σ0 m u σ c Di Sn → (fR u 15 p = fR u0 15 p ∧ fR u 16 p = fR u0 16 p) → Rm 4000 u σ → OUTb p b T S S' (-8000) 500 (fun (_ : Unit) (_ : Unit) w' τ' => RuE p f i F R x rr (np σ0) u0 σ0 w' τ') (fun Q X => pC_X0_rule_116 p (wpC p (M + 39)) (fun w => Q () w) (fun x w => X x w) F x u) (fun Q => pT_readRule_252 (wpT (e + 9)) (fun w => Q () w) f σ) u σ := by
  intro u σ c Di Sn h0 hPS hI hf hRm
  obtain ⟨⟨g1, g2, g3, g4⟩, g5, ⟨g6, g7, g8, g9, g10, g11⟩, ⟨g12, g13, g14⟩, ⟨g15, g16, g17⟩, g18⟩ := id h00
  have cc := hI.2.2.2.2.2.2.2.2
  have hnA := g18.1.2.2.2
  have hnB := g18.2.2.2.2
  obtain ⟨-, -, -, eF, ex⟩ := h00.on W0 cc (fun r hr => by
    simp only [List.mem_cons, List.not_mem_nil, or_false] at hr
    rcases hr with hr | hr | hr
    · rw [hr]; exact Or.inl hnA
    · rw [hr]; exact Or.inl hnB
    · exact Or.inr (Or.inl hr)) ⟨by decide, by decide⟩ (by decide)
  obtain ⟨H, err⟩ := H0.on (m := m) (R := R) W0 cc eF ex ⟨fun y => by
    have q1 := H0.2.1.1.2.2
    have q2 := H0.2.1.2.2
    simp only [List.mem_cons, List.not_mem_nil, or_false] at y
    omega, fun y => by
    have q1 := H0.2.2.2.1
    simp only [List.mem_cons, List.not_mem_nil, or_false] at y
    rcases y with y | y | y
    · omega
    · omega
    · rw [y, g12] at q1; cases q1.1⟩ (by decide)
  have hUro := hI.uro
  obtain ⟨⟨a1, a2, a3, a4⟩, b1, ⟨c1, c2, c3, c4, c5, c6⟩, ⟨d1, d2, d3⟩, ⟨e1, e2, e3⟩, ga⟩ := id h0
  obtain ⟨⟨x1, x2, x3, x4, x5, x6⟩, ⟨s1, s2, s3⟩, ⟨f1, f2⟩, ⟨r1, r2, r3⟩, t45⟩ := id H
  have rb := hPS.1
  have nm := hPS.2.2.1
  have hroom := Rm.room rb hRm (k := 1) (n := 8) (by decide)
  have r27 : tI σ 27 = ((16 * f + i : Nat) : Int) := by rw [← hR, ← c6]; exact nm.2.1
  have hPT := hI.pts rb.1 hR (by omega) c2 hN0
  have hlo : ((np σ0 : Nat) : Int) ≤ tA σ 47 (16 * f + i : Nat) := by
    have q1 := hI.2.2.2.2.1.2.1 (by omega)
    have q2 := (hI.2.2.2.2.2.1 0 (by omega)).2
    rw [hR] at q1
    omega
  have e45 : ∀ y, tA σ 45 y = tA σ0 45 y := (cc.2.2.2.1 45 (by decide)).2
  by_cases z : ff_isSign 44 σ = 0
  · have cm : ∀ (Q : Unit → CW → Prop) (X : Nat → CW → Prop) (v25 : Int), v25 = ff_isWord 3 σ → ((v25 = 0 → pC_X0_rule_159 p (wpC p (M + 39)) (fun w => Q () w) (fun x w => X x w) F x 0 x u) ∧ (¬ (v25 = 0) → wpC p (M + 39) 34 [ar p] u (zqR (fun v53 u52 => pC_X0_rule_159 p (wpC p (M + 39)) (fun w => Q () w) (fun x w => X x w) F x v53 x u52) (fun x54 u55 => X x54 u55)))) → pC_X0_rule_116 p (wpC p (M + 39)) (fun w => Q () w) (fun x w => X x w) F x u := by
      intro Q X v25 hv h
      subst hv
      exact bC_X0_rule_116 (sR_isSign (d := M + 38) rb (by decide) (fa (sC_needOk (d := M + 38) (by rw [if_pos z]; decide) (RB.word (d := M + 34) rb 13 3 rfl (by decide) h))))
    refine OUTb.tt (fun Q h => bT_readRule_252 (br0 (fun y => y.2 z) (bT_readRule_278 h))) ?_
    by_cases hw : ff_isWord 3 σ = 0
    · refine OUTb.cc (cm' := fun Q X => pC_X0_rule_159 p (wpC p (M + 39)) (fun w => Q () w) (fun x w => X x w) F x 0 x u) (fun Q X h => cm Q X _ rfl (br1 hw h)) ?_
      refine OUTb.tw (S1 := [53]) hRm rb (sA σ 53 (16 * f + i : Nat) 0) ((FT.refl _ _).ssA (by decide)) (fun Q h => wT_readGuard (by omega) (bT_readGuard_0 ⟨by rw [r27]; omega, fun u1 hu1 => br1 (Or.inr ?_) (bT_readGuard_25 (h u1 (by rw [hu1, r27])))⟩)) (fun σ1 e1' rb1 F1 hR1 => ?_) (fun g hg => hS' g ((by decide : ∀ f, f ∈ [53] → f ∈ SPR) g hg))
      · have : FT [53] σ u1 := by rw [hu1]; exact (FT.refl _ _).ssA (by decide)
        unfold ff_isWord at hw ⊢
        rw [(this 3 (by decide)).1, (this 4 (by decide)).1]
        exact hw
      · have K1 : KR p u σ1 := hPS.2.1.fr (S := []) (T := []) rb.1 (Fr.refl _ _) (PF.refl _ _ _) (fun r hr => by cases hr) (by simp) (by simp) F1 (by decide)
        have nm1 := (nm.ft F1 (by decide)).1
        have n1 : nN σ1 = nN σ := nN_ft F1 (by decide) (by decide)
        have P1 := (hPT.fr (T := []) (S := [53]) nm.2.2.2.2.1 ⟨d1, d2, d3⟩ rb.1 (Fr.refl _ _) (fun x hx => by cases hx) ⟨by unfold nK; rw [(F1 10 (by decide)).1]; exact Nat.le_refl _, fun k _ => ⟨rfl, (F1 14 (by decide)).2 _, fun _ _ => (F1 15 (by decide)).2 _⟩⟩ F1 (by decide)).1
        refine ((rl_159 (e := e) (b := b) (M := M) (b1 := cz u) (kn := nN σ) (g0 := 0) rb1 K1 nm1 (by rw [(F1 16 (by decide)).1, np_ft F1 (by decide)]; exact hPS.2.2.2.1) (by rw [np_ft F1 (by decide), (F1 5 (by decide)).1]; exact hPS.2.2.2.2.1) (by rw [nR_ft F1 (by decide), ← hR]; exact c6) i16 c4 ⟨e1, e2, x1, by rw [(F1 48 (by decide)).2]; exact x2, x3, x5, e3, x6⟩ s1 (Or.inl s2) ⟨a1, a2, f1, f2⟩ ⟨r1, r2, r3⟩ ⟨d1, d2, d3⟩ ⟨by rw [(F1 43 (by decide)).2]; exact c1, c2, c3⟩ P1 n1.symm (by rw [(F1 47 (by decide)).2]; exact hlo) (Or.inl ⟨by rw [e1', tA_sA, if_pos ⟨rfl, rfl⟩], rfl⟩) ⟨rb.1.le (by rw [e1]; decide), rb.1.le (by rw [s1.1]; decide), rb.1.le (by rw [r1]; decide), rb.1.le (by rw [a1]; decide), rb.1.pz⟩ (by rw [(F1 45 (by decide)).2]; exact t45) hT hS hS' (hR1.le (by decide))).nn (fun v v' w' τ' _ _ n => ?_)).le
        rw [hR]
        refine RuE.pre n (ex 66).2 err eF (fun y => by rw [(F1 45 (by decide)).2]; exact e45 y) ?_
        rw [← hR]
        refine hUro.trans (URo.guard (R := R) F1 (by decide) (fun x _ => ⟨(F1 50 (by decide)).2 _, (F1 51 (by decide)).2 _⟩) (fun x _ => (F1 52 (by decide)).2 _) (fun y hy => ?_))
        rw [e1', tA_sA, if_neg (by omega)]
    · refine OUTb.cc (cm' := fun Q X => wpC p (M + 39) 34 [ar p] u (zqR (fun v53 u52 => pC_X0_rule_159 p (wpC p (M + 39)) (fun w => Q () w) (fun x w => X x w) F x v53 x u52) (fun x54 u55 => X x54 u55))) (fun Q X h => cm Q X _ rfl (br0 hw h)) ?_
      have pz : p + 8 ≤ cz u := by have := rb.1.le (r := x) (by rw [e1]; decide); omega
      refine OUTb.bIV hRm (pr_guard (d := M + 22) (e := e) rb nm pz hw (hRm.le (by decide))) (fun Q X h => h) (fun Q h => h) (fun g0 _ u1 σ1 rb1 n1 k1 hR1 => ?_) (fun h pl σ1 D F1 => (rl_dead278b (e := e) c4 D).mono (fun g hg => hS' g ((by decide : ∀ f, f ∈ [7, 8, 45] → f ∈ SPR) g hg))) (hS := fun g hg => hS g ((by decide : ∀ f, f ∈ [9, 10, 11, 12, 13, 14] → f ∈ SPC) g hg)) (hS' := fun g hg => hS' g ((by decide : ∀ f, f ∈ [2, 3, 4, 5, 6, 7, 8, 50, 51, 52, 53] → f ∈ SPR) g hg))
      obtain ⟨⟨q1, q2, q3, q4⟩, q5, q6, q7, q8⟩ := n1
      rw [c6] at q5 q6 q7 q8
      have F1 := k1.2.2.2.1
      have K1 : KR p u1 σ1 := hPS.2.1.fr rb.1 k1.1 k1.2.1 (fun r hr => by cases hr) (by decide) (by decide) F1 (by decide)
      have nm1 := nm.on rb.1 k1
      have nn1 : nN σ1 = nN σ := nN_ft F1 (by decide) (by decide)
      obtain ⟨h1, f15, f16, eF1, ex1⟩ := h0.on rb.1 k1 (fun r hr => by cases hr) ⟨by decide, by decide⟩ (by decide)
      obtain ⟨H1, err1⟩ := H.on (m := m) (R := R) rb.1 k1 eF1 ex1 ⟨by simp, by simp⟩ (by decide)
      obtain ⟨⟨a1', a2', a3', a4'⟩, b1', ⟨c1', c2', c3', c4', c5', c6'⟩, ⟨d1', d2', d3'⟩, ⟨e1', e2', e3'⟩, ga'⟩ := id h1
      obtain ⟨⟨x1', x2', x3', x4', x5', x6'⟩, ⟨s1', s2', s3'⟩, ⟨f1', f2'⟩, ⟨r1', r2', r3'⟩, t45'⟩ := id H1
      have k0 := hPS.2.1.1
      have P1 := (hPT.fr (T := [p]) (S := [2, 3, 4, 5, 6, 7, 8, 50, 51, 52, 53]) nm.2.2.2.2.1 ⟨d1, d2, d3⟩ rb.1 k1.1 (fun x hx => by rw [List.mem_singleton.mp hx]; left; omega) ⟨by unfold nK; rw [(F1 10 (by decide)).1]; exact Nat.le_refl _, fun k _ => ⟨kd_fr2 k0 k1.1 (k1.2.1 0 (by decide)).2 (by have := k0.2.2.1; have : p < fR u 0 p := this; simp; omega) k, (F1 14 (by decide)).2 _, fun _ _ => (F1 15 (by decide)).2 _⟩⟩ F1 (by decide)).1
      have eB : wnB σ1 = wnB σ := funext fun n => propext (wnB.ft F1 (by decide) n)
      refine ((rl_159 (e := e) (b := b) (M := M) (b1 := cz u) (kn := nN σ) (g0 := g0) rb1 K1 nm1 (by rw [(F1 16 (by decide)).1, np_ft F1 (by decide)]; exact hPS.2.2.2.1) (by
        rw [np_ft F1 (by decide)]
        have y1 := hPS.2.2.2.2.1
        have y2 := k1.2.2.2.2.1
        have y3 : tI σ 5 = tI σ 5 := rfl
        have y4 : tI σ1 5 = tI σ1 5 := rfl
        omega) (by rw [nR_ft F1 (by decide), ← hR]; exact c6) i16 c4 ⟨e1', e2', x1', x2', x3', x5', e3', x6'⟩ s1' (Or.inl s2') ⟨a1', a2', f1', f2'⟩ ⟨r1', r2', r3'⟩ ⟨d1', d2', d3'⟩ ⟨c1', c2', c3'⟩ P1 nn1.symm (by rw [(F1 47 (by decide)).2]; exact hlo) (Or.inr ⟨by rw [eB, ← hR]; exact q5, q1, q2, q3, q4⟩) ⟨rb.1.le (by rw [e1]; decide), rb.1.le (by rw [s1.1]; decide), rb.1.le (by rw [r1]; decide), rb.1.le (by rw [a1]; decide), rb.1.pz⟩ t45' hT hS hS' (hR1.le (by decide))).nn (fun v v' w' τ' _ _ n => ?_)).le
      rw [hR]
      refine RuE.pre n ((ex1 66).2.trans (ex 66).2) (fun j => (err1 j).trans (err j)) (fun g => ⟨(eF1 g).1.trans (eF g).1, (eF1 g).2.trans (eF g).2⟩) (fun y => by rw [(F1 45 (by decide)).2]; exact e45 y) ?_
      rw [← hR]
      exact hUro.trans (URo.guard (R := R) F1 (by decide) q6 q7 q8)
  · obtain ⟨σ', ⟨q1, q2, q3⟩, run⟩ := RB.fails (e := e + 8) rb (k := 6) (pl := tI σ 5) (by decide)
    refine OUTb.thr (how := 6) (pl := tI σ 5) rb (fun Q X h => bC_X0_rule_116 (sR_isSign (d := M + 38) rb (by decide) (fa (rb.needNo (d := M + 35) (if_neg z) hroom h)))) (DD.mono (S1 := [7, 8, 45, 53]) (DD.pre (tm' := fun (Q : Unit → TW → Prop) => pT_readRule_278 (wpT (e + 9)) (fun w => Q () w) f σ') (S1 := [7, 8]) q1 (fun Q k => bT_readRule_252 (br1 ⟨rb.f0, z⟩ (run _ k))) (rl_dead278 (e := e) c4 q2 (by rw [(q1 27 (by decide)).1, r27]; omega))) (fun g hg => hS' g ((by decide : ∀ f, f ∈ [7, 8, 45, 53] → f ∈ SPR) g hg)))
end ZRule12
