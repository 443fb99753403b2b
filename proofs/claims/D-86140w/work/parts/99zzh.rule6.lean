/-! a pattern of a rule comes to the rule, both -/
section ZRule6
variable {p b e d : Nat} {w : CW} {τ : TW}
theorem mul_1000 {a b : Int} (ha : 1 ≤ a ∧ a ≤ 1000) (hb : 1 ≤ b ∧ b ≤ 1000) : 1 ≤ a * b ∧ a * b ≤ 1000000 := by
  constructor
  · have := Int.mul_le_mul ha.1 hb.1 (by decide) (by omega)
    omega
  · have := Int.mul_le_mul ha.2 hb.2 (by omega) (by decide)
    omega
theorem rl_note {f i q R cl : Nat} {much lst : Int} (r27 : tI τ 27 = R) (hR : R < 192) (f0 : tI τ 7 = 0) (hq : q < 1700) (hl : i ≠ 0 → lst = cl ∧ cl < 1700) (hi : i < 3) (g49 : 1 ≤ tA τ 49 R ∧ tA τ 49 R ≤ 1000) (g26 : 1 ≤ tA τ 26 q ∧ tA τ 26 q ≤ 1000) : ∃ σ, FT [23, 47, 49] τ σ ∧ tA σ 49 R = min 1000 (tA τ 49 R * tA τ 26 q) ∧ (∀ y : Nat, y ≠ R → tA σ 47 y = tA τ 47 y ∧ tA σ 49 y = tA τ 49 y) ∧ (i = 0 → tA σ 47 R = q ∧ ∀ x : Nat, tA σ 23 x = tA τ 23 x) ∧ (0 < i → tA σ 47 R = tA τ 47 R ∧ ∀ x : Nat, tA σ 23 x = if x = cl then (q : Int) else tA τ 23 x) ∧
    ∀ (Q : TW → Prop) (I : Int → Int → TW → Prop), I q ((i + 1 : Nat) : Int) σ → rlG (wpT (e + 9)) Q I f much lst i q τ := by
  have e1 : w32 ((i : Int) + 1) = ((i + 1 : Nat) : Int) := w32_k (by omega)
  have hm := mul_1000 g49 g26
  have hw : w32 (tA τ 49 R * tA τ 26 q) = tA τ 49 R * tA τ 26 q := w32_s (by omega) (by omega)
  have hmin : (if ¬ (tA τ 49 R * tA τ 26 q ≤ 1000) then (1000 : Int) else tA τ 49 R * tA τ 26 q) = min 1000 (tA τ 49 R * tA τ 26 q) := by
    by_cases z : tA τ 49 R * tA τ 26 q ≤ 1000
    · rw [if_neg (fun y => y z)]; omega
    · rw [if_pos z]; omega
  by_cases z : i = 0
  · obtain ⟨σ, hσ⟩ : ∃ σ, σ = sA (sA τ 47 R q) 49 R (min 1000 (tA τ 49 R * tA τ 26 q)) := ⟨_, rfl⟩
    refine ⟨σ, by rw [hσ]; exact ((FT.refl _ _).ssA (by decide)).ssA (by decide), by rw [hσ]; simp [tA_sA], fun y hy => ?_, fun _ => ⟨by rw [hσ]; simp [tA_sA], fun x => by rw [hσ]; simp [tA_sA]⟩, fun y => by omega, fun Q I hQ => ?_⟩
    · constructor
      · rw [hσ, tA_sA, if_neg (by omega), tA_sA, if_neg (by omega)]
      · rw [hσ, tA_sA, if_neg (by omega), tA_sA, if_neg (by omega)]
    · refine br1 f0 (br1 (by omega) ⟨by omega, fun u1 hu1 => ?_⟩)
      rw [r27] at hu1
      have a27 : tI u1 27 = R := by rw [hu1]; exact r27
      have a49 : tA u1 49 R = tA τ 49 R := by rw [hu1, tA_sA, if_neg (by omega)]
      have a26 : tA u1 26 q = tA τ 26 q := by rw [hu1, tA_sA, if_neg (by omega)]
      refine bT_readRule_199 ⟨by omega, by omega, fa (fa ⟨by omega, fun u2 hu2 => fa ?_⟩)⟩
      rw [a27, a49, a26, hw, hmin, hu1] at hu2
      rw [e1, hu2, ← hσ]
      exact hQ
  · obtain ⟨l1, l2⟩ := hl z
    obtain ⟨σ, hσ⟩ : ∃ σ, σ = sA (sA τ 23 cl q) 49 R (min 1000 (tA τ 49 R * tA τ 26 q)) := ⟨_, rfl⟩
    refine ⟨σ, by rw [hσ]; exact ((FT.refl _ _).ssA (by decide)).ssA (by decide), by rw [hσ]; simp [tA_sA], fun y hy => ?_, fun y => by omega, fun _ => ⟨?_, fun x => ?_⟩, fun Q I hQ => ?_⟩
    · constructor
      · rw [hσ, tA_sA, if_neg (by omega), tA_sA, if_neg (by omega)]
      · rw [hσ, tA_sA, if_neg (by omega), tA_sA, if_neg (by omega)]
    · rw [hσ, tA_sA, if_neg (by omega), tA_sA, if_neg (by omega)]
    · rw [hσ, tA_sA, if_neg (by omega), tA_sA]
      by_cases y : x = cl
      · rw [if_pos ⟨rfl, by omega⟩, if_pos y]
      · rw [if_neg (by omega), if_neg y]
    · refine br1 f0 (br0 (by omega) ⟨by omega, fun u1 hu1 => ?_⟩)
      rw [l1] at hu1
      have a27 : tI u1 27 = R := by rw [hu1]; exact r27
      have a49 : tA u1 49 R = tA τ 49 R := by rw [hu1, tA_sA, if_neg (by omega)]
      have a26 : tA u1 26 q = tA τ 26 q := by rw [hu1, tA_sA, if_neg (by omega)]
      refine bT_readRule_199 ⟨by omega, by omega, fa (fa ⟨by omega, fun u2 hu2 => fa ?_⟩)⟩
      rw [a27, a49, a26, hw, hmin, hu1] at hu2
      rw [e1, hu2, ← hσ]
      exact hQ
theorem rl_pat {α : Type} {f F m R x A i M : Nat} {much lst a t : Int} {u0 u : CW} {σ0 σ : TW} {c : Nat → Nat} {Di : Nat → Nat → Prop} {Sn : Nat → Nat → Int} {T S S' : List Nat} {N : Unit → Unit → CW → TW → Prop} (hM : 39 ≤ M) (hb0 : b < A) (h0 : RU0 p f F m R x A u σ) (hP : PS p (pI u 20 p 0) (sI σ 32 0) 0) (rb : RB p u σ) (hmu : fI u 20 p = if i = 0 then much else 0) (hm01 : much = 0 ∨ much = 1) (h31 : tI σ0 31 = 0) (hI : RLI p f R A u0 σ0 i u σ c Di Sn) (hf : fR u 15 p = fR u0 15 p ∧ fR u 16 p = fR u0 16 p) (him : i < m) (hl : lst = if i = 0 then (-4 : Int) else c (i - 1)) (hR : Rm 4000 u σ)
    (IH : ∀ u' σ' c' Di' Sn', (i = 0 → much = 0) → RU0 p f F m R x A u' σ' → PS p u' σ' 0 → RLI p f R A u0 σ0 (i + 1) u' σ' c' Di' Sn' → (fR u' 15 p = fR u0 15 p ∧ fR u' 16 p = fR u0 16 p) → Rm 4000 u' σ' → OUTb p b T S S' a t N (cmG (rlC p M F x) (fun _ _ I => I ((i + 1 : Nat) : Int) u')) (tmL (rlT (e + 9) f much) (fun _ I => I (c' i) ((i + 1 : Nat) : Int) σ')) u' σ')
    (hTn : fR u0 15 p ∈ T ∧ fR u0 16 p ∈ T) (hS : ∀ f, f ∈ SPC → f ∈ S) (hS' : ∀ f, f ∈ SPR → f ∈ S') (ht : 400 ≤ t) :
    OUTb p b T S S' a t N (cmG (rlC p M F x) (fun Q X I => pC_X0_rule_94 p (wpC p M) (fun w => Q () w) (fun x w => X x w) I F x i u)) (tmL (rlT (e + 9) f much) (fun Q I => pT_readRule_133 (wpT (e + 9)) (fun w => Q () w) I f much lst i σ)) u σ := by
  obtain ⟨⟨a1, a2, a3, a4⟩, b1, ⟨c1, c2, c3, c4, c5, c6⟩, ⟨d1, d2, d3⟩, ⟨e1, e2, e3⟩, g1⟩ := id h0
  obtain ⟨i1, i2, i3, i4, ⟨i5, i6, i7⟩, i8, i9, i10, i11⟩ := id hI
  have hs := b1 i him
  have es : aN u (fR u 45 F) i = tA σ 44 (3 * f + i : Nat) := by
    unfold aN
    rw [if_neg (by rw [a4.1]; decide)]
    exact hs.1
  have e44 : w32 ((w32 (3 * (f : Int))) + (i : Int)) = ((3 * f + i : Nat) : Int) := ix3 rfl rfl (by omega)
  have h19 : fI u 19 p = 0 := by
    have := hP.2.2.2.2.2.2.2.1
    rw [fI_of _ _ _ _ (by decide)] at this
    exact this
  have emc : (if ¬ ((fI u 20 p) = 0) ∨ (¬ ((fI u 19 p) < 6)) then (1 : Int) else 0) = (if ¬ (much = 0) ∧ ((i : Int) = 0) then 1 else 0) := by
    rw [hmu, h19]
    by_cases z : i = 0
    · rw [if_pos z]
      by_cases y : much = 0
      · rw [if_neg (by omega), if_neg (by omega)]
      · rw [if_pos (by omega), if_pos (by omega)]
    · rw [if_neg z, if_neg (by omega), if_neg (by omega)]
  have hle : A ≤ cz u := rb.1.le (by rw [d1]; decide)
  have hcl : i ≠ 0 → lst = c (i - 1) ∧ c (i - 1) < np σ := fun z => ⟨by rw [hl, if_neg z], i1.2.2.1 _ (by omega)⟩
  have hnp : np σ < 1700 := by
    have q1 := hP.2.2.2.2.1
    have q2 := rb.rg
    have q3 : tI (sI σ 32 0) 5 = tI σ 5 := rfl
    have q4 : np (sI σ 32 0) = np σ := rfl
    have q5 : tI σ 5 = tI σ 5 := rfl
    omega
  have r27 : tI σ 27 = R := by
    have := hP.2.2.1.2.1
    have q1 : tI (sI σ 32 0) 27 = tI σ 27 := rfl
    have q2 : nR (sI σ 32 0) = nR σ := rfl
    rw [q1, q2, i3] at this
    exact this
  refine OUTb.gBd (G2 := fun v26 u25 Q I => rlG (wpT (e + 9)) (fun w => Q () w) I f much lst i v26 u25) hR (pr_pattern (b := A) (e := e) (M := M) (s := aN u (fR u 45 F) i) (much := if ¬ ((fI u 20 p) = 0) ∨ (¬ ((fI u 19 p) < 6)) then 1 else 0) hle rb hP rfl (by rw [es]; exact hs.2.1) (by rw [es]; exact hs.2.2) (hR.le (by decide)) hM) (fun Q X I l k => bC_X0_rule_94 ⟨by rw [e1]; decide, by rw [a1]; decide, ⟨a4.1, by omega, by rw [a4.2.1]; omega⟩, k⟩) (fun Q I b1 σ1 l run k => bT_readRule_133 ⟨by rw [e44]; omega, fa ?_⟩) (fun r q u1 σ1 rb1 n1 k1 hR1 => ?_) (fun h pl v' σ1 D G F1 => ?_) (fun r hr => by
    rw [hf.1, hf.2] at hr
    simp only [List.mem_cons, List.not_mem_nil, or_false] at hr
    rcases hr with hr | hr
    · rw [hr]; exact Or.inl hTn.1
    · rw [hr]; exact Or.inl hTn.2) (fun f hf => hS f hf) (fun f hf => hS' f ((by decide : ∀ f, f ∈ SPT → f ∈ SPR) f hf)) ht
  · rw [e44, ← es, ← emc]
    exact run (fun v u => rlG (wpT (e + 9)) (fun w => Q () w) I f much lst i v u) k
  · obtain ⟨hm0, hv, P1, lt1, m18, m23, U1', R1', D, pr, bn'⟩ := n1
    have hq : q = ((np σ : Nat) : Int) := congrArg Prod.fst hv
    subst hq
    have U1 : UT σ σ1 0 := U1'
    have R1 : nR σ1 = nR σ := R1'
    have bn : BN σ σ1 D := bn'
    have lt2 : np σ < np σ1 := lt1
    have pr2 : PRel p A u1 σ1 (SnR σ1) 7 (np σ1) r (np σ) D := pr
    have m18' : tA σ1 18 (np σ) = tA σ 44 (3 * f + i : Nat) := by rw [← es]; exact m18
    have m23' : tA σ1 23 (np σ) = -4 := m23
    have F1 := k1.2.2.2.1
    have hnA := g1.1.2.2.2
    have hnB := g1.2.2.2.2
    obtain ⟨R0, f15, f16, fF, fx⟩ := h0.on rb.1 k1 (fun r hr => by
      simp only [List.mem_cons, List.not_mem_nil, or_false] at hr
      rcases hr with hr | hr
      · rw [hr]; exact Or.inl hnA
      · rw [hr]; exact Or.inl hnB) ⟨by decide, by decide⟩ (by decide)
    obtain ⟨⟨a1', a2', a3', a4'⟩, b1', ⟨c1', c2', c3', c4', c5', c6'⟩, ⟨d1', d2', d3'⟩, ⟨e1', e2', e3'⟩, g1'⟩ := id R0
    have hrg : ∀ j, j < i → 1 ≤ tA σ 26 (c j) ∧ tA σ 26 (c j) ≤ 1000 := fun j hj => PRel.rows _ _ _ _ _ (i1.2.2.2.2 j hj)
    have g49 : 1 ≤ tA σ1 49 R ∧ tA σ1 49 R ≤ 1000 := by
      rw [(F1 49 (by decide)).2, i5]
      exact prF_rg i (fun j hj => (hrg j hj).1)
    have g26 := PRel.rows _ _ _ _ _ pr2
    have r27' : tI σ1 27 = R := (F1 27 (by decide)).1.trans r27
    obtain ⟨σ3, F3, n49, n47, nz, nps, run3⟩ := rl_note (e := e) (τ := σ1) (f := f) (i := i) (q := np σ) (R := R) (cl := c (i - 1)) (much := much) (lst := lst) r27' c5 rb1.f0 hnp (fun z => ⟨(hcl z).1, by have := (hcl z).2; omega⟩) (by omega) g49 g26
    have hA1 : A ≤ cz u1 := Nat.le_trans hle k1.1.1
    refine OUTb.tM (τ' := σ3) (tm' := tmL (rlT (e + 9) f much) (fun _ I => I ((np σ : Nat) : Int) ((i + 1 : Nat) : Int) σ3)) hR1 rb1 F3 (fun Q h I l => run3 _ _ (h I l)) (fun rb3 hR3 => ?_) (fun f hf => hS' f ((by decide : ∀ f, f ∈ [23, 47, 49] → f ∈ SPR) f hf))
    obtain ⟨u2, hu2⟩ : ∃ u2, u2 = qR u1 A i r := ⟨_, rfl⟩
    have e58 : fR u 58 x = A := e3
    have e1w : w32 ((i : Int) + 1) = ((i + 1 : Nat) : Int) := w32_k (by omega)
    have hrt := (PRel.lt pr2).2.2
    refine OUTb.kC (T1 := [A]) (S1 := []) (k := 0) (F2 := fun v _ _ I => I ((i + 1 : Nat) : Int) v) hR3 rb3 u2 ?_ ?_ ?_ (by rw [hu2]; exact Int.le_refl _) (by decide) (fun Q X I l k => by
      rw [e58]
      refine ⟨⟨by rw [d1']; exact ⟨by decide, by decide⟩, by omega, by rw [d2']; omega⟩, Or.inr (by rw [d1']; exact zst_p hrt), fa (fa ?_)⟩
      rw [e1w, ← hu2]
      exact k u2 rfl) (fun r hr => ?_) (fun u3 hu3 rb5 c5 hR5 => ?_) (fun f hf => by cases hf)
    · rw [hu2]; exact (Fr.refl _ _).sqR (Or.inl (by simp))
    · rw [hu2]; exact (PF.refl _ _ _).sqR
    · rw [hu2]; exact rb1.1.sqR _ _ _
    · rw [List.mem_singleton.mp hr]
      exact ⟨Or.inr hb0, by omega, Or.inr ⟨by rw [d1']; decide, hA1⟩⟩
    subst hu3
    have K0 : KA p u := hP.2.1.1
    have hne : A ≠ fR u1 0 p := by
      intro y
      have q : tg u1 (fR u1 0 p) = 112 := P1.2.1.1.1
      rw [← y, d1'] at q
      cases q
    have cw : CF p [A] [] [] u1 σ1 u3 σ1 := ⟨by rw [hu2]; exact (Fr.refl _ _).sqR (Or.inl (by simp)), by rw [hu2]; exact (PF.refl _ _ _).sqR, by rw [hu2]; exact rb1.1.sqR _ _ _, FT.refl _ _, Int.le_refl _, rfl⟩
    have c13 : CF p [A] [] [23, 47, 49] u1 σ1 u3 σ3 := ⟨cw.1, cw.2.1, cw.2.2.1, F3, Int.le_of_eq (F3 5 (by decide)).1.symm, (F3 1 (by decide)).1⟩
    have np3 : np σ3 = np σ1 := np_ft F3 (by decide)
    have K3 : KR p u3 σ3 := by
      have q := KRs.sqR (i := i) (v := r) P1.2.1 hne
      rw [← hu2] at q
      exact KR.fr (S := []) (S' := [23, 47, 49]) (T := []) rb5.1 q (Fr.refl _ _) (PF.refl _ _ _) (fun r hr => by cases hr) (by simp) (by simp) F3 (by decide)
    have N3 : NmR p u3 σ3 := ((P1.2.2.1.on rb1.1 cw (fun r hr => by rw [List.mem_singleton.mp hr]; exact d3)).ft F3 (by decide)).1
    have P3 : PS p u3 σ3 0 := PS0 rb5 K3 N3 (by rw [(F3 16 (by decide)).1, np3]; exact P1.2.2.2.1) (by rw [np3, (F3 5 (by decide)).1]; exact P1.2.2.2.2.1) ((F3 32 (by decide)).1.trans P1.2.2.2.2.2.1) (by rw [hu2]; exact P1.2.2.2.2.2.2.2.1) (by rw [hu2]; exact P1.2.2.2.2.2.2.2.2.1)
    obtain ⟨R3, f15', f16', fF', fx'⟩ := R0.on rb1.1 c13 (fun r hr => Or.inr (Or.inl (List.mem_singleton.mp hr))) ⟨by simp, by simp⟩ (by decide)
    have oA := k1.1.2.2.2.2 A hle (by simp; omega)
    have hk2 : ∀ k, kd u3 p k = kd u1 p k := fun k => by
      unfold kd
      rw [hu2]
      show aR (qR u1 A i r) (fR u1 0 p) k = _
      rw [aR_qR, if_neg (fun y => hne y.1.symm)]
    have k15 : tg u (fR u 15 p) = 103 := g1.1.1
    have k16 : tg u (fR u 16 p) = 102 := g1.2.1
    have k0 : tg u (fR u 0 p) = 112 := K0.1
    have hk1 : nK σ ≤ nK σ1 ∧ ∀ k, k < nK σ → kd u1 p k = kd u p k ∧ tA σ1 14 k = tA σ 14 k ∧ ∀ i : Nat, (i : Int) < tA σ 14 k → tA σ1 15 (4 * k + i : Nat) = tA σ 15 (4 * k + i : Nat) := ⟨by unfold nK; rw [(F1 10 (by decide)).1]; exact Nat.le_refl _, fun k _ => ⟨kd_fr2 K0 k1.1 (k1.2.1 0 (by decide)).2 (fun y => by
      simp only [List.mem_cons, List.not_mem_nil, or_false] at y
      rcases y with y | y | y
      · have : p < fR u 0 p := K0.2.2.1
        omega
      · rw [y, k15] at k0; cases k0
      · rw [y, k16] at k0; cases k0) k, (F1 14 (by decide)).2 _, fun _ _ => (F1 15 (by decide)).2 _⟩⟩
    have RC : RCH p A 7 u3 σ3 (i + 1) (fun j => if j = i then np σ else c j) (fun j => if j = i then D else Di j) (fun j => if j = i then SnR σ1 else Sn j) := i1.add rb.1 rb1.1 k1.1 (fun y hy => by
      simp only [List.mem_cons, List.not_mem_nil, or_false] at hy
      left
      rcases hy with hy | hy | hy <;> (rw [hy]; omega)) U1 lt2 pr2 m23' (by rw [hu2]; exact (Fr.refl _ _).sqR (Or.inl (by simp))) (fun j => ob.eaR oA j) (fun y j => by
      rw [hu2, aR_qR]
      by_cases z : y = A ∧ j = i
      · rw [if_pos z, if_pos ⟨z.1, by omega⟩]
      · rw [if_neg z, if_neg (fun q => z ⟨q.1, by omega⟩)]) F3 (by decide) hk1 hk2 (fun z => (nz z).2) (fun z => (nps z).2)
    have n8 : nN σ ≤ 8 := hP.2.2.1.2.2.2.2.1
    have nm1 := P1.2.2.1
    have eS3 : ∀ n, SnR σ3 n = SnR σ1 n := fun n => by unfold SnR; rw [nR_ft F3 (by decide), (F3 30 (by decide)).2]
    have R3' : nR σ3 = R := by rw [nR_ft F3 (by decide), R1]; exact i3
    have U3 : UT σ0 σ3 0 := by
      have q : UT σ0 σ1 0 := i9.trans U1 i10 (nR_ft i11.2.2.2.1 (by decide))
      obtain ⟨q1, q2, q3, q4, q5⟩ := q
      refine ⟨fun g h1 h2 y hy => ?_, fun g _ _ y hy => by omega, fun y hy => by omega, fun y hy => by rw [(F3 29 (by decide)).2, (F3 30 (by decide)).2]; exact q4 y hy, fun y hy => by rw [(F3 28 (by decide)).2]; exact q5 y hy⟩
      by_cases z : g = 23
      · subst z
        rcases Nat.eq_zero_or_pos i with z | z
        · rw [(nz z).2]; exact q1 23 (by decide) (by decide) y hy
        · rw [(nps z).2, if_neg (by have := (i8 (i - 1) (by omega)).2; omega)]; exact q1 23 (by decide) (by decide) y hy
      · rw [(F3 g (by simp only [List.mem_cons, List.not_mem_nil, or_false]; omega)).2]; exact q1 g h1 h2 y hy
    have g44 : ∀ y, tA σ3 44 y = tA σ 44 y := fun y => by rw [(F3 44 (by decide)).2, (F1 44 (by decide)).2]
    have g18 : ∀ y, tA σ3 18 y = tA σ1 18 y := fun y => (F3 18 (by decide)).2 y
    have g26' : ∀ y, tA σ3 26 y = tA σ1 26 y := fun y => (F3 26 (by decide)).2 y
    have RL : RLI p f R A u0 σ0 (i + 1) u3 σ3 (fun j => if j = i then np σ else c j) (fun j => if j = i then D else Di j) (fun j => if j = i then SnR σ1 else Sn j) := by
      refine ⟨RC, fun j hj n hn => ?_, R3', ?_, ⟨?_, fun _ => ?_, fun y hy => ?_⟩, fun j hj => ?_, U3, by omega, (i11.trans k1 (fun r hr => ?_) (fun f hf => hf) (by decide)).trans c13 (fun r hr => Or.inl (by rw [List.mem_singleton.mp hr]; simp)) (fun f hf => by cases hf) (by decide)⟩
      · rw [eS3]
        have hn : (if j = i then D else Di j) n := hn
        show (if j = i then SnR σ1 else Sn j) n = _
        by_cases z : j = i
        · rw [if_pos z]
        · rw [if_neg z] at hn ⊢
          have q := i4.2.2.1 n ⟨j, by omega, hn⟩
          rw [i2 j (by omega) n hn, bn.sn R1 (k := n) (by omega) ((i4.2.2.2.1 n (by omega)).mpr (Or.inr ⟨j, by omega, hn⟩))]
      · have b3 : BN σ σ3 D := bn.st (S := []) (FT.refl _ _) F3
        have b0 : ∀ k, k < 8 → bit (tI σ0 31) k = 0 ∨ bit (tI σ0 31) k = 1 := fun k hk => by
          rw [h31]
          have := bit_eq (b := 0) (k := k) (by decide) (by omega)
          rw [show ((0 : Nat) : Int) = 0 from rfl] at this
          rw [this]
          split
          · exact Or.inr rfl
          · exact Or.inl rfl
        exact (i4.trans b3 (nR_ft i11.2.2.2.1 (by decide)) b0 N3.2.2.2.2.1).congr (fun n => ⟨fun y => by
          rcases y with ⟨j, hj, y⟩ | y
          · exact ⟨j, by omega, by show (if j = i then D else Di j) n; rw [if_neg (by omega)]; exact y⟩
          · exact ⟨i, by omega, by show (if i = i then D else Di i) n; rw [if_pos rfl]; exact y⟩, fun ⟨j, hj, y⟩ => by
          have y : (if j = i then D else Di j) n := y
          by_cases z : j = i
          · rw [if_pos z] at y; exact Or.inr y
          · rw [if_neg z] at y; exact Or.inl ⟨j, by omega, y⟩⟩)
      · rw [n49, (F1 49 (by decide)).2, i5]
        show _ = min 1000 (prF σ3 (fun j => if j = i then np σ else c j) i * tA σ3 26 ((if i = i then np σ else c i : Nat) : Int))
        rw [if_pos rfl, g26', prF_eq (τ := σ) (c := c) i (fun j hj => ⟨if_neg (by omega), by rw [g26', U1.1 26 (by decide) (by decide) _ (i1.2.2.1 j hj)]⟩)]
      · show tA σ3 47 R = ((if 0 = i then np σ else c 0 : Nat) : Int)
        rcases Nat.eq_zero_or_pos i with z | z
        · rw [(nz z).1, if_pos z.symm]
        · rw [(nps z).1, (F1 47 (by decide)).2, if_neg (by omega)]; exact i6 z
      · rw [(n47 y hy).1, (n47 y hy).2, (F1 47 (by decide)).2, (F1 49 (by decide)).2]; exact i7 y hy
      · rw [g18, g44]
        show tA σ1 18 ((if j = i then np σ else c j : Nat) : Int) = _ ∧ np σ0 ≤ (if j = i then np σ else c j)
        by_cases z : j = i
        · rw [if_pos z, z]; exact ⟨m18', i10⟩
        · rw [if_neg z, U1.1 18 (by decide) (by decide) _ (i1.2.2.1 j (by omega))]
          exact i8 j (by omega)
      · rw [hf.1, hf.2] at hr
        simp only [List.mem_cons, List.not_mem_nil, or_false] at hr
        left
        rcases hr with hr | hr <;> (rw [hr]; simp)
    refine OUTb.gT (G' := fun _ I => I (((if i = i then np σ else c i : Nat)) : Int) ((i + 1 : Nat) : Int) σ3) (fun Q I l k => by rw [if_pos rfl] at k; exact k) ?_
    exact (IH u3 σ3 (fun j => if j = i then np σ else c j) (fun j => if j = i then D else Di j) (fun j => if j = i then SnR σ1 else Sn j) (fun z => by
      rw [emc] at hm0
      by_cases y : much = 0
      · exact y
      · rw [if_pos ⟨y, by omega⟩] at hm0; cases hm0) R3 P3 RL ⟨by rw [f15', f15]; exact hf.1, by rw [f16', f16]; exact hf.2⟩ (hR5.le (by decide))).le (by omega) (by omega)
  · refine (rl_deadG (e := e) (i := i) c4 (by omega) D G (by rw [(F1 27 (by decide)).1]; omega) (fun z => by have := hcl z; omega)).mono (fun f hf => hS' f ((by decide : ∀ f, f ∈ [7, 8, 23, 45, 47, 49, 53] → f ∈ SPR) f hf))
end ZRule6
