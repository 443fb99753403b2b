/-! a pattern of a kind, both: its parts -/
section ZKind
variable {p b e d : Nat} {w : CW} {τ : TW}
theorem zq_v {ω : Type} {K : ω → Prop} {X : Nat → ω → Prop} {x : ω} (h : K x) : zqV K X (.inl none) x := h
theorem sT_takes1 {c : Int} (h0 : tI τ 7 = 0) (h : ff_isSign c τ ≠ 0) {Q : ZRes → TW → Prop} (hQ : wpT (d + 4) 4 [] τ (zqV (fun u => ((1 : Int) = 0 ∨ (1 : Int) = 1) ∧ Q (.inl (some (ai 1))) u) zno)) : wpT (d + 5) 17 [ai c] τ Q := by
  refine wT_takes (by omega) (bT_takes_0 (fun v5 hv5 => ?_))
  rw [if_pos ⟨h0, h⟩] at hv5
  subst hv5
  exact br0 (by decide) hQ
/-- the component's loop over a kind's parts -/
def kbC (p : Nat) (call : Nat → List ZA → CW → (ZRes → CW → Prop) → Prop) (Q : Nat → CW → Prop) (X : Nat → CW → Prop) (x3 x4 : Nat) (I161 : Int → CW → Prop) (x5 : Int) (w : CW) : Prop :=
    (hF 42 (tg w x3) = true) ∧
    ((fI w 42 x3) ≤ x5 →
      pC_X0_kinded_225 p call Q X x3 x4 w) ∧
    (¬ ((fI w 42 x3) ≤ x5) →
      (x5 = 0 →
        pC_X0_kinded_185 p call Q X I161 x3 x4 x5 p w) ∧
      (¬ (x5 = 0) →
        call 16 [ar p, ai 44] w (zqI (fun v68 u67 =>
          (v68 = 0 →
            pC_X0_kinded_190 p call Q X I161 x3 x4 x5 0 p u67) ∧
          (¬ (v68 = 0) →
            pC_X0_kinded_185 p call Q X I161 x3 x4 x5 p u67)) zno)))
theorem pC_161 {call : Nat → List ZA → CW → (ZRes → CW → Prop) → Prop} {Q : Nat → CW → Prop} {X : Nat → CW → Prop} {x3 x4 : Nat} {x5 : Int} {w : CW} : pC_X0_kinded_161 p call Q X x3 x4 x5 w = ∀ I161 : Int → CW → Prop, (∀ (x5 : Int) (w : CW), kbC p call Q X x3 x4 I161 x5 w → I161 x5 w) → I161 x5 w := rfl
/-- its law; a part, behind its sign -/
def Lk (p M K a : Nat) (Q : Nat → CW → Prop) (X : Nat → CW → Prop) (I : Int → CW → Prop) : Prop := ∀ (x5 : Int) (w : CW), kbC p (wpC p M) (fun v w => Q v w) (fun x w => X x w) K a I x5 w → I x5 w
def ANk (p M K a : Nat) (sx i : Int) (u : CW) (_ : Nat → CW → Prop) (X : Nat → CW → Prop) (I : Int → CW → Prop) : Prop :=
      wpC p M 22 [ar p, ai sx] u (zqR (fun v55 u54 =>
        ((111 ≤ tg u54 a ∧ tg u54 a ≤ 119) ∧ 0 ≤ i ∧ i < ln u54 a) ∧
        (v55 = 0 ∨ zst (tg u54 a) (tg u54 v55) = true) ∧
        ∀ u56 : CW, u56 = qR u54 a i v55 →
        ∀ x5_59 : Int, x5_59 = w32 (i + 1) →
        I x5_59 u56) (fun x60 u61 =>
        X x60 u61))
theorem sC_kinded {K a : Nat} {w' : CW} {W : CW} (hW : W = nO w 8 3 ∨ W = nA (nO w 8 3) 114 0) (hw : w' = pR (pR (pI W 68 (cz w + 1) (-1)) 71 (cz w + 1) K) 72 (cz w + 1) a) {Q : ZRes → CW → Prop} (hQ : Q (.inl none) w') : wpC p (d + 3) 102 [ar (cz w + 1), ar K, ar a] W Q := by
  subst hw
  refine sC_iKinded (by omega) ?_ hQ
  rcases hW with y | y
  · rw [y]; exact if_pos rfl
  · rw [y]; simp [fI_pI, fR_pI, aI_pI, aR_pI, tg_pI, ln_pI, cz_pI, cu_pI, mz_pI, mu_pI, sr_pI, fI_pR, fR_pR, aI_pR, aR_pR, tg_pR, ln_pR, cz_pR, cu_pR, mz_pR, mu_pR, sr_pR, fI_qI, fR_qI, aI_qI, aR_qI, tg_qI, ln_qI, cz_qI, cu_qI, mz_qI, mu_qI, sr_qI, fI_qR, fR_qR, aI_qR, aR_qR, tg_qR, ln_qR, cz_qR, cu_qR, mz_qR, mu_qR, sr_qR, fI_nO, fR_nO, aI_nO, aR_nO, tg_nO, ln_nO, cz_nO, cu_nO, mz_nO, mu_nO, sr_nO, fI_nA, fR_nA, aI_nA, aR_nA, tg_nA, ln_nA, cz_nA, cu_nA, mz_nA, mu_nA, sr_nA, Nat.reduceEqDiff, Nat.reduceEqDiff, Nat.left_eq_add, Nat.add_eq_left, Nat.add_left_cancel_iff, false_and, true_and, and_true, and_false, if_true, if_false, ite_true, ite_false, reduceIte]
/-- what may be read at a pattern -/
def PTH (p e n o : Nat) : Prop := ∀ (w : CW) (τ : TW) (s much : Int) (b M : Nat), b ≤ cz w → RB p w τ → PS p (pI w 20 p 0) τ o → (much = if ¬ ((fI w 20 p) = 0) ∨ (¬ ((fI w 19 p) < 6)) then 1 else 0) → 0 ≤ s → s < 3 + nK τ → Rm 2000 w τ → 3 * n + 21 ≤ M → PTN p b e n M w τ s much o
/-- i parts of a kind's pattern are read: the row np τ, the array a -/
def KIV (p a n : Nat) (w : CW) (τ : TW) (s : Int) (o k K many i : Nat) (u : CW) (σ : TW) (c : Nat → Nat) (Di : Nat → Nat → Prop) (Sn : Nat → Nat → Int) : Prop :=
  PS p u σ (o + 1) ∧ CHI p a n true u σ (np τ) i c Di Sn ∧ (∀ j, j < i → ∀ x, Di j x → Sn j x = SnR σ x) ∧ UT τ σ o ∧ nR σ = nR τ ∧ np τ < np σ ∧
  (tA σ 17 (np τ) = 5 ∧ tA σ 18 (np τ) = s ∧ tA σ 19 (np τ) = k ∧ tA σ 23 (np τ) = -4 ∧ tA σ 24 (np τ) = -4 ∧ tA σ 25 (np τ) = -4) ∧
  (tA σ 33 o = np τ ∧ tA σ 34 o = i ∧ tA σ 35 o = if i = 0 then (-4 : Int) else c (i - 1)) ∧ (∀ j, j < i → tA σ 18 (c j) = tA σ 15 (4 * k + j : Nat)) ∧ BN τ σ (fun x => ∃ j, j < i ∧ Di j x) ∧
  (k < nK σ ∧ K = kd u p k ∧ tA σ 14 k = many ∧ many ≤ 4) ∧ (tg u a = 114 ∧ ln u a = many) ∧ CF p [fR w 15 p, fR w 16 p] SPC SPT w τ u σ
theorem BN.congr {τ' : TW} {D D' : Nat → Prop} (h : BN τ τ' D) (hd : ∀ x, D x ↔ D' x) : BN τ τ' D' :=
  ⟨⟨h.1.1, fun k hk => (h.1.2 k hk).imp id (fun z => (hd k).mp z)⟩, h.2.1, fun k hk => h.2.2.1 k ((hd k).mpr hk), fun k hk => by rw [← hd k]; exact h.2.2.2.1 k hk, fun k hk y => h.2.2.2.2 k hk (fun z => y ((hd k).mp z))⟩
theorem BN.sn {τ' : TW} {D : Nat → Prop} (h : BN τ τ' D) (hr : nR τ' = nR τ) {k : Nat} (hk : k < 8) (hb : bit (tI τ 31) k = 1) : SnR τ' k = SnR τ k := by
  unfold SnR
  rw [hr]
  exact h.2.2.2.2 k hk (fun y => by have := (h.2.2.1 k y).2; omega)
theorem KRs.k24 {m k : Nat} (h : KRs p w τ m) (hk : k < nK τ) : k < 24 := by
  have y := h.2.2.2.1
  unfold nK at hk
  omega
theorem PS.nx {o : Nat} {S S' : List Nat} {w' : CW} {τ' : TW} (h : PS p w τ o) (c : CF p [] S S' w τ w' τ') (rb : RB p w' τ') (hS : ∀ f, f ∈ S → f ≠ 0 ∧ f ≠ 1 ∧ f ≠ 19 ∧ f ≠ 20 := by decide) (hS2 : ∀ f, f ∈ S → f < 15 ∨ 18 < f := by decide) (hS' : ∀ f, f ∈ S' → f < 10 ∨ 40 < f := by decide) : PS p w' τ' o := by
  have F := c.2.2.2.1
  have n16 : ∀ f, 10 ≤ f → f ≤ 40 → f ∉ S' := fun f h1 h2 y => by have := hS' f y; omega
  refine h.on c rb (h.2.2.1.on h.1.1 c (e := hS2) (f := fun f hf => by have := hS' f hf; omega)) (fun r hr => by cases hr) ?_ ⟨?_, ?_⟩ (F 32 (n16 32 (by decide) (by decide))).1 (UT.ft F (fun f hf => by have := hS' f hf; omega) o) hS (fun f hf => by have := hS' f hf; omega)
  · rw [(F 16 (n16 16 (by decide) (by decide))).1, np_ft F (n16 16 (by decide) (by decide))]; exact h.2.2.2.1
  · rw [np_ft F (n16 16 (by decide) (by decide))]; exact Nat.le_refl _
  · rw [np_ft F (n16 16 (by decide) (by decide))]
    have := h.2.2.2.2.1
    have := c.2.2.2.2.1
    have e1 : tI τ 5 = tI τ 5 := rfl
    have e2 : tI τ' 5 = tI τ' 5 := rfl
    omega
/-- a part of a pattern has come into its array -/
theorem PS.came {o q i v a : Nat} {r : Nat} {ii : Int} {σ2 : TW} (h : PS p w τ (o + 1)) (rb : RB p (qR w a ii r) σ2) (haz : a ≤ cz w) (ha : p + 8 < a) (ta : tg w a ≠ 112) (F2 : FT [22, 23, 26, 34, 35] τ σ2) (q33 : tA τ 33 o = q) (hq : q < np τ) (q35 : ∀ x : Nat, tA σ2 35 x = if x = o then (v : Int) else tA τ 35 x) (q34 : ∀ x : Nat, tA σ2 34 x = if x = o then (i : Int) else tA τ 34 x) (hv : v < 1700) (hi : i ≤ 6) (hi4 : (tA τ 17 q = 5 ∧ i < 4 ∧ ∃ kk : Nat, tA τ 19 q = kk ∧ kk < 24) ∨ tA τ 17 q = 6) (hqq : q < 1700) : PS p (qR w a ii r) σ2 (o + 1) := by
  obtain ⟨h1, h2, h3, h4, h5, h6, h7, h8, h9, h10, h11⟩ := h
  have hne : a ≠ fR w 0 p := by
    intro y
    have : tg w (fR w 0 p) = 112 := h2.1.1
    rw [← y] at this
    exact ta this
  have K2 : KR p (qR w a ii r) σ2 := by
    have := KRs.sqR (i := ii) (v := r) h2 hne
    have k2 := KR.fr (S := []) (S' := [22, 23, 26, 34, 35]) (T := []) (p := p) (w := qR w a ii r) (w' := qR w a ii r) (τ := τ) (τ' := σ2) (h1.1.sqR _ _ _) this (Fr.refl _ _) (PF.refl _ _ _) (fun r hr => by cases hr) (by simp) (by simp) F2 (by decide)
    exact k2
  have N2 : NmR p (qR w a ii r) σ2 := by
    have cq : CF p [a] [] [] w τ (qR w a ii r) τ := ⟨(Fr.refl _ _).sqR (Or.inl (by simp)), (PF.refl _ _ _).sqR, h1.1.sqR _ _ _, FT.refl _ _, Int.le_refl _, rfl⟩
    exact ((h3.on h1.1 cq (fun r hr => by rw [List.mem_singleton.mp hr]; omega)).ft F2 (by decide)).1
  have en : np σ2 = np τ := np_ft F2 (by decide)
  refine ⟨rb, K2, N2, by rw [(F2 16 (by decide)).1, en]; exact h4, by rw [en, (F2 5 (by decide)).1]; exact h5, by rw [(F2 32 (by decide)).1]; exact h6, h7, h8, h9, fun k hk => ?_, fun k hk => ?_⟩
  · by_cases z : k = o
    · subst z
      refine ⟨q, by rw [(F2 33 (by decide)).2]; exact q33, hqq, by rw [q34, if_pos rfl]; omega, by rw [q34, if_pos rfl]; omega, Or.inr (by rw [q35, if_pos rfl]; omega), ?_⟩
      rw [(F2 17 (by decide)).2, (F2 19 (by decide)).2, q34, if_pos rfl]
      rcases hi4 with ⟨x1, x2, kk, x3, x4⟩ | x1
      · exact Or.inl ⟨x1, kk, x3, x4, by omega⟩
      · exact Or.inr x1
    · obtain ⟨q', a1, a2, a3, a4, a5, a6⟩ := h10 k hk
      refine ⟨q', by rw [(F2 33 (by decide)).2]; exact a1, a2, by rw [q34, if_neg z]; exact a3, by rw [q34, if_neg z]; exact a4, by rw [q35, if_neg z]; exact a5, ?_⟩
      rw [(F2 17 (by decide)).2, (F2 19 (by decide)).2, q34, if_neg z]
      exact a6
  · obtain ⟨q', a1, a2⟩ := h11 k hk
    exact ⟨q', by rw [(F2 33 (by decide)).2]; exact a1, by rw [en]; exact a2⟩
/-- behind a part -/
theorem gk {o q k : Nat} {Q : ZRes → TW → Prop} (h32 : tI τ 32 = ((o + 1 : Nat) : Int)) (ho : o < 8) (h33 : tA τ 33 o = q) (hq : q < 1700) (h17 : tA τ 17 q = 5) (h19 : tA τ 19 q = k) (hk : k < 24)
    (hQ : ((tA τ 14 k) ≤ (tA τ 34 o) → ((ff_isSign 44 τ) = 0 → pT_goesOn_85 (wpT (e + 7)) (fun v w => Q (.inl (some (ai v))) w) τ) ∧ (¬ ((ff_isSign 44 τ) = 0) → wpT (e + 7) 13 [ai 6, ai (tI τ 5)] τ (zqV (fun u53 => pT_goesOn_85 (wpT (e + 7)) (fun v w => Q (.inl (some (ai v))) w) u53) zno))) ∧ (¬ ((tA τ 14 k) ≤ (tA τ 34 o)) → ((ff_isSign 44 τ) = 0 → wpT (e + 7) 12 [ai 6] τ (zqV (fun u59 => pT_goesOn_59 (wpT (e + 7)) (fun v w => Q (.inl (some (ai v))) w) u59) zno)) ∧ (¬ ((ff_isSign 44 τ) = 0) → pT_goesOn_59 (wpT (e + 7)) (fun v w => Q (.inl (some (ai v))) w) τ))) : wpT (e + 8) 36 [] τ Q := by
  have ek : w32 ((tI τ 32) - 1) = (o : Int) := by rw [h32, w32_s (by omega) (by omega)]; omega
  refine wT_goesOn (by omega) (bT_goesOn_0 (fa ?_))
  rw [ek]
  refine ⟨by omega, fa ?_⟩
  rw [h33, h19]
  exact ⟨by omega, br1 h17 ⟨by omega, by omega, by omega, hQ⟩⟩
theorem fst5 {f : Nat} (h1 : 17 ≤ f) (h2 : f ≤ 26) (a : f ≠ 22) (b : f ≠ 23) (c : f ≠ 26) : f ∉ [22, 23, 26, 34, 35] := by simp only [List.mem_cons, List.not_mem_nil, or_false]; omega
theorem fst5' {f : Nat} (h1 : 33 ≤ f) (h2 : f ≤ 39) (a : f ≠ 34) (b : f ≠ 35) : f ∉ [22, 23, 26, 34, 35] := by simp only [List.mem_cons, List.not_mem_nil, or_false]; omega
theorem ix4 {k j : Nat} (hk : k < 24) (hj : j ≤ 4) : w32 ((w32 (4 * (k : Int))) + (j : Int)) = ((4 * k + j : Nat) : Int) := ixx (ixm (a := 4) (x := (k : Int)) rfl (by omega)) rfl (by omega)
theorem open1 {o : Nat} (h : o < 8) : w32 (((o + 1 : Nat) : Int) - 1) = (o : Int) := by rw [w32_s (by omega) (by omega)]; omega
theorem kd_loop {m n o k K many a : Nat} {s : Int} (hs3 : 3 ≤ s) (hb : b ≤ cz w) (h : PS p w τ o) (hrec : PTH p e n (o + 1)) (hM : 3 * n + 21 ≤ m + 18) (haw : cz w < a) : ∀ (g i : Nat) (u : CW) (σ : TW) (c : Nat → Nat) (Di : Nat → Nat → Prop) (Sn : Nat → Nat → Int), many = i + g + 1 → KIV p a (n + 1) w τ s o k K many i u σ c Di Sn → Rm 3000 u σ →
    OUTb p (cz w) [fR w 15 p, fR w 16 p] SPC SPT (-5700) 500 (fun r v w' τ' => (0 : Int) = 0 ∧ PN p b (n + 1) τ s o r v w' τ') (cmG (Lk p (m + 18) K a) (ANk p (m + 18) K a (tA σ 15 (4 * k + i : Nat)) i u)) (tmG e gI (fun I _ => wpT (e + 8) 25 [ai (tA σ 15 (4 * k + i : Nat)), ai (if o + 1 = 6 then 1 else 0)] σ (zqI (fun v u => I v ((o + 1 : Nat) : Int) u) zno))) u σ := by
  intro g
  induction g using Nat.strongRecOn with
  | ind g ih =>
  intro i u σ c Di Sn hg hI hR
  obtain ⟨hP, hC, hSn, hU, hRR, hlt, ⟨g17, g18, g19, g23, g24, g25⟩, ⟨l33, l34, l35⟩, hps, hB, ⟨hk, hK, hmany, hm4⟩, ⟨ta, la⟩, hc⟩ := id hI
  obtain ⟨rb, K0, N0, e16, e5, e32, ho, hwi, hmu, hsl, hsq⟩ := id hP
  have kz := h.2.1.1.2.2.2.2
  have haz := rb.1.le (r := a) (by rw [ta]; decide)
  have f15 : fR u 15 p = fR w 15 p ∧ fR u 16 p = fR w 16 p := ⟨(hc.2.1 15 (by decide)).2, (hc.2.1 16 (by decide)).2⟩
  obtain ⟨j1, j2, j3, j4, j5, j6, j7, j8, j9, j10, j11, j12⟩ := K0.2.2.2.2.1 k hk
  have hpart := j12 i (by rw [show tA σ 14 k = (many : Int) from hmany]; omega)
  have hrun := OUT.toG (hrec u σ (tA σ 15 (4 * k + i : Nat)) (if o + 1 = 6 then 1 else 0) a (m + 18) haz rb (by rw [pI_id hmu]; exact hP) (by
    rw [hmu, hwi]
    by_cases z : o + 1 = 6
    · rw [if_pos z, if_pos (by omega)]
    · rw [if_neg z, if_neg (by omega)]) hpart.2.1 hpart.2.2 (hR.le (by decide)) (by omega))
  refine OUTb.kN hR hrun (fun Q X I l hh => hh) (fun v v' u σ n => n.2.one) (fun r q u1 σ1 rb1 n1 c1 hR1 => ?_) (hTT := fun r hr => Or.inl (by rw [← f15.1, ← f15.2]; exact hr))
  obtain ⟨hm0, hv, hP1, lt1, m18, m23, U1, R1, D, pr, bn⟩ := n1
  have hq : q = ((np σ : Nat) : Int) := congrArg Prod.fst hv
  subst hq
  have nA1 := N0.1
  have ina : a ∉ p :: [fR u 15 p, fR u 16 p] := by
    intro y
    have y1 := nA1.1.2.2.2
    have y2 := nA1.2.2.2.2
    simp only [List.mem_cons, List.not_mem_nil, or_false] at y
    have y1' : fR u 15 p ≤ p + 8 := y1
    have y2' : fR u 16 p ≤ p + 8 := y2
    omega
  have oa := c1.1.2.2.2.2 a haz ina
  have ta1 : tg u1 a = 114 := (ob.etg oa).trans ta
  have la1 : ln u1 a = many := (ob.eln oa).trans la
  have hr6 := pr.lt.2.2
  refine OUTb.kW (r := a) hR1 rb1 (qR u1 a i r) ((Fr.refl _ _).sqR (Or.inl (by simp))) ((PF.refl _ _ _).sqR) (rb1.1.sqR _ _ _) ⟨rfl, rfl⟩ (fun Q X I l hh => ⟨⟨by omega, by omega, by omega⟩, Or.inr (by rw [ta1]; exact zst_p hr6), hh⟩) ⟨by omega, by rw [ta1]; decide, by rw [ta1]; decide⟩ (Or.inr haw) (fun u2 eu2 rb2 c2 hR2 => ?_)
  have ei1 : w32 ((i : Int) + 1) = ((i + 1 : Nat) : Int) := w32_k (by omega)
  refine OUTb.kT (F' := fun Q X I => kbC p (wpC p (m + 18)) (fun v w => Q v w) (fun x w => X x w) K a I ((i + 1 : Nat) : Int) u2) (fun Q X I l hh => fun x hx => by rw [hx, ei1]; exact l _ _ hh) ?_
  -- the reference: it comes into the row
  have o1lt : o < o + 1 := Nat.lt_succ_self o
  have rg1 := rb1.rg
  have npz : np σ1 < 1700 := by have := hP1.2.2.2.2.1; have : tI σ1 5 = tI σ1 5 := rfl; omega
  have m32 : tI σ1 32 = ((o + 1 : Nat) : Int) := hP1.2.2.2.2.2.1
  have m33 : tA σ1 33 o = np τ := (U1.2.1 33 (by decide) (by decide) o o1lt).trans l33
  have m34 : tA σ1 34 o = i := (U1.2.1 34 (by decide) (by decide) o o1lt).trans l34
  have m35 : tA σ1 35 o = if i = 0 then (-4 : Int) else c (i - 1) := (U1.2.1 35 (by decide) (by decide) o o1lt).trans l35
  have m17 : tA σ1 17 (np τ) = 5 := (U1.1 17 (by decide) (by decide) _ hlt).trans g17
  have hci : ∀ j, j < i → np τ < c j ∧ c j < np σ := hC.2.2.2.2.1
  obtain ⟨σ2, F2, q35, q34, qa, qb, run2⟩ := sT_comesInto (d := e + 7) (τ := σ1) (k := o) (q := np τ) (v := np σ) (by omega) m32 m33 (by omega) (by omega) (by
    rw [m35]
    split
    · exact Or.inl rfl
    · right
      have := hci (i - 1) (by omega)
      omega)
  refine OUTb.iM (τ' := σ2) hR2 rb2 F2 (fun I QF cl k => br1 rb2.f0 (br0 (by rw [m32]; omega) (run2 _ k))) (fun rb3 hR3 => ?_)
  -- what holds with one part more
  have pf1 : fR u1 0 p = fR u 0 p := (c1.2.1 0 (by decide)).2
  have nka : ∀ x, x ∈ p :: [fR u 15 p, fR u 16 p] → fR u 0 p ≠ x := by
    intro x hx y
    have y1 : tg u (fR u 15 p) = 103 := nA1.1.1
    have y2 : tg u (fR u 16 p) = 102 := nA1.2.1
    have y3 : tg u (fR u 0 p) = 112 := K0.1.1
    have y4 : p < fR u 0 p := K0.1.2.2.1
    simp only [List.mem_cons, List.not_mem_nil, or_false] at hx
    rcases hx with z | z | z
    · omega
    · rw [y, z, y1] at y3; cases y3
    · rw [y, z, y2] at y3; cases y3
  have kd1 : ∀ j, kd u1 p j = kd u p j := fun j => kd_fr2 K0.1 c1.1 pf1 (fun y => nka _ y rfl) j
  have F1 : FT SPT σ σ1 := c1.2.2.2.1
  have kk1 : nK σ ≤ nK σ1 ∧ ∀ k, k < nK σ → kd u1 p k = kd u p k ∧ tA σ1 14 k = tA σ 14 k ∧ ∀ i : Nat, (i : Int) < tA σ 14 k → tA σ1 15 (4 * k + i : Nat) = tA σ 15 (4 * k + i : Nat) := ⟨by unfold nK; rw [(F1 10 (by decide)).1]; exact Nat.le_refl _, fun k _ => ⟨kd1 k, (F1 14 (by decide)).2 _, fun _ _ => (F1 15 (by decide)).2 _⟩⟩
  have kd2 : ∀ j, kd u2 p j = kd u1 p j := fun j => by
    rw [eu2]
    show aR (qR u1 a i r) (fR u1 0 p) j = _
    rw [aR_qR, if_neg]
    · rfl
    · intro y
      have := K0.1.2.2.2.1
      have : fR u 0 p ≤ p + 8 := this
      omega
  have hAq : ∀ x (j : Nat), aR u2 x j = if x = a ∧ j = i then r else aR u1 x j := by
    intro x j
    rw [eu2, aR_qR]
    by_cases z : x = a ∧ j = i
    · rw [if_pos ⟨z.1, by omega⟩, if_pos z]
    · rw [if_neg (by omega), if_neg z]
  have r26 := PRel.rows _ _ _ _ _ pr
  have q26 : tA σ1 26 (np τ) = tA σ 26 (np τ) := U1.1 26 (by decide) (by decide) _ hlt
  have hCA := CHI.add (u2 := u2) (σ2 := σ2) (r := r) (D := D) (o := o + 1) (T := p :: [fR u 15 p, fR u 16 p]) hC hlt rb.1 rb1.1 c1.1 (fun x hx => by
      have y1 : fR u 15 p ≤ p + 8 := nA1.1.2.2.2
      have y2 : fR u 16 p ≤ p + 8 := nA1.2.2.2.2
      left
      simp only [List.mem_cons, List.not_mem_nil, or_false] at hx
      omega) U1 lt1 pr m23 (by rw [eu2]; exact (Fr.refl _ _).sqR (Or.inl (by simp))) (fun j => ob.eaR oa j) hAq F2 kk1 kd2 (fun z => by
      have := qa (by rw [m35, if_pos z])
      exact this) (fun z => by
      obtain ⟨x1, x2, x3⟩ := qb (c (i - 1)) (by rw [m35, if_neg (by omega)])
      refine ⟨x1, x2, fun x => ?_⟩
      rw [x3 x, m17, if_pos rfl, if_pos rfl]
      have b1 := hC.2.2.2.2.2.2.2.1 (i - 1) (by omega)
      have b2 := hC.2.2.2.2.2.2.1 z
      rw [← b2, ← q26] at b1
      have h1 : 1 ≤ tA σ1 26 (np τ) * tA σ1 26 (np σ) := by
        have := Int.mul_le_mul b1.1 r26.1 (by decide) (by omega)
        omega
      have h2 : tA σ1 26 (np τ) * tA σ1 26 (np σ) ≤ 1000 * 1000 := Int.mul_le_mul b1.2 r26.2 (by omega) (by decide)
      rw [w32_s (by omega) (by omega)]
      split
      · split <;> omega
      · rfl)
  have F12 : FT SPT σ σ2 := F1.trans (F2.mono (by decide))
  have R2 : nR σ2 = nR τ := (nR_ft F2 (by decide)).trans (R1.trans hRR)
  have SnA : ∀ j, j < i + 1 → ∀ x, (if j = i then D else Di j) x → (if j = i then SnR σ1 else Sn j) x = SnR σ2 x := by
    intro j hj x hx
    have e2 : SnR σ2 x = SnR σ1 x := by
      unfold SnR
      rw [nR_ft F2 (by decide), (F2 30 (by decide)).2]
    rw [e2]
    by_cases z : j = i
    · rw [if_pos z]
    · rw [if_neg z] at hx ⊢
      have hji : j < i := by omega
      rw [hSn j hji x hx]
      have y1 := (hB.2.2.1 x ⟨j, hji, hx⟩).1
      have y2 : nN σ ≤ 8 := N0.2.2.2.2.1
      exact (bn.sn R1 (by omega) ((hB.2.2.2.1 x (by omega)).mpr (Or.inr ⟨j, hji, hx⟩))).symm
  have BA : BN τ σ2 (fun x => ∃ j, j < i + 1 ∧ (if j = i then D else Di j) x) := by
    have b2 : BN σ σ2 D := bn.st (S := []) (FT.refl _ _) F2
    have n2 : nN σ2 ≤ 8 := by rw [nN_ft F2 (by decide) (by decide)]; exact hP1.2.2.1.2.2.2.2.1
    refine (hB.trans b2 hRR (bits_01 h.2.2.1) n2).congr (fun x => ⟨fun y => ?_, fun y => ?_⟩)
    · rcases y with ⟨j, y1, y2⟩ | y
      · exact ⟨j, by omega, by rw [if_neg (by omega)]; exact y2⟩
      · exact ⟨i, by omega, by rw [if_pos rfl]; exact y⟩
    · obtain ⟨j, y1, y2⟩ := y
      by_cases z : j = i
      · rw [if_pos z] at y2; exact Or.inr y2
      · rw [if_neg z] at y2; exact Or.inl ⟨j, by omega, y2⟩
  have n32 : tI σ2 32 = ((o + 1 : Nat) : Int) := (F2 32 (by decide)).1.trans m32
  have n33 : tA σ2 33 o = np τ := ((F2 33 (by decide)).2 _).trans m33
  have n17 : tA σ2 17 (np τ) = 5 := ((F2 17 (by decide)).2 _).trans m17
  have n19 : tA σ2 19 (np τ) = k := (((F2 19 (by decide)).2 _).trans (U1.1 19 (by decide) (by decide) _ hlt)).trans g19
  have n14 : tA σ2 14 k = many := ((F12 14 (by decide)).2 _).trans hmany
  have q34' : ∀ x : Nat, tA σ2 34 x = if x = o then ((i + 1 : Nat) : Int) else tA σ1 34 x := fun x => by rw [q34 x, m34, ei1]
  have n34 : tA σ2 34 o = ((i + 1 : Nat) : Int) := (q34' o).trans (if_pos rfl)
  have hk24 : k < 24 := KRs.k24 K0 hk
  have tK : tg u K = 3 := by rw [hK]; exact j1
  have fK : fI u 42 K = many := by rw [hK]; exact j6.trans hmany
  have hpK : p + 8 < K := by rw [hK]; exact j2
  have inK : K ∉ p :: [fR u 15 p, fR u 16 p] := by
    intro y
    have y1' : fR u 15 p ≤ p + 8 := nA1.1.2.2.2
    have y2' : fR u 16 p ≤ p + 8 := nA1.2.2.2.2
    simp only [List.mem_cons, List.not_mem_nil, or_false] at y
    omega
  have oK := c1.1.2.2.2.2 K (rb.1.le (by rw [tK]; decide)) inK
  have tK2 : tg u2 K = 3 := by rw [eu2]; exact (ob.etg oK).trans tK
  have fK2 : fI u2 42 K = many := by rw [eu2]; exact (ob.efI oK 42).trans fK
  have tgp : tg u2 p = 1 := rb3.1.2.1
  have ho8 : o < 8 := by have := h.2.2.2.2.2.2.1; omega
  have hq17 : np τ < 1700 := Nat.lt_trans hlt (Nat.lt_trans lt1 npz)
  have i1ne : ¬ (((i + 1 : Nat) : Int) = 0) := fun y => Nat.succ_ne_zero i (Int.ofNat.inj y)
  clear j3 j4 j5 j7 j8 j9 j10 j11 hpart hrun j12
  have hr3 := Rm.room rb3 hR3 (k := 2) (n := 12) (by decide)
  have hr3' := Rm.room rb3 hR3 (k := 1) (n := 8) (by decide)
  have R1' : nR σ1 = nR τ := R1.trans hRR
  have e22 : ∀ x : Nat, x ≠ np τ → tA σ2 22 x = tA σ1 22 x := by
    intro x hx
    rcases Nat.eq_zero_or_pos i with z | z
    · rw [(qa (by rw [m35, if_pos z])).1, if_neg hx]
    · rw [(qb (c (i - 1)) (by rw [m35, if_neg (by omega)])).1]
  have e26 : ∀ x : Nat, x ≠ np τ → tA σ2 26 x = tA σ1 26 x := by
    intro x hx
    rcases Nat.eq_zero_or_pos i with z | z
    · rw [(qa (by rw [m35, if_pos z])).2.2, if_neg hx]
    · rw [(qb (c (i - 1)) (by rw [m35, if_neg (by omega)])).2.2, if_neg hx]
  have e23 : ∀ x : Nat, x ≤ np τ → tA σ2 23 x = tA σ1 23 x := by
    intro x hx
    rcases Nat.eq_zero_or_pos i with z | z
    · rw [(qa (by rw [m35, if_pos z])).2.1]
    · have := hci (i - 1) (by omega)
      rw [(qb (c (i - 1)) (by rw [m35, if_neg (by omega)])).2.1, if_neg (by omega)]
  have U01 : UT τ σ1 o := hU.trans (U1.weak (Nat.le_succ o)) (Nat.le_of_lt hlt) hRR
  have U2 : UT τ σ2 o := by
    obtain ⟨a1, a2, a3, a4, a5⟩ := U01
    refine ⟨fun f h1 h2 x hx => ?_, fun f h1 h2 x hx => ?_, fun x hx => ((F2 40 (by decide)).2 _).trans (a3 x hx), fun x hx => ⟨((F2 29 (by decide)).2 _).trans (a4 x hx).1, ((F2 30 (by decide)).2 _).trans (a4 x hx).2⟩, fun x hx => ((F2 28 (by decide)).2 _).trans (a5 x hx)⟩
    · by_cases f22 : f = 22
      · subst f22; exact (e22 x (Nat.ne_of_lt hx)).trans (a1 22 h1 h2 x hx)
      · by_cases f23 : f = 23
        · subst f23; exact (e23 x (Nat.le_of_lt hx)).trans (a1 23 h1 h2 x hx)
        · by_cases f26 : f = 26
          · subst f26; exact (e26 x (Nat.ne_of_lt hx)).trans (a1 26 h1 h2 x hx)
          · exact ((F2 f (fst5 h1 h2 f22 f23 f26)).2 _).trans (a1 f h1 h2 x hx)
    · by_cases f34 : f = 34
      · subst f34; rw [q34', if_neg (Nat.ne_of_lt hx)]; exact a2 34 h1 h2 x hx
      · by_cases f35 : f = 35
        · subst f35; rw [q35, if_neg (Nat.ne_of_lt hx)]; exact a2 35 h1 h2 x hx
        · exact ((F2 f (fst5' h1 h2 f34 f35)).2 _).trans (a2 f h1 h2 x hx)
  have lt2 : np τ < np σ2 := by rw [np_ft F2 (by decide)]; exact Nat.lt_trans hlt lt1
  have n18 : tA σ2 18 (np τ) = s := (((F2 18 (by decide)).2 _).trans (U1.1 18 (by decide) (by decide) _ hlt)).trans g18
  have n23 : tA σ2 23 (np τ) = -4 := ((e23 _ (Nat.le_refl _)).trans (U1.1 23 (by decide) (by decide) _ hlt)).trans g23
  have n24 : tA σ2 24 (np τ) = -4 := (((F2 24 (by decide)).2 _).trans (U1.1 24 (by decide) (by decide) _ hlt)).trans g24
  have n25 : tA σ2 25 (np τ) = -4 := (((F2 25 (by decide)).2 _).trans (U1.1 25 (by decide) (by decide) _ hlt)).trans g25
  have ps2 : ∀ j, j < i + 1 → tA σ2 18 ((if j = i then np σ else c j : Nat) : Int) = tA σ2 15 (4 * k + j : Nat) := by
    intro j hj
    rw [(F2 18 (by decide)).2, (F12 15 (by decide)).2]
    by_cases z : j = i
    · rw [if_pos z, z]; exact m18
    · rw [if_neg z, U1.1 18 (by decide) (by decide) _ (hci j (by omega)).2]
      exact hps j (by omega)
  have k2lt : k < (tI σ2 10).toNat := by rw [(F12 10 (by decide)).1]; exact hk
  have cT2 : CF p [fR w 15 p, fR w 16 p] SPC SPT w τ u2 σ2 := by
    have cF2 : CF p [] [] [22, 23, 26, 34, 35] u2 σ1 u2 σ2 := ⟨Fr.refl _ _, PF.refl _ _ _, rb3.1, F2, Int.le_of_eq (F2 5 (by decide)).1.symm, (F2 1 (by decide)).1⟩
    exact ((hc.trans c1 (fun r hr => by rw [f15.1, f15.2] at hr; exact Or.inl hr) (fun f hf => hf) (fun f hf => hf)).trans c2 (fun r hr => by rw [List.mem_singleton.mp hr]; exact Or.inr haw) (fun f hf => by cases hf) (fun f hf => by cases hf)).trans cF2 (fun r hr => by cases hr) (fun f hf => by cases hf) (by decide)
  by_cases hlast : i + 1 = many
  · have hB1 : fI u2 42 K ≤ ((i + 1 : Nat) : Int) := by rw [fK2, hlast]; exact Int.le_refl _
    have hB2 : tA σ2 14 k ≤ tA σ2 34 o := by rw [n14, n34, hlast]; exact Int.le_refl _
    have hbody : ∀ {Q : Nat → CW → Prop} {X : Nat → CW → Prop} {I : Int → CW → Prop}, pC_X0_kinded_225 p (wpC p (m + 18)) (fun v w => Q v w) (fun x w => X x w) K a u2 → kbC p (wpC p (m + 18)) (fun v w => Q v w) (fun x w => X x w) K a I ((i + 1 : Nat) : Int) u2 := fun hh => ⟨by rw [tK2]; decide, br1 hB1 hh⟩
    have K2 : KR p u2 σ2 := by
      have hne : a ≠ fR u1 0 p := by
        intro y
        have y1 : fR u 0 p ≤ p + 8 := K0.1.2.2.2.1
        have y2 := Nat.lt_of_le_of_lt kz haw
        rw [pf1] at y
        omega
      have := KRs.sqR (i := (i : Int)) (v := r) hP1.2.1 hne
      rw [← eu2] at this
      exact KR.fr (S := []) (S' := [22, 23, 26, 34, 35]) (T := []) (p := p) (w := u2) (w' := u2) (τ := σ1) (τ' := σ2) rb3.1 this (Fr.refl _ _) (PF.refl _ _ _) (fun r hr => by cases hr) (by simp) (by simp) F2 (by decide)
    have N2 : NmR p u2 σ2 := ((hP1.2.2.1.on rb1.1 c2 (fun r hr => by rw [List.mem_singleton.mp hr]; exact Nat.lt_of_le_of_lt kz haw)).ft F2 (by decide)).1
    by_cases s44 : ff_isSign 44 σ2 = 0
    · refine OUTb.kBV hR3 ((OUT.skip (d := m + 5) (e := e + 1) (T := []) (S := [9, 10, 11, 12, 13, 14]) (S' := [2, 3, 4, 5, 6, 7, 8]) (c := 41) rb3 (by decide) (fun f hf => hf) (fun f hf => hf) (hR3.le (by decide))).more (by decide)) (fun Q X I l hh => hbody (bC_X0_kinded_225 (sR_isSign rb3 (by decide) (fa (sC_needOk (by rw [s44]; decide) hh))))) (fun I QF cl k => gk n32 ho8 n33 hq17 n17 n19 hk24 (br1 hB2 (br1 s44 (bT_goesOn_85 k)))) (fun _ _ u3 σ3 rb4 hfr c4 hR4 => ?_) (fun hw pl σ3 D3 F3 => ?_)
      · have z32 : tI σ3 32 = ((o + 1 : Nat) : Int) := (c4.2.2.2.1 32 (by decide)).1.trans n32
        have eo : w32 ((tI σ3 32) - 1) = (o : Int) := by rw [z32]; exact open1 ho8
        have w19 : fI u3 19 p = ((o + 1 : Nat) : Int) := ((c4.2.1 19 (by decide)).1.trans (by rw [eu2]; rfl)).trans hP1.2.2.2.2.2.2.2.1
        have eo2 : w32 ((fI u3 19 p) - 1) = (o : Int) := by rw [w19]; exact open1 ho8
        have PF4 : PF [9, 10, 11, 12, 13, 14, 19] p u2 u3 := c4.2.1.mono (by decide)
        refine OUTb.kO (OUTb.cw (T1 := []) (S1 := [19]) (k := 0) hR4 rb4 (pI u3 19 p o) ((Fr.refl _ _).spI (Or.inl (by simp))) ((PF.refl _ _ _).spI (Or.inl (by simp))) (rb4.1.spI _ _ _) (Int.le_of_eq rfl) (by decide) (fun Q X hh => fun u hu => hh u (by rw [hu, eo2])) (fun r hr => by cases hr) (fun u4 eu4 rb5 c5 hR5 => ?_))
        refine OUTb.iW (S1 := [32]) hR5 rb5 (sI σ3 32 o) ((FT.refl _ _).ssI (by decide)) (fun I QF k => br1 rfl (br1 rb5.f0 (fun u hu => k u (by rw [hu, eo])))) (fun σ4 e4 rb6 G4 hR6 => ?_)
        have y32 : tI σ4 32 = o := by rw [e4]; exact (tI_sI _ _ _ _).trans (if_pos rfl)
        have y33 : tA σ4 33 o = np τ := ((G4 33 (by decide)).2 _).trans (((c4.2.2.2.1 33 (by decide)).2 _).trans n33)
        have hr6r := Rm.room rb6 hR6 (k := 1) (n := 3) (by decide)
        obtain ⟨u5, hu5⟩ : ∃ u5, u5 = pR (pR (pI (nO u4 8 3) 68 (cz u4 + 1) (-1)) 71 (cz u4 + 1) K) 72 (cz u4 + 1) a := ⟨_, rfl⟩
        have f5 : Fr [] u4 u5 := by rw [hu5]; exact ((((Fr.refl [] u4).snO).spI (Or.inr (Nat.lt_succ_self _))).spR (Or.inr (Nat.lt_succ_self _))).spR (Or.inr (Nat.lt_succ_self _))
        have W5 : WF p u5 := by rw [hu5]; exact (((rb6.1.snO 8 3).spI _ _ _).spR _ _ _).spR _ _ _
        refine OUTb.nw (A0 := 1) (B0 := 3) (k := 8) (w' := u5) hR6 rb6 f5 W5 (by rw [hu5]; rfl) (by rw [hu5]; rfl) (by decide) (fun Q X hh => ⟨hr6r, fa (sC_kinded (d := m + 15) (Or.inl rfl) hu5 hh)⟩) (fun rb7 c7 hR7 => ?_)
        have cG : CF p [] [] [32] u4 σ3 u4 σ4 := ⟨Fr.refl _ _, PF.refl _ _ _, rb6.1, G4, Int.le_of_eq (G4 5 (by decide)).1.symm, (G4 1 (by decide)).1⟩
        have c25 : CF p [] [9, 10, 11, 12, 13, 14, 19] [2, 3, 4, 5, 6, 7, 8, 32] u2 σ2 u5 σ4 := (((c4.mono rb3.1 (fun r hr => by cases hr) (by decide) (by decide)).trans c5 (fun r hr => by cases hr) (by decide) (fun f hf => by cases hf)).trans cG (fun r hr => by cases hr) (fun f hf => by cases hf) (by decide)).trans c7 (fun r hr => by cases hr) (fun f hf => by cases hf) (fun f hf => by cases hf)
        have G25 := c25.2.2.2.1
        have g5 : ∀ f x, 10 ≤ f → tA σ4 f x = tA σ2 f x := fun f x hf => by
          by_cases z : f = 32
          · rw [z, e4]
            show tA σ3 32 x = _
            exact (c4.2.2.2.1 32 (by decide)).2 _
          · exact (G25 f (by simp only [List.mem_cons, List.not_mem_nil, or_false]; omega)).2 _
        have en4 : np σ4 = np σ2 := np_ft G25 (by decide)
        have en2 : np σ2 = np σ1 := np_ft F2 (by decide)
        have eR4 : nR σ4 = nR σ2 := nR_ft G25 (by decide)
        have eS4 : ∀ x, SnR σ4 x = SnR σ2 x := fun x => by unfold SnR; rw [eR4, g5 30 _ (by decide)]
        have U4 : UT τ σ4 o := ⟨fun f h1 h2 x hx => (g5 f x (by omega)).trans (U2.1 f h1 h2 x hx), fun f h1 h2 x hx => (g5 f x (by omega)).trans (U2.2.1 f h1 h2 x hx), fun x hx => (g5 40 x (by decide)).trans (U2.2.2.1 x hx), fun x hx => ⟨(g5 29 x (by decide)).trans (U2.2.2.2.1 x hx).1, (g5 30 x (by decide)).trans (U2.2.2.2.1 x hx).2⟩, fun x hx => (g5 28 x (by decide)).trans (U2.2.2.2.2 x hx)⟩
        have K5 : KR p u5 σ4 := K2.fr (T := []) rb3.1 c25.1 c25.2.1 (fun r hr => by cases hr) (by decide) (by decide) G25 (by decide)
        have N5 : NmR p u5 σ4 := N2.on rb3.1 c25
        have lt4 : np τ < np σ4 := by rw [en4]; exact lt2
        have eu19 : fI u5 19 p = o := by rw [(c7.2.1 19 (by simp)).1, eu4, fI_at]
        have eu20 : fI u5 20 p = 0 := by rw [(c25.2.1 20 (by decide)).1, eu2]; exact hP1.2.2.2.2.2.2.2.2.1
        have e16' : tI σ4 16 = np σ4 := by rw [(G25 16 (by decide)).1, en4, (F2 16 (by decide)).1, en2]; exact hP1.2.2.2.1
        have e5' : (np σ4 : Int) ≤ tI σ4 5 := by
          have z1 := hP1.2.2.2.2.1
          have z2 : tI σ2 5 = tI σ1 5 := (F2 5 (by decide)).1
          have z3 : tI σ4 5 = tI σ3 5 := (G4 5 (by decide)).1
          rw [en4, en2, z3]
          omega
        have P5 : PS p u5 σ4 o := ⟨rb7, K5, N5, e16', e5', y32, h.2.2.2.2.2.2.1, eu19, eu20, fun k hk => (h.2.2.2.2.2.2.2.2.2.1 k hk).on' hk U4.ul (h.2.2.2.2.2.2.2.2.2.2 k hk), fun k hk => by
          obtain ⟨q', a1, a2⟩ := h.2.2.2.2.2.2.2.2.2.2 k hk
          exact ⟨q', by rw [U4.2.1 33 (by decide) (by decide) k hk]; exact a1, Nat.lt_trans a2 lt4⟩⟩
        have hpa : p < a := Nat.lt_of_le_of_lt (Nat.le_trans (Nat.le_add_right p 8) kz) haw
        have ta2 : tg u2 a ≠ 0 := by rw [eu2]; show tg u1 a ≠ 0; rw [ta1]; decide
        have hcz : cz u2 < cz u4 + 1 := Nat.lt_succ_of_le (Nat.le_trans c4.1.1 c5.1.1)
        obtain ⟨fin1, fin2, fin3⟩ := hCA.fin (b := b) (u' := u5) (σ' := σ4) (r := cz u4 + 1) (Sn' := SnR σ4) rb3.1 K2.1 hpa (Nat.le_of_lt (Nat.lt_of_le_of_lt hb haw)) ta2 c25.1 (c25.2.1 0 (by decide)).2 G25 (by decide) hcz (fun j hj x hx => (eS4 x).trans (SnA j hj x hx).symm)
        have x71 : fR u5 71 (cz u4 + 1) = K := by rw [hu5, fR_of _ _ _ _ (by decide), fR_at]
        have x72 : fR u5 72 (cz u4 + 1) = a := by rw [hu5, fR_at]
        have x68 : fI u5 68 (cz u4 + 1) = -1 := by rw [hu5]; exact fI_at _ _ _ _
        have xtg : tg u5 (cz u4 + 1) = 8 := by rw [hu5]; exact if_pos rfl
        have o5a := c25.1.2.2.2.2 a (rb3.1.le ta2) (by simp; omega)
        have K5k : K = kd u5 p k := by
          have hKA2 : KA p u2 := K2.1
          rw [kd_fr2 hKA2 c25.1 (c25.2.1 0 (by decide)).2 (by have := hKA2.2.2.1; have : p < fR u2 0 p := this; simp; omega), kd2, kd1]
          exact hK
        have w24 : tA σ4 24 (np τ) = -4 := (g5 24 _ (by decide)).trans n24
        have w25 : tA σ4 25 (np τ) = -4 := (g5 25 _ (by decide)).trans n25
        have no := own_no (τ := σ4) (q := np τ) w24 w25
        have k4lt : k < nK σ4 := by unfold nK; rw [(G25 10 (by decide)).1]; exact k2lt
        refine OUTb.iR (v := cz u4 + 1) (q := np τ) rb7 ⟨rfl, rfl, P5, lt4, (g5 18 _ (by decide)).trans n18, (g5 23 _ (by decide)).trans n23, w25, U4, eR4.trans R2, _, ⟨Or.inl w24, Or.inl w25, Or.inl ⟨Or.inl w24, ?_⟩⟩, BA.st (S := []) (FT.refl _ _) G25⟩ (fun Q X hh => hh) (fun I QF cl kk => fa ⟨by rw [y32]; omega, fa (by
          have k' : I (np τ) (tI σ4 32) σ4 := kk
          rw [y32] at k' ⊢
          rw [y33]
          exact k')⟩)
        rw [if_pos w24, if_pos w25]
        refine ⟨lt4, Nat.lt_succ_of_le (Nat.le_trans hb (Nat.le_trans hc.1.1 (Nat.le_trans c1.1.1 (Nat.le_trans c2.1.1 (Nat.le_trans c4.1.1 c5.1.1))))), x68, fun x hx => ((no x).mp hx).elim, Or.inr (Or.inr (Or.inr (Or.inr (Or.inr (Or.inl ⟨(g5 17 _ (by decide)).trans n17, xtg, ?_, k, many, _, (g5 19 _ (by decide)).trans n19, k4lt, ?_, ?_, Or.inr ?_, by rw [← hlast]; exact fin1, fun z => by omega, fun _ => by rw [← hlast]; exact fin2 (Nat.succ_pos i), fun j hj => ?_, (fun j => if j = i then D else Di j), fun j hj => ?_, fun x => ?_, fun x hx => ((no x).mp hx).elim⟩)))))⟩
        · rw [show tA σ4 18 (np τ) = s from (g5 18 _ (by decide)).trans n18]; exact hs3
        · rw [x71]; exact K5k
        · rw [x72]; exact ⟨by rw [ob.etg o5a, eu2]; exact ta1, by rw [ob.eln o5a, eu2]; exact la1, Nat.lt_of_le_of_lt hb haw⟩
        · exact ((g5 14 _ (by decide)).trans n14).symm
        · have := ps2 j (by omega)
          rw [← g5 18 _ (by decide), ← g5 15 _ (by decide)] at this
          exact this
        · rw [x72, ← hlast]
          exact fin3 j (by omega)
        · rw [no x, ← hlast]
          exact ⟨fun y => Or.inr y, fun y => by
            rcases y with y | y
            · exact y.elim
            · exact y⟩
      · have z32 : tI σ3 32 = ((o + 1 : Nat) : Int) := (F3 32 (by decide)).1.trans n32
        have eo : w32 ((tI σ3 32) - 1) = (o : Int) := by rw [z32]; exact open1 ho8
        by_cases h07 : tI σ3 7 = 0
        · refine DD.iW (S1 := [32]) D3 (sI σ3 32 o) ((FT.refl _ _).ssI (by decide)) (fun I QF k => br1 rfl (br1 h07 (fun u hu => k u (by rw [hu, eo])))) (fun σ4 e4 D4 G4 => ?_)
          have y32 : tI σ4 32 = o := by rw [e4]; exact (tI_sI _ _ _ _).trans (if_pos rfl)
          have y33 : tA σ4 33 o = np τ := ((G4 33 (by decide)).2 _).trans (((F3 33 (by decide)).2 _).trans n33)
          have U4 : UT τ σ4 o := (U2.trans (UT.ft F3 (by decide) o) (Nat.le_of_lt lt2) R2).trans (by
            have g4 : ∀ f x, tA σ4 f x = tA σ3 f x := fun f x => by rw [e4]; rfl
            exact ⟨fun f _ _ x _ => g4 f x, fun f _ _ x _ => g4 f x, fun x _ => g4 40 x, fun x _ => ⟨g4 29 x, g4 30 x⟩, fun x _ => g4 28 x⟩) (by rw [np_ft F3 (by decide)]; exact Nat.le_of_lt lt2) (by rw [nR_ft F3 (by decide)]; exact R2)
          refine DD.iT (F' := fun I _ => I (np τ) (o : Int) σ4) (fun I QF cl k => fa ⟨by rw [y32]; omega, fa (by rw [y32, y33]; exact k)⟩) ?_
          exact dI15 (R := nR τ) D4 (by rw [(G4 27 (by decide)).1, (F3 27 (by decide)).1, (F12 27 (by decide)).1, N0.2.1, hRR]) h.2.2.1.2.2.1 y32 (Nat.le_of_lt_succ ho8) (fun k hk => (h.2.2.2.2.2.2.2.2.2.1 k (by omega)).on (by omega) U4 (h.2.2.2.2.2.2.2.2.2.2 k (by omega))) (fun _ => by omega) (by omega)
        · exact DD.iF (x := np σ) (y := tI σ1 32) D3 h07 (fun I QF cl k => br1 rfl (br0 h07 k))
    · obtain ⟨σ3, ⟨q1, q2, q3⟩, run⟩ := RB.fails (e := e + 6) (pl := tI σ2 5) rb3 (k := 6) (by decide)
      obtain ⟨σ4, ⟨x1, x2, x3⟩, run4⟩ := dd_must (d := e + 3) (c := 41) q2
      have run4' : ∀ Q : ZRes → TW → Prop, Q (.inl none) σ4 → wpT (e + 7) 20 [ai 41] σ3 Q := run4
      exact OUTb.thr rb3 (fun Q X hh I l => hbody (bC_X0_kinded_225 (sR_isSign rb3 (by decide) (fa (rb3.needNo (if_neg s44) hr3' hh))))) (DD.iP (σ := σ4) (S1 := [7, 8]) (F' := fun I _ => I (np σ) (tI σ1 32) σ4) (q1.trans x1) (fun I QF cl k => by
        refine gk n32 ho8 n33 hq17 n17 n19 hk24 (br1 hB2 (br0 s44 (run _ ?_)))
        refine zq_v (bT_goesOn_85 (run4' _ ?_))
        exact br1 rfl (br0 x3 k)) (DD.iF x2 x3 (fun I QF cl k => k)))
  · -- one more must come
    have hlt4 : i + 1 < many := by omega
    have hA1 : ¬ (fI u2 42 K ≤ ((i + 1 : Nat) : Int)) := by rw [fK2]; exact fun y => by omega
    have hA2 : ¬ (tA σ2 14 k ≤ tA σ2 34 o) := by rw [n14, n34]; exact fun y => by omega
    have hbody : ∀ {Q : Nat → CW → Prop} {X : Nat → CW → Prop} {I : Int → CW → Prop}, (((ff_isSign 44 σ2) = 0 → pC_X0_kinded_190 p (wpC p (m + 18)) (fun v w => Q v w) (fun x w => X x w) I K a ((i + 1 : Nat) : Int) 0 p u2) ∧ (¬ ((ff_isSign 44 σ2) = 0) → pC_X0_kinded_185 p (wpC p (m + 18)) (fun v w => Q v w) (fun x w => X x w) I K a ((i + 1 : Nat) : Int) p u2)) → kbC p (wpC p (m + 18)) (fun v w => Q v w) (fun x w => X x w) K a I ((i + 1 : Nat) : Int) u2 := fun hh => ⟨by rw [tK2]; decide, br0 hA1 (br0 i1ne (sR_isSign rb3 (by decide) hh))⟩
    have PS2 : PS p u2 σ2 (o + 1) := by
      rw [eu2]
      exact PS.came (i := i + 1) hP1 (by rw [← eu2]; exact rb3) (Nat.le_trans haz c1.1.1) (Nat.lt_of_le_of_lt kz haw) (by rw [ta1]; decide) F2 m33 (Nat.lt_trans hlt lt1) q35 q34' (Nat.lt_trans lt1 npz) (Nat.le_trans (Nat.le_of_lt hlt4) (Nat.le_trans hm4 (by decide))) (Or.inl ⟨m17, Nat.lt_of_lt_of_le hlt4 hm4, k, (U1.1 19 (by decide) (by decide) _ hlt).trans g19, hk24⟩) hq17
    by_cases s44 : ff_isSign 44 σ2 = 0
    · obtain ⟨σ3, ⟨q1, q2, q3⟩, run⟩ := RB.stop (e := e + 5) rb3 (k := 6) (by decide)
      exact OUTb.thr rb3 (fun Q X hh I l => hbody (br1 s44 (bC_X0_kinded_190 ⟨tgp, rb3.needNo rfl hr3' hh⟩))) (DD.iP (σ := σ3) (S1 := [7, 8]) (F' := fun I _ => I (np σ) (tI σ1 32) σ3) q1 (fun I QF cl k => gk n32 ho8 n33 hq17 n17 n19 hk24 (br0 hA2 (br1 s44 (run _ (bT_goesOn_59 (dd_takes q2 _ ⟨Or.inl rfl, br1 rfl (br0 q3 k)⟩)))))) (DD.iF q2 q3 (fun I QF cl k => k)))
    · refine OUTb.kBV hR3 (OUT.nx1 (d := m + 6) (e := e + 2) rb3 (by have := (sg_1 s44).2.1; omega) (hR3.le (by decide))) (fun Q X I l hh => hbody (br0 s44 (bC_X0_kinded_185 (bC_X0_kinded_190 ⟨tgp, sC_needOk (by decide) hh⟩)))) (fun I QF cl k => gk n32 ho8 n33 hq17 n17 n19 hk24 (br0 hA2 (br0 s44 (bT_goesOn_59 (sT_takes1 (d := e + 2) rb3.f0 s44 k))))) (fun _ _ u3 σ3 rb4 hfr c4 hR4 => ?_) (fun h pl σ3 D3 F3 => ?_)
      · have hKA2 : KA p u2 := PS2.2.1.1
        have PS3 := PS2.nx c4 rb4
        have C3 := hCA.nx rb3.1 hKA2 (by omega) (by rw [eu2]; show tg u1 a ≠ 0; rw [ta1]; decide) c4
        have G3 := c4.2.2.2.1
        have g3 : ∀ f x, 10 ≤ f → tA σ3 f x = tA σ2 f x := fun f x hf => (G3 f (by simp only [List.mem_cons, List.not_mem_nil, or_false]; omega)).2 _
        have en3 : np σ3 = np σ2 := np_ft G3 (by decide)
        have eR3 : nR σ3 = nR σ2 := nR_ft G3 (by decide)
        have eS3 : ∀ x, SnR σ3 x = SnR σ2 x := fun x => by unfold SnR; rw [eR3, g3 30 _ (by decide)]
        have U3 : UT τ σ3 o := U2.trans (UT.ft G3 (by decide) o) (Nat.le_of_lt lt2) R2
        have K3 : K = kd u3 p k := by rw [kd_fr2 hKA2 c4.1 (c4.2.1 0 (by decide)).2 (by have := hKA2.2.2.1; have : p < fR u2 0 p := this; simp; omega), kd2, kd1]; exact hK
        have cT : CF p [fR w 15 p, fR w 16 p] SPC SPT w τ u3 σ3 := cT2.trans c4 (fun r hr => by cases hr) (by decide) (by decide)
        have o4a := c4.1.2.2.2.2 a (rb3.1.le (by rw [eu2]; show tg u1 a ≠ 0; rw [ta1]; decide)) (by simp; omega)
        have o4K := c4.1.2.2.2.2 K (rb3.1.le (by rw [tK2]; decide)) (by simp; omega)
        have hI3 : KIV p a (n + 1) w τ s o k K many (i + 1) u3 σ3 (fun j => if j = i then np σ else c j) (fun j => if j = i then D else Di j) (fun j => if j = i then SnR σ1 else Sn j) := by
          refine ⟨PS3, C3, fun j hj x hx => by rw [eS3]; exact SnA j hj x hx, U3, eR3.trans R2, by rw [en3]; exact lt2, ⟨by rw [g3 17 _ (by decide)]; exact n17, by rw [g3 18 _ (by decide)]; exact n18, by rw [g3 19 _ (by decide)]; exact n19, by rw [g3 23 _ (by decide)]; exact n23, by rw [g3 24 _ (by decide)]; exact n24, by rw [g3 25 _ (by decide)]; exact n25⟩, ⟨by rw [g3 33 _ (by decide)]; exact n33, by rw [g3 34 _ (by decide)]; exact n34, ?_⟩, fun j hj => ?_, BA.st (S := []) (FT.refl _ _) G3, ⟨?_, K3, by rw [g3 14 _ (by decide)]; exact n14, hm4⟩, ⟨?_, ?_⟩, cT⟩
          · rw [g3 35 _ (by decide), q35, if_pos rfl, if_neg (Nat.succ_ne_zero i)]
            show (np σ : Int) = ((if i + 1 - 1 = i then np σ else c (i + 1 - 1) : Nat) : Int)
            rw [if_pos (by omega)]
          · rw [g3 18 _ (by decide), g3 15 _ (by decide)]
            exact ps2 j hj
          · unfold nK
            rw [(G3 10 (by decide)).1]
            exact k2lt
          · rw [ob.etg o4a, eu2]; exact ta1
          · rw [ob.eln o4a, eu2]; exact la1
        have SL3 : SLv σ3 o := PS3.2.2.2.2.2.2.2.2.2.1 o (Nat.lt_succ_self o)
        have z32 : tI σ3 32 = ((o + 1 : Nat) : Int) := (G3 32 (by decide)).1.trans n32
        have z33 : tA σ3 33 o = np τ := (g3 33 _ (by decide)).trans n33
        have z17 : tA σ3 17 (np τ) = 5 := (g3 17 _ (by decide)).trans n17
        have z19 : tA σ3 19 (np τ) = k := (g3 19 _ (by decide)).trans n19
        have z34 : tA σ3 34 o = ((i + 1 : Nat) : Int) := (g3 34 _ (by decide)).trans n34
        have zw : w32 ((tI σ3 32) - 1) = (o : Int) := by rw [z32]; exact open1 ho8
        have wan : ff_wanted σ3 = tA σ3 15 (4 * k + (i + 1) : Nat) := by
          unfold ff_wanted
          rw [zw, z33, if_pos z17, z19, z34, ix4 hk24 (Nat.le_of_lt (Nat.lt_of_lt_of_le hlt4 hm4))]
        refine OUTb.le (OUTb.kT (F' := ANk p (m + 18) K a (tA σ3 15 (4 * k + (i + 1) : Nat)) ((i + 1 : Nat) : Int) u3) (fun Q X I l hh => ?_) (OUTb.iT (F' := fun I _ => wpT (e + 8) 25 [ai (tA σ3 15 (4 * k + (i + 1) : Nat)), ai (if o + 1 = 6 then 1 else 0)] σ3 (zqI (fun v u => I v ((o + 1 : Nat) : Int) u) zno)) (fun I QF cl kk => ?_) (ih (g - 1) (by omega) (i + 1) u3 σ3 _ _ _ (by omega) hI3 (hR4.le (by decide)))))
        · have jK := PS3.2.1.2.2.2.2.1 k (by unfold nK; rw [(G3 10 (by decide)).1]; exact k2lt)
          obtain ⟨y1, y2, y3, y4, y5, y6, y7, y8, y9, y10, y11, y12⟩ := jK
          rw [← K3] at y1 y6 y9 y10 y12
          have yp := y12 (i + 1) (by rw [show tA σ3 14 k = (many : Int) from (g3 14 _ (by decide)).trans n14]; omega)
          have ea : aN u3 (fR u3 41 K) ((i + 1 : Nat) : Int) = tA σ3 15 (4 * k + (i + 1) : Nat) := by
            unfold aN
            rw [if_neg (by rw [show tg u3 (fR u3 41 K) = 102 from y9]; decide)]
            exact yp.1
          refine ⟨by rw [y1]; decide, ⟨y9, by omega, by rw [show ln u3 (fR u3 41 K) = 4 from y10]; omega⟩, ?_⟩
          rw [ea]
          exact hh
        · refine ⟨Or.inr rfl, Or.inr rfl, br0 (by decide) ⟨by rw [zw]; omega, by rw [zw, z33]; omega, fun _ => by rw [zw]; omega, fa ⟨SL3.wanted ho8 z32, fa ?_⟩⟩⟩
          rw [zw, z33, wan, z32]
          have e7 : (if (((o + 1 : Nat) : Int) = 6) ∨ (¬ ((if ((tA σ3 17 (np τ)) = 6) ∧ ((tA σ3 34 o) = 6) then (1 : Int) else 0) = 0)) then (1 : Int) else 0) = (if o + 1 = 6 then 1 else 0) := by
            rw [if_neg (show ¬ (tA σ3 17 (np τ) = 6 ∧ tA σ3 34 o = 6) from fun y => by rw [z17] at y; exact absurd y.1 (by decide))]
            by_cases y : o + 1 = 6
            · rw [if_pos y, if_pos (Or.inl (by omega))]
            · rw [if_neg y, if_neg (by omega)]
          rw [e7]
          rw [m32]
          exact kk
      · -- a wrong token
        have h07 : tI σ3 7 = 0 := (F3 7 (by decide)).1.trans rb3.f0
        obtain ⟨σ4, q1, q2, q3, run⟩ := dd_begins (e := e) (x1 := ff_wanted σ3) (x2 := if ((tI σ3 32) = 6) ∨ (¬ ((if ((tA σ3 17 (tA σ3 33 (w32 ((tI σ3 32) - 1)))) = 6) ∧ ((tA σ3 34 (w32 ((tI σ3 32) - 1))) = 6) then (1 : Int) else 0) = 0)) then 1 else 0) D3 h07
        have g3 : ∀ f x, 10 ≤ f → tA σ3 f x = tA σ2 f x := fun f x hf => (F3 f (by simp only [List.mem_cons, List.not_mem_nil, or_false]; omega)).2 _
        have z32 : tI σ3 32 = ((o + 1 : Nat) : Int) := (F3 32 (by decide)).1.trans n32
        have z33 : tA σ3 33 o = np τ := (g3 33 _ (by decide)).trans n33
        have zw : w32 ((tI σ3 32) - 1) = (o : Int) := by rw [z32]; exact open1 ho8
        have SL3 : SLv σ3 o := (PS2.2.2.2.2.2.2.2.2.2.1 o (Nat.lt_succ_self o)).on (Nat.lt_succ_self o) (UT.ft F3 (by decide) (o + 1)) (PS2.2.2.2.2.2.2.2.2.2.2 o (Nat.lt_succ_self o))
        exact DD.iP (σ := σ4) (S1 := [7, 8]) (F' := fun I _ => I (-4) (tI σ1 32) σ4) q1 (fun I QF cl kk => ⟨Or.inr rfl, Or.inr rfl, br0 (by decide) ⟨by rw [zw]; omega, by rw [zw, z33]; omega, fun _ => by rw [zw]; omega, fa ⟨SL3.wanted ho8 z32, fa (run _ kk)⟩⟩⟩) (DD.iF q2 q3 (fun I QF cl k => k))
end ZKind
