/-! alternatives, both: their loop -/
section ZEith7
variable {p b e d : Nat} {w : CW} {τ : TW}
/-- what was bound before counts again -/
theorem PS.reset {o B : Nat} (h : PS p w τ o) (hB : B < 256) (hBn : ∀ k, nN τ ≤ k → B.testBit k = false) (rb : RB p (pI w 18 p B) (sI τ 31 B)) : PS p (pI w 18 p B) (sI τ 31 B) o := by
  obtain ⟨h1, h2, h3, h4, h5, h6, h7, h8, h9, h10, h11⟩ := h
  have F : FT [31] τ (sI τ 31 B) := (FT.refl _ _).ssI (by decide)
  have Fw : Fr [p] w (pI w 18 p B) := (Fr.refl _ _).spI (Or.inl (by simp))
  have Pw : PF [18] p w (pI w 18 p B) := (PF.refl _ _ _).spI (Or.inl (by simp))
  have en : np (sI τ 31 B) = np τ := np_ft F (by decide)
  have eN : nN (sI τ 31 B) = nN τ := nN_ft F (by decide) (by decide)
  have eR : nR (sI τ 31 B) = nR τ := nR_ft F (by decide)
  have K := h2.fr (T := []) (w' := pI w 18 p B) (τ' := sI τ 31 B) h1.1 Fw Pw (fun r hr => by cases hr) (by decide) (by decide) F (by decide)
  refine ⟨rb, K, ?_, by rw [(F 16 (by decide)).1, en]; exact h4, by rw [en, (F 5 (by decide)).1]; exact h5, by rw [(F 32 (by decide)).1]; exact h6, h7, by rw [(Pw 19 (by decide)).1]; exact h8, by rw [(Pw 20 (by decide)).1]; exact h9, fun k hk => (h10 k hk).on' hk ⟨fun f hf x _ => rfl, fun f h1 h2 x _ => rfl⟩ (h11 k hk), fun k hk => ?_⟩
  · obtain ⟨a1, a2, a3, a4, a5, a6, a7, a8, a9, a10, a11⟩ := h3
    exact ⟨a1, by rw [eR]; exact a2, by rw [eR]; exact a3, by rw [eN, eR]; exact a4, by rw [eN]; exact a5, by rw [eN]; exact a6, (fI_at _ _ _ _).trans ((tI_sI _ _ _ _).trans (if_pos rfl)).symm, ⟨B, (tI_sI _ _ _ _).trans (if_pos rfl), hB, fun k hk => hBn k (by rw [← eN]; exact hk)⟩, fun k hk => a9 k (by rw [← eN]; exact hk), fun k hk => a10 k (by rw [← eN]; exact hk), fun i j hij hj => a11 i j hij (by rw [← eN]; exact hj)⟩
  · obtain ⟨q, q1, q2⟩ := h11 k hk
    exact ⟨q, q1, by rw [en]; exact q2⟩
theorem ei_loop {m n o a x7 B0 : Nat} {s x2 x5 : Int} (hs0 : 0 ≤ s) (hs : s < 3 + nK τ) (hb : b ≤ cz w) (h : PS p w τ o) (hrec : PTH p e n (o + 1)) (hM : 3 * n + 21 ≤ m + 18) (haw : cz w < a) (hax : a < x7) (ho6 : o < 6) (hx2 : x2 = tI τ 5) (hB0 : B0 < 256) (hx5 : x5 = B0) (hB31 : tI τ 31 = B0) : ∀ (g i : Nat) (u : CW) (σ : TW) (c : Nat → Nat) (Di : Nat → Nat → Prop) (Sn : Nat → Nat → Int) (x6 x8 : Int), 6 = i + g → RB p u σ → PS p (pI u 20 p 0) σ (o + 1) → fI u 20 p = (if (i : Int) = 6 then 1 else 0) → tI σ 31 = B0 → EIC p a x7 (n + 1) w τ s o B0 i x6 x8 u σ c Di Sn → Rm 3000 u σ →
    OUTb p (cz w) [fR w 15 p, fR w 16 p] SPC SPT (-5700) 500 (fun r v w' τ' => (0 : Int) = 0 ∧ PN p b (n + 1) τ s o r v w' τ') (cmG (Le p (m + 18) s x2 a x5 x7) (ANe1 p (wpC p (m + 18)) s x2 a x5 x7 (i : Int) x6 x8 u)) (tmG e gI (fun I _ => wpT (e + 8) 25 [ai s, ai (if o + 1 = 6 ∨ i = 6 then 1 else 0)] σ (zqI (fun v u => I v ((o + 1 : Nat) : Int) u) zno))) u σ := by
  intro g
  induction g using Nat.strongRecOn with
  | ind g ih =>
  intro i u σ c Di Sn x6 x8 hg rb hPz hf20 hb31 hI hR
  obtain ⟨⟨hC, hU, hRR, hlt⟩, -, -, -, -, ⟨ta, la, t7, l7⟩, hc⟩ := id hI
  have kz := h.2.1.1.2.2.2.2
  have kz1 : p + 8 ≤ cz w := kz
  have haz := rb.1.le (r := a) (by rw [ta]; decide)
  have hwi : fI u 19 p = ((o + 1 : Nat) : Int) := by
    have := hPz.2.2.2.2.2.2.2.1
    rw [fI_of _ _ _ _ (by decide)] at this
    exact this
  have f15 : fR u 15 p = fR w 15 p ∧ fR u 16 p = fR w 16 p := ⟨(hc.2.1 15 (by decide)).2, (hc.2.1 16 (by decide)).2⟩
  have hmuch : (if o + 1 = 6 ∨ i = 6 then (1 : Int) else 0) = if ¬ ((fI u 20 p) = 0) ∨ (¬ ((fI u 19 p) < 6)) then 1 else 0 := by
    rw [hf20, hwi]
    by_cases z6 : i = 6
    · rw [if_pos (Or.inr z6), if_pos (show (i : Int) = 6 by omega), if_pos (Or.inl (by decide))]
    · rw [if_neg (show ¬ (i : Int) = 6 by omega)]
      by_cases z : o + 1 = 6
      · rw [if_pos (Or.inl z), if_pos (Or.inr (by omega))]
      · rw [if_neg (by omega), if_neg (by omega)]
  have eK : nK σ = nK τ := by unfold nK; rw [(hc.2.2.2.1 10 (by decide)).1]
  have hrun := OUT.toG (hrec u σ s (if o + 1 = 6 ∨ i = 6 then 1 else 0) a (m + 18) haz rb hPz hmuch hs0 (by rw [eK]; exact hs) (hR.le (by decide)) hM)
  refine OUTb.kN hR hrun (fun Q X I l hh => hh) (fun v v' u σ n => n.2.one) (fun r q u1 σ1 rb1 n1 c1 hR1 => ?_) (hTT := fun r hr => Or.inl (by rw [← f15.1, ← f15.2]; exact hr))
  obtain ⟨hm0, hv, hP1, lt1, m18, m23, U1, R1, D, pr, bn⟩ := n1
  have hi : i < 6 := by
    rcases Nat.lt_or_ge i 6 with y | y
    · exact y
    · rw [if_pos (Or.inr (by omega))] at hm0
      exact absurd hm0 (by decide)
  have hq : q = ((np σ : Nat) : Int) := congrArg Prod.fst hv
  subst hq
  have nA1 := hP1.2.2.1.1
  have e15 : fR u1 15 p = fR u 15 p := (c1.2.1 15 (by decide)).2
  have e16 : fR u1 16 p = fR u 16 p := (c1.2.1 16 (by decide)).2
  have oa := c1.1.2.2.2.2 a haz (by
    intro y
    have y1 : fR u1 15 p ≤ p + 8 := nA1.1.2.2.2
    have y2 : fR u1 16 p ≤ p + 8 := nA1.2.2.2.2
    simp only [List.mem_cons, List.not_mem_nil, or_false] at y
    omega)
  have ta1 : tg u1 a = 114 := (ob.etg oa).trans ta
  have la1 : ln u1 a = 6 := (ob.eln oa).trans la
  have hr6 := pr.lt.2.2
  obtain ⟨σ2, σ3, u3, y, mk, x6', F2, F3, n32, n33, n17, run35, run37, hmk, hx6', ⟨f1, f2, f3, f4, f5⟩, run130, hI3, hP3⟩ := ei_step (e := e) (call := wpC p (m + 18)) (x1 := s) (x2 := x2) (x5 := x5) h hb31 hB0 hx5 hI (by omega) hi haw hax rb rb1 c1 hP1 lt1 m18 m23 U1 R1 pr bn (rfl : qR u1 a i r = qR u1 a i r)
  have ei1 : w32 ((i : Int) + 1) = ((i + 1 : Nat) : Int) := w32_k (by omega)
  refine OUTb.kW (r := a) hR1 rb1 (qR u1 a i r) ((Fr.refl _ _).sqR (Or.inl (by simp))) ((PF.refl _ _ _).sqR) (rb1.1.sqR _ _ _) ⟨rfl, rfl⟩ (fun Q X I l hh => ⟨⟨by omega, by omega, by omega⟩, Or.inr (by rw [ta1]; exact zst_p hr6), hh⟩) ⟨by omega, by rw [ta1]; decide, by rw [ta1]; decide⟩ (Or.inr haw) (fun u2 eu2 rb2 c2 hR2 => ?_)
  subst eu2
  have t72 : tg (qR u1 a i r) x7 = 102 := (c1.1.2.2.2.1 x7 (rb.1.le (by rw [t7]; decide))).1.trans t7
  refine OUTb.kW (F2 := cm228 p m s x2 a ((i + 1 : Nat) : Int) x5 x6' x7 y) (r := x7) hR2 rb2 u3 f1 f2 f3 ⟨f4, f5⟩ (fun Q X I l hh => by
    intro x4 h4 x10 h10 v20 h20 v21 h21 x8' h8
    rw [ei1] at h4
    subst h4
    rw [← hmk] at h10
    subst h10
    rw [← hx6'] at h20
    subst h20
    subst h21
    subst h8
    exact run130 _ _ I (hh u3 rfl)) ⟨by omega, by rw [t72]; decide, by rw [t72]; decide⟩ (Or.inr (by omega)) (fun u3' eu3 rb3 c3 hR3 => ?_)
  subst eu3
  have ho8 : o < 8 := by omega
  have m32 : tI σ1 32 = ((o + 1 : Nat) : Int) := hP1.2.2.2.2.2.1
  have npl : np τ < 1700 := by
    have y1 := hP1.2.2.2.2.1
    have y2 := rb1.rg
    have y3 : tI σ1 5 = tI σ1 5 := rfl
    omega
  have F13 : FT [22, 23, 26, 34, 35, 38, 39, 40] σ1 σ3 := (F2.mono (by decide)).trans (F3.mono (by decide))
  refine OUTb.iM (τ' := σ3) (F' := fun I _ => wpT (e + 7) 17 [ai 124] σ3 (gE1 (wpT (e + 7)) o (rpK (wpT (e + 8)) I (np σ) (tI σ1 32)))) hR3 rb3 F13 (fun I QF cl k => br1 rb1.f0 (br0 (by rw [m32]; omega) (run35 _ (gE0 n32 ho8 n33 npl n17 run37 k)))) (fun rb4 hR4 => ?_)
  have rb4' := hP3.1
  obtain ⟨-, ⟨⟨r17, -, -, -, -⟩, ⟨r33, r34, r35, r36, r37⟩, -⟩, ⟨hn1, -, -⟩, -, ⟨hyo, h39, -⟩, ⟨ta3, -, t73, -⟩, -⟩ := id hI3
  by_cases s124 : ff_isSign 124 σ3 = 0
  · by_cases s41 : ff_isSign 41 σ3 = 0
    · exact ei_none rb4 s124 s41 (hR4.le (by decide)) (by decide)
    · by_cases hy : y = 1
      · subst hy
        exact OUTb.le (ei_end hb h hB0 hx5 hB31 haw hax (Nat.succ_pos i) hi hI3 hP3 s124 s41 (hR4.le (by decide)))
      · have hy0 : y = 0 := by rcases hyo with z | z <;> omega
        subst hy0
        exact ei_unlike rb4 ⟨hP3.2.2.1.2.1, hP3.2.2.1.2.2.1⟩ s124 s41 (fun z => by have := h39.mp z; omega) (r36.trans hx2.symm) ho8 (hR4.le (by decide)) (by decide)
  · -- one more
    refine OUTb.kBV (F2 := fun v => ANe0 p (wpC p (m + 18)) s x2 a x5 x7 ((i + 1 : Nat) : Int) x6' y v) (FT2 := fun v I _ => ((1 : Int) = 0 ∨ (1 : Int) = 1) ∧ gE1 (wpT (e + 7)) o (rpK (wpT (e + 8)) I (np σ) (tI σ1 32)) (.inl (some (ai 1))) v) hR4 (OUT.nx1 (d := m + 6) (e := e + 2) rb4 (by have := (sg_1 s124).2.1; omega) (hR4.le (by decide))) (fun Q X I l hh => bC_X0_either_228 (sR_isSign rb4 (by decide) (br0 s124 (l _ _ _ _ hh)))) (fun I QF cl k => sT_takes1 (d := e + 2) (Q := gE1 (wpT (e + 7)) o (rpK (wpT (e + 8)) I (np σ) (tI σ1 32))) rb4.f0 s124 k) (fun _ _ u4 σ4 rb5 hfr c4 hR5 => ?_) (fun hw pl σ4 D4 F4 => ?_)
    · have w19 : fI u4 20 p = 0 := (c4.2.1 20 (by decide)).1.trans hP3.2.2.2.2.2.2.2.2.1
      obtain ⟨v, hv⟩ : ∃ v, v = pI (pI u4 18 p B0) 20 p (if (((i + 1 : Nat) : Int)) = 6 then 1 else 0) := ⟨_, rfl⟩
      have Fv : Fr [p] u4 v := by rw [hv]; exact ((Fr.refl _ _).spI (Or.inl (by simp))).spI (Or.inl (by simp))
      have Pv : PF [18, 20] p u4 v := by rw [hv]; exact ((PF.refl _ _ _).spI (Or.inl (by simp))).spI (Or.inl (by simp))
      have Wv : WF p v := by rw [hv]; exact (rb5.1.spI _ _ _).spI _ _ _
      refine OUTb.kC (T1 := []) (S1 := [18, 20]) (k := 0) (F2 := ANe1 p (wpC p (m + 18)) s x2 a x5 x7 ((i + 1 : Nat) : Int) x6' y) hR5 rb5 v Fv Pv Wv (by rw [hv]; exact Int.le_refl _) (by decide) (fun Q X I l hh => fun v1 h1 v2 h2 v3 h3 => hh v3 (by rw [h3, h1, h2, hx5, hv])) (fun r hr => by cases hr) (fun u5 eu5 rb6 c6 hR6 => ?_)
      subst eu5
      have p37 : tA σ4 37 o = B0 := ((c4.2.2.2.1 37 (by decide)).2 _).trans r37
      refine OUTb.iW (S1 := [31]) hR6 rb6 (sI σ4 31 B0) ((FT.refl _ _).ssI (by decide)) (fun I QF k => ⟨Or.inr rfl, br0 (by decide) ⟨by omega, fun v' hv' => k v' (by rw [hv', p37])⟩⟩) (fun σ5 e5 rb7 G5 hR7 => ?_)
      have hKA3 : KA p u3' := hP3.2.1.1
      have I4 := hI3.nx rb4.1 hKA3 (by omega) (by omega) c4 (by decide) (by decide)
      have P4 := hP3.nx c4 rb5
      have c45 : CF p [] [18, 20] [31] u4 σ4 u5 σ5 := ⟨Fv, Pv, Wv, G5, Int.le_of_eq (G5 5 (by decide)).1.symm, (G5 1 (by decide)).1⟩
      have I5 := I4.nx rb5.1 P4.2.1.1 (by omega) (by omega) c45 (by decide) (by decide)
      have b315 : tI σ5 31 = B0 := by rw [e5]; exact (tI_sI _ _ _ _).trans (if_pos rfl)
      have ePz : pI u5 20 p 0 = pI u4 18 p B0 := by
        rw [hv, pI_pI, pI_id]
        rw [fI_of _ _ _ _ (by decide)]
        exact w19
      have P5 : PS p (pI u5 20 p 0) σ5 (o + 1) := by
        rw [ePz, e5]
        refine P4.reset hB0 (fun k hk => ?_) ?_
        · obtain ⟨Bt, q1, q2, q3⟩ := h.2.2.1.2.2.2.2.2.2.2.1
          have : Bt = B0 := Int.ofNat.inj (q1.symm.trans hB31)
          rw [← this]
          refine q3 k ?_
          have e4 : nN σ4 = nN σ3 := nN_ft c4.2.2.2.1 (by decide) (by decide)
          omega
        · rw [← e5, ← ePz]
          exact rb7.st (T := []) (S := [20]) ((Fr.refl _ _).spI (Or.inl (by simp))) ((PF.refl _ _ _).spI (Or.inl (by simp))) (rb7.1.spI _ _ _) (by decide) (fun r hr => by cases hr)
      have f205 : fI u5 20 p = (if (((i + 1 : Nat) : Int)) = 6 then 1 else 0) := by rw [hv]; exact fI_at _ _ _ _
      have SL5 : SLv σ5 o := P5.2.2.2.2.2.2.2.2.2.1 o (Nat.lt_succ_self o)
      have y32 : tI σ5 32 = ((o + 1 : Nat) : Int) := P5.2.2.2.2.2.1
      obtain ⟨-, ⟨⟨s17, s18, -, -, -⟩, ⟨s33, s34, -, -, -⟩, -⟩, -, -, -, -, -⟩ := id I5
      have zw : w32 ((tI σ5 32) - 1) = (o : Int) := by rw [y32]; exact open1 ho8
      have wan : ff_wanted σ5 = s := by
        unfold ff_wanted
        rw [zw, s33, if_neg (by rw [s17]; decide)]
        exact s18
      refine OUTb.le (OUTb.iT (F' := fun I _ => wpT (e + 8) 25 [ai s, ai (if o + 1 = 6 ∨ i + 1 = 6 then 1 else 0)] σ5 (zqI (fun v u => I v ((o + 1 : Nat) : Int) u) zno)) (fun I QF cl kk => ?_) (ih (g - 1) (by omega) (i + 1) u5 σ5 _ _ _ _ _ (by omega) rb7 P5 f205 b315 I5 (hR7.le (by decide))))
      refine br0 (by decide) ⟨by rw [zw]; omega, by rw [zw, s33]; omega, fun _ => by rw [zw]; omega, fa ⟨SL5.wanted ho8 y32, fa ?_⟩⟩
      rw [zw, s33, wan, y32, s17, s34, m32]
      have e7 : (if (((o + 1 : Nat) : Int) = 6) ∨ (¬ ((if ((6 : Int) = 6) ∧ (((i + 1 : Nat) : Int) = 6) then (1 : Int) else 0) = 0)) then (1 : Int) else 0) = (if o + 1 = 6 ∨ i + 1 = 6 then 1 else 0) := by
        by_cases y6 : i + 1 = 6
        · rw [if_pos (show (6 : Int) = 6 ∧ ((i + 1 : Nat) : Int) = 6 by omega), if_pos (Or.inr (by decide)), if_pos (Or.inr y6)]
        · rw [if_neg (show ¬ ((6 : Int) = 6 ∧ ((i + 1 : Nat) : Int) = 6) by omega)]
          by_cases y : o + 1 = 6
          · rw [if_pos (Or.inl y), if_pos (Or.inl (by omega))]
          · rw [if_neg (show ¬ (o + 1 = 6 ∨ i + 1 = 6) by omega), if_neg (show ¬ (((o + 1 : Nat) : Int) = 6 ∨ ¬ (0 : Int) = 0) by omega)]
      rw [e7]
      exact kk
    · -- a wrong token
      have h07 : tI σ4 7 = 0 := (F4 7 (by decide)).1.trans rb4.f0
      obtain ⟨σ5, h5⟩ : ∃ σ5, σ5 = sI σ4 31 (tA σ4 37 o) := ⟨_, rfl⟩
      have F5 : FT [31] σ4 σ5 := by rw [h5]; exact (FT.refl _ _).ssI (by decide)
      obtain ⟨σ6, q1, q2, q3, run⟩ := dd_begins (e := e) (x1 := ff_wanted σ5) (x2 := if ((tI σ5 32) = 6) ∨ (¬ ((if ((tA σ5 17 (tA σ5 33 (w32 ((tI σ5 32) - 1)))) = 6) ∧ ((tA σ5 34 (w32 ((tI σ5 32) - 1))) = 6) then (1 : Int) else 0) = 0)) then 1 else 0) (D4.ft F5 (by decide)) ((F5 7 (by decide)).1.trans h07)
      have F45 : FT [2, 3, 4, 5, 6, 31] σ3 σ5 := (F4.mono (by decide)).trans (F5.mono (by decide))
      have y32 : tI σ5 32 = ((o + 1 : Nat) : Int) := (F45 32 (by decide)).1.trans hP3.2.2.2.2.2.1
      have y33 : tA σ5 33 o = np τ := ((F45 33 (by decide)).2 _).trans r33
      have zw : w32 ((tI σ5 32) - 1) = (o : Int) := by rw [y32]; exact open1 ho8
      have SL5 : SLv σ5 o := (hP3.2.2.2.2.2.2.2.2.2.1 o (Nat.lt_succ_self o)).on' (Nat.lt_succ_self o) ⟨fun f hf x _ => (F45 f (by simp only [List.mem_cons, List.not_mem_nil, or_false]; omega)).2 _, fun f h1 h2 x _ => (F45 f (by simp only [List.mem_cons, List.not_mem_nil, or_false]; omega)).2 _⟩ (hP3.2.2.2.2.2.2.2.2.2.2 o (Nat.lt_succ_self o))
      exact DD.iP (σ := σ6) (S1 := [7, 8, 31]) (F' := fun I _ => I (-4) (tI σ1 32) σ6) ((F5.mono (by decide)).trans (q1.mono (by decide))) (fun I QF cl kk => ⟨Or.inr rfl, br0 (by decide) ⟨by omega, fun v' hv' => by
        rw [← h5] at hv'
        subst hv'
        exact br0 (by decide) ⟨by rw [zw]; omega, by rw [zw, y33]; omega, fun _ => by rw [zw]; omega, fa ⟨SL5.wanted ho8 y32, fa (run _ kk)⟩⟩⟩⟩) (DD.iF q2 q3 (fun I QF cl k => k))
end ZEith7
