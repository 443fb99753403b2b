/-! alternatives, both: all alike, their end -/
section ZEith6
variable {p b e d : Nat} {w : CW} {τ : TW}
theorem ff_s_ft {S : List Nat} {τ' : TW} (F : FT S τ τ') (h : 3 ∉ S) (h4 : 4 ∉ S) (c : Int) : ff_isSign c τ' = ff_isSign c τ := by
  unfold ff_isSign
  rw [(F 3 h).1, (F 4 h4).1]
/-- names at the alternatives' end -/
theorem ei_names {B0 f : Nat} {u u' : CW} {σ σ' : TW} {D0 : Nat → Prop} {T S : List Nat} (h : NmR p u σ) (W : WF p u) (hF : Fr (p :: T) u u') (hP : PF S p u u') (hS : ∀ g, g ∈ S → g < 15 ∨ 17 < g) (hT : ∀ r, r ∈ T → r ≠ fR u 15 p) (F : FT [2, 3, 4, 5, 6, 30, 31, 32] σ σ') (hB0 : B0 < 256) (hBn : ∀ k, nN σ ≤ k → B0.testBit k = false) (hf : f < 256) (hfb : ∀ k, k < 8 → (f.testBit k = true ↔ B0.testBit k = true ∨ D0 k)) (hD : ∀ k, D0 k → k < nN σ)
    (e31 : tI σ' 31 = f) (e18 : fI u' 18 p = f) (h30 : ∀ k : Nat, k < 8 → aI u' (fR u 16 p) k = tA σ' 30 (8 * nR σ + k : Nat) ∨ nN σ ≤ k) : NmR p u' σ' := by
  obtain ⟨h1, h2, h3, h4, h5, h6, h7, h8, h9, h10, h11⟩ := h
  have g : ∀ f, f ∉ [2, 3, 4, 5, 6, 30, 31, 32] → tI σ' f = tI σ f ∧ ∀ x, tA σ' f x = tA σ f x := fun f hf => F f hf
  have eN : nN σ' = nN σ := nN_ft F (by decide) (by decide)
  have eR : nR σ' = nR σ := nR_ft F (by decide)
  have r15 : fR u' 15 p = fR u 15 p := (hP 15 (fun y => by have := hS _ y; omega)).2
  have r16 : fR u' 16 p = fR u 16 p := (hP 16 (fun y => by have := hS _ y; omega)).2
  have l15 := W.le (r := fR u 15 p) (by rw [show tg u (fR u 15 p) = 103 from h1.1.1]; decide)
  have l16 := W.le (r := fR u 16 p) (by rw [show tg u (fR u 16 p) = 102 from h1.2.1]; decide)
  have p15 : p < fR u 15 p := h1.1.2.2.1
  have o15 := hF.2.2.2.2 _ l15 (fun y => by
    rcases List.mem_cons.mp y with z | z
    · omega
    · exact hT _ z rfl)
  have t16 := hF.2.2.2.1 _ l16
  refine ⟨⟨⟨?_, ?_, ?_, ?_⟩, ?_, ?_, ?_, ?_⟩, ?_, ?_, ?_, ?_, ?_, ?_, ⟨f, e31, hf, fun k hk => ?_⟩, fun k hk => ?_, fun k hk => ?_, fun i j hi hj => ?_⟩
  · show tg u' (fR u' 15 p) = 103; rw [r15, ob.etg o15]; exact h1.1.1
  · show ln u' (fR u' 15 p) = 8; rw [r15, ob.eln o15]; exact h1.1.2.1
  · show p < fR u' 15 p; rw [r15]; exact p15
  · show fR u' 15 p ≤ p + 8; rw [r15]; exact h1.1.2.2.2
  · show tg u' (fR u' 16 p) = 102; rw [r16, t16.1]; exact h1.2.1
  · show ln u' (fR u' 16 p) = 8; rw [r16, t16.2]; exact h1.2.2.1
  · show p < fR u' 16 p; rw [r16]; exact h1.2.2.2.1
  · show fR u' 16 p ≤ p + 8; rw [r16]; exact h1.2.2.2.2
  · rw [eR]; exact (g 27 (by decide)).1.trans h2
  · rw [eR]; exact h3
  · rw [eR, eN]; exact ((g 28 (by decide)).2 _).trans h4
  · rw [eN]; exact h5
  · rw [eN]; exact (hP 17 (fun y => by have := hS _ y; omega)).1.trans h6
  · exact e18.trans e31.symm
  · rw [eN] at hk
    by_cases k8 : k < 8
    · cases z : f.testBit k
      · rfl
      · rcases (hfb k k8).mp z with y | y
        · rw [hBn k hk] at y; cases y
        · have := hD k y; omega
    · exact Nat.testBit_lt_two_pow (Nat.lt_of_lt_of_le hf (Nat.pow_le_pow_right (n := 2) (by decide) (by omega : 8 ≤ k)))
  · rw [eN] at hk
    show aI u' (fR u' 15 p) k = tA σ' 29 (8 * nR σ' + k : Nat)
    rw [r15, ob.eaI o15, eR, (g 29 (by decide)).2]
    exact h9 k hk
  · rw [eN] at hk
    show aI u' (fR u' 16 p) k = tA σ' 30 (8 * nR σ' + k : Nat)
    rw [r16, eR]
    rcases h30 k (by omega) with y | y
    · exact y
    · omega
  · rw [eN] at hj
    show tA σ' 29 (8 * nR σ' + i : Nat) ≠ tA σ' 29 (8 * nR σ' + j : Nat)
    rw [eR, (g 29 (by decide)).2, (g 29 (by decide)).2]
    exact h11 i j hi hj
theorem ei_end {m n o a x7 i B0 : Nat} {s x2 x5 x6 y3 y4 : Int} {u : CW} {σ : TW} {c : Nat → Nat} {Di : Nat → Nat → Prop} {Sn : Nat → Nat → Int} (hb : b ≤ cz w) (h : PS p w τ o) (hB0 : B0 < 256) (hx5 : x5 = B0) (hB31 : tI τ 31 = B0) (haw : cz w < a) (hax : a < x7) (hi : 0 < i) (hi6 : i ≤ 6) (hI : EIC p a x7 (n + 1) w τ s o B0 i x6 1 u σ c Di Sn) (hP : PS p u σ (o + 1)) (s124 : ff_isSign 124 σ = 0) (s41 : ff_isSign 41 σ ≠ 0) (hR : Rm 2500 u σ) :
    OUTb p (cz w) [fR w 15 p, fR w 16 p] SPC SPT 0 100 (fun r v w' τ' => (0 : Int) = 0 ∧ PN p b (n + 1) τ s o r v w' τ') (cmG (Le p (m + 18) s x2 a x5 x7) (cm228 p m s x2 a (i : Int) x5 x6 x7 1 u)) (tmG e gI (fun I _ => wpT (e + 7) 17 [ai 124] σ (gE1 (wpT (e + 7)) o (rpK (wpT (e + 8)) I y3 y4)))) u σ := by
  obtain ⟨⟨hC, hU, hRR, hlt⟩, ⟨⟨g17, g18, g23, g24, g25⟩, ⟨l33, l34, l35, l36, l37⟩, hps⟩, ⟨hn1, hn2, hn3⟩, hF, ⟨-, h39, hlk⟩, ⟨ta, la, t7, l7⟩, hc⟩ := hI
  obtain ⟨⟨m6, e6, m61, m62⟩, ⟨f, ef, f1, f2⟩, d1, d2⟩ := hF hi
  obtain ⟨k1, k2, k3⟩ := hlk rfl
  have e39 : tA σ 39 o = 0 := h39.mpr rfl
  have rb := hP.1
  have kz1 : p + 8 ≤ cz w := h.2.1.1.2.2.2.2
  have hN := hP.2.2.1
  have ho : o < 6 := by have := hP.2.2.2.2.2.2.1; omega
  have ho8 : o < 8 := by omega
  have nle8 : nN σ ≤ 8 := hN.2.2.2.2.1
  -- the reference's names
  obtain ⟨σ4, h4⟩ : ∃ σ4, σ4 = sI σ 31 (tA σ 38 o) := ⟨_, rfl⟩
  have F4 : FT [31] σ σ4 := by rw [h4]; exact (FT.refl _ _).ssI (by decide)
  obtain ⟨σ5, F5', z1, z2, run5⟩ := sT_g160 (d := e + 7) (R := nR σ) (k := o) hN.2.2.1 ho8 8 0 σ4 rfl ((F4 27 (by decide)).1.trans hN.2.1)
  have F5 : FT [30, 31] σ σ5 := (F4.mono (by decide)).trans (F5'.mono (by decide))
  have e531 : tI σ5 31 = f := by rw [(F5' 31 (by decide)).1, h4]; exact ((tI_sI _ _ _ _).trans (if_pos rfl)).trans ef
  have e530 : ∀ k : Nat, k < 8 → tA σ5 30 (8 * nR σ + k : Nat) = tA σ 40 (8 * o + k : Nat) := fun k hk => by
    rw [z2 k (Nat.zero_le _) hk, if_pos (by rw [(F4 34 (by decide)).2, l34]; omega), (F4 40 (by decide)).2]
  have o530 : ∀ x : Nat, (x < 8 * nR σ ∨ 8 * nR σ + 8 ≤ x) → tA σ5 30 x = tA σ 30 x := fun x hx => (z1 x (by omega)).trans ((F4 30 (by decide)).2 _)
  refine OUTb.iM (τ' := σ5) (F' := fun I _ => pT_goesOn_210 (wpT (e + 7)) (fun v w => rpK (wpT (e + 8)) I y3 y4 (.inl (some (ai v))) w) σ5) hR rb F5 (fun I QF cl k => sT_takesNo (d := e + 5) s124 _ (br1 rfl (br0 s41 ⟨by omega, br1 e39 (bT_goesOn_148 ⟨by omega, fun v hv => by
    rw [← h4] at hv
    subst hv
    exact bT_goesOn_160 (fun I2 cl2 => run5 _ I2 cl2 k)⟩)⟩))) (fun rb5 hR5 => ?_)
  have s415 : ff_isSign 41 σ5 ≠ 0 := by rw [ff_s_ft F5 (by decide) (by decide)]; exact s41
  have hr5 := Rm.room rb5 hR5 (k := 2) (n := 12) (by decide)
  refine OUTb.kBVr hR5 (OUT.nx1 (d := m + 6) (e := e + 1) rb5 (by have := (sg_1 s415).2.1; omega) (hR5.le (by decide))) (fun Q X I l hh => bC_X0_either_228 (sR_isSign rb (by decide) (br1 s124 (bC_X0_either_237 (sR_isSign rb (by decide) (sC_want s41 (sC_needOk (by decide) hh))))))) (fun I QF _ σ1 cl run k => bT_goesOn_210 (sT_must1 (d := e + 1) rb5.f0 s415 run k)) (fun _ _ u4 σ6 rb6 hfr c6 hR6 => ?_) (fun hw pl σ6 D6 F6 => ?_)
  · have F6 := c6.2.2.2.1
    have F56 : FT [2, 3, 4, 5, 6, 30, 31] σ σ6 := (F5.mono (by decide)).trans (F6.mono (by decide))
    have w19 : fI u4 19 p = ((o + 1 : Nat) : Int) := (c6.2.1 19 (by decide)).1.trans hP.2.2.2.2.2.2.2.1
    have eo2 : w32 ((fI u4 19 p) - 1) = (o : Int) := by rw [w19]; exact open1 ho8
    have ef6 : i_or x5 x6 = (f : Int) := by
      rw [hx5, e6, (or2 hB0 m61).1]
      refine congrArg Int.ofNat (bits_inj (or2 hB0 m61).2 f1 (fun k hk => ?_))
      refine Bool.eq_iff_iff.mpr ?_
      rw [Nat.testBit_or, f2 k hk, ← m62 k hk, Bool.or_eq_true]
    obtain ⟨v5, hv5⟩ : ∃ v5, v5 = pI (pI u4 19 p o) 18 p f := ⟨_, rfl⟩
    have Fv5 : Fr [p] u4 v5 := by rw [hv5]; exact ((Fr.refl _ _).spI (Or.inl (by simp))).spI (Or.inl (by simp))
    have Pv5 : PF [18, 19] p u4 v5 := by rw [hv5]; exact ((PF.refl _ _ _).spI (Or.inl (by simp))).spI (Or.inl (by simp))
    have Wv5 : WF p v5 := by rw [hv5]; exact (rb6.1.spI _ _ _).spI _ _ _
    refine OUTb.kO (OUTb.cw (T1 := []) (S1 := [18, 19]) (k := 0) hR6 rb6 v5 Fv5 Pv5 Wv5 (by rw [hv5]; exact Int.le_refl _) (by decide) (fun Q X hh => fun v hv v' hv' => hh v' (by rw [hv', hv, hv5, eo2, ef6])) (fun r hr => by cases hr) (fun u5 eu5 rb7 c7 hR7 => ?_))
    rw [← eu5] at Fv5 Pv5 Wv5
    have r16 : fR u5 16 p = fR w 16 p := (Pv5 16 (by simp)).2.trans ((c6.2.1 16 (by decide)).2.trans (hc.2.1 16 (by decide)).2)
    have r16u : fR u5 16 p = fR u 16 p := (Pv5 16 (by simp)).2.trans (c6.2.1 16 (by decide)).2
    have nA := hN.1
    have y16 : fR u 16 p ≤ p + 8 := nA.2.2.2.2
    have y16' : p < fR u 16 p := nA.2.2.2.1
    have lea := rb.1.le (r := a) (by rw [ta]; decide)
    have le7 := rb.1.le (r := x7) (by rw [t7]; decide)
    have l16 := rb.1.le (r := fR u 16 p) (by rw [show tg u (fR u 16 p) = 102 from nA.2.1]; decide)
    have Fu5 : Fr [p] u u5 := c6.1.trans Fv5
    have oa5 := Fu5.2.2.2.2 a lea (by simp; omega)
    have o75 := Fu5.2.2.2.2 x7 le7 (by simp; omega)
    have o165 := Fu5.2.2.2.2 (fR u 16 p) l16 (by simp; omega)
    have t165 : tg u5 (fR u5 16 p) = 102 := by rw [r16u, ob.etg o165]; exact nA.2.1
    have l165 : ln u5 (fR u5 16 p) = 8 := by rw [r16u, ob.eln o165]; exact nA.2.2.1
    obtain ⟨u6, q1, q2, q3, q4, q5, -, run6⟩ := sC_e282 (p := p) (call := wpC p (m + 18)) (x4 := (i : Int)) (x6 := x6) (x3 := a) (x7 := x7) 8 0 u5 rfl Wv5 t165 l165 ((ob.etg o75).trans t7) ((ob.eln o75).trans l7) (by rw [r16u]; omega)
    refine OUTb.wo (cm2 := fun v Q X => pC_X0_either_328 p (wpC p (m + 18)) (fun v w => Q v w) (fun x w => X x w) a (i : Int) v) (r := fR u5 16 p) hR7 rb7 u6 q1 q2 q3 q4 (fun Q X hh => bC_X0_either_282 (fun I cl => run6 _ _ I cl (hh u6 rfl))) ⟨by omega, by rw [t165]; decide, by rw [t165]; decide⟩ (Or.inl (by rw [r16]; simp)) (fun v6 ev6 rb8 c8 hR8 => ?_)
    subst ev6
    have oa6 := q1.2.2.2.2 a (Wv5.le (by rw [ob.etg oa5, ta]; decide)) (by simp; omega)
    have ta6 : tg v6 a = 114 := (ob.etg oa6).trans ((ob.etg oa5).trans ta)
    have la6 : ln v6 a = 6 := (ob.eln oa6).trans ((ob.eln oa5).trans la)
    have aa6 : ∀ j : Nat, aR v6 a j = aR u a j := fun j => (ob.eaR oa6 _).trans (ob.eaR oa5 _)
    have hr8 := Rm.room rb8 hR8 (k := 2) (n := 8) (by decide)
    have Fu6 : Fr (p :: [fR u 16 p]) u v6 := (Fu5.mono (fun r hr => Or.inl (by rw [List.mem_singleton.mp hr]; simp))).trans (q1.mono (fun r hr => Or.inl (by rw [List.mem_singleton.mp hr, r16u]; simp)))
    obtain ⟨u7, x1, x2', x3, x4, x5', x68, x73, x9, x10, x11, run7⟩ := ei_obj (p := p) (d := m + 13) (a := a) (m := i) rb8.1 ta6 la6 hi6 (fun j hj => by
      rw [aa6 j]
      have hp := hC.2.2.2.2.2.2.2.2 j hj
      have h6 := hp.lt.2.2
      rw [(Fu6.2.2.2.1 _ (rb.1.le (by omega))).1]
      exact h6) hr8
    refine OUTb.iW (S1 := [32]) hR8 rb8 (sI σ6 32 o) ((FT.refl _ _).ssI (by decide)) (fun I QF k => br1 rfl (br1 rb6.f0 (fun v hv => k v (by
      rw [hv, show tI σ6 32 = ((o + 1 : Nat) : Int) from (F56 32 (by decide)).1.trans hP.2.2.2.2.2.1, open1 ho8])))) (fun σ7 e7 rb9 G7 hR9 => ?_)
    refine OUTb.nw (A0 := 2) (B0 := i + 2) (k := 18) (w' := u7) hR9 rb9 x1 x2' x3 x4 (by omega) (fun Q X hh => run7 _ _ hh) (fun rb10 c10 hR10 => ?_)
    -- all together
    have F7 : FT [2, 3, 4, 5, 6, 30, 31, 32] σ σ7 := (F56.mono (by decide)).trans (G7.mono (by decide))
    have Fu7 : Fr (p :: [fR u 16 p]) u u7 := Fu6.trans (x1.mono (fun r hr => by cases hr))
    have Pu7 : PF [9, 10, 11, 12, 13, 14, 18, 19] p u u7 := ((c6.2.1.mono (by decide)).trans (Pv5.mono (by decide))).trans ((q2.mono (by simp)).trans (c10.2.1.mono (by simp)))
    have cE : CF p [fR u 16 p] [9, 10, 11, 12, 13, 14, 18, 19] [2, 3, 4, 5, 6, 30, 31, 32] u σ u7 σ7 := ⟨Fu7, Pu7, rb10.1, F7, by
      have y1 := c6.2.2.2.2.1
      have y2 : tI σ7 5 = tI σ6 5 := (G7 5 (by decide)).1
      have y3 : tI σ5 5 = tI σ 5 := (F5 5 (by decide)).1
      have y4 : tI σ5 5 = tI σ5 5 := rfl
      have y5 : tI σ6 5 = tI σ6 5 := rfl
      show tI σ 5 ≤ tI σ7 5
      omega, by
      have y1 : tI σ7 1 = tI σ6 1 := (G7 1 (by decide)).1
      have y2 : tI σ6 1 = tI σ5 1 := c6.2.2.2.2.2
      have y3 : tI σ5 1 = tI σ 1 := (F5 1 (by decide)).1
      exact y1.trans (y2.trans y3)⟩
    have cA : CF p [fR w 15 p, fR w 16 p] SPC SPT w τ u7 σ7 := hc.trans cE (fun r hr => by rw [List.mem_singleton.mp hr, ← r16u, r16]; exact Or.inl (by simp)) (by decide) (by decide)
    have K7 : KR p u7 σ7 := h.2.1.fr (T := [fR w 15 p, fR w 16 p]) h.1.1 cA.1 cA.2.1 (fun r hr => by
      have nA := h.2.2.1.1
      have kA := h.2.1.1
      rcases List.mem_cons.mp hr with y | y
      · rw [y]; exact Or.inl ⟨nA.1.2.2.2, fun z => by have := nA.1.1; rw [z, kA.1] at this; cases this⟩
      · rw [List.mem_singleton.mp y]; exact Or.inl ⟨nA.2.2.2.2, fun z => by have := nA.2.1; rw [z, kA.1] at this; cases this⟩) (by decide) (by decide) cA.2.2.2.1 (by decide)
    have o77 := Fu7.2.2.2.2 x7 le7 (by simp; omega)
    have d730 : ∀ x, tA σ7 30 x = tA σ5 30 x := fun x => by rw [(G7 30 (by decide)).2, (F6 30 (by decide)).2]
    have n8 : ∀ k, Di 0 k → k < 8 := fun k hk => by have := (hn3 0 hi k hk).1; omega
    have e718 : fI u7 18 p = f := by
      rw [(c10.2.1 18 (by simp)).1, (q2 18 (by simp)).1, eu5, hv5]
      exact fI_at _ _ _ _
    have N7 : NmR p u7 σ7 := by
      refine ei_names (D0 := Di 0) (f := f) (B0 := B0) hN rb.1 Fu7 Pu7 (by decide) (fun r hr => ?_) F7 hB0 (fun k hk => ?_) f1 f2 (fun k hk => (hn3 0 hi k hk).1) (by rw [(G7 31 (by decide)).1, (F6 31 (by decide)).1]; exact e531) e718 (fun k hk => ?_)
      · rw [List.mem_singleton.mp hr]
        intro y
        have y1 : tg u (fR u 15 p) = 103 := nA.1.1
        have y2 : tg u (fR u 16 p) = 102 := nA.2.1
        rw [y, y1] at y2
        cases y2
      · obtain ⟨Bt, b1, b2, b3⟩ := h.2.2.1.2.2.2.2.2.2.2.1
        have : Bt = B0 := Int.ofNat.inj (b1.symm.trans hB31)
        rw [← this]
        exact b3 k (by omega)
      · have o167 := x1.2.2.2.2 (fR u 16 p) (Nat.le_trans l16 Fu6.1) (by simp)
        have a1 : aI u7 (fR u 16 p) k = if bit x6 k = 1 then aI u5 x7 k else aI u5 (fR u5 16 p) k := by
          rw [ob.eaI o167, ← r16u]
          exact q5 k (Nat.zero_le _) hk
        have b6 : bit x6 k = 1 ↔ Di 0 k := by rw [e6, (b01 m61 hk).1]; exact m62 k hk
        rw [a1, d730, e530 k hk]
        by_cases hd : Di 0 k
        · rw [if_pos (b6.mpr hd), ob.eaI o75, (d1 k hk hd).1, (d1 k hk hd).2]
          exact Or.inl rfl
        · rw [if_neg (fun y => hd (b6.mp y)), r16u, ob.eaI o165, d2 k hk hd]
          by_cases hk2 : k < nN σ
          · left
            have y1 : aI u (fR u 16 p) k = SnR σ k := hN.2.2.2.2.2.2.2.2.2.1 k hk2
            rw [y1]
            exact k3 k hk (fun j hj y => hd ((k1 j hj k hk).mp y))
          · right; omega
    have en7 : np σ7 = np σ := np_ft F7 (by decide)
    have eR7 : nR σ7 = nR τ := (nR_ft F7 (by decide)).trans hRR
    have eN7 : nN σ7 = nN σ := nN_ft F7 (by decide) (by decide)
    have s7 : ∀ k : Nat, SnR σ7 k = tA σ5 30 (8 * nR σ + k : Nat) := fun k => by unfold SnR; rw [eR7, ← hRR]; exact d730 _
    have g7 : ∀ g x, 10 ≤ g → g ≠ 30 → tA σ7 g x = tA σ g x := fun g x hg hg2 => by
      by_cases z : g = 31
      · subst z; rw [(G7 31 (by decide)).2, (F6 31 (by decide)).2, (F5' 31 (by decide)).2, h4]; rfl
      · by_cases z2 : g = 32
        · subst z2; rw [e7]; show tA σ6 32 x = _; exact (F56 32 (by decide)).2 _
        · exact (F7 g (by simp only [List.mem_cons, List.not_mem_nil, or_false]; omega)).2 _
    have U7 : UT τ σ7 o := by
      obtain ⟨a1, a2, a3, a4, a5⟩ := hU
      refine ⟨fun g h1 h2 x hx => (g7 g x (by omega) (by omega)).trans (a1 g h1 h2 x hx), fun g h1 h2 x hx => (g7 g x (by omega) (by omega)).trans (a2 g h1 h2 x hx), fun x hx => (g7 40 x (by decide) (by decide)).trans (a3 x hx), fun x hx => ⟨(g7 29 x (by decide) (by decide)).trans (a4 x hx).1, ?_⟩, fun x hx => (g7 28 x (by decide) (by decide)).trans (a5 x hx)⟩
      rw [d730, o530 x (by rw [hRR]; exact hx)]
      exact (a4 x hx).2
    have lt7 : np τ < np σ7 := by rw [en7]; exact hlt
    have y32 : tI σ7 32 = o := by rw [e7]; exact (tI_sI _ _ _ _).trans (if_pos rfl)
    have u719 : fI u7 19 p = o := by
      rw [(c10.2.1 19 (by simp)).1, (q2 19 (by simp)).1, eu5, hv5, fI_of _ _ _ _ (by decide)]
      exact fI_at _ _ _ _
    have P7 : PS p u7 σ7 o := ⟨rb10, K7, N7, by rw [(F7 16 (by decide)).1, en7]; exact hP.2.2.2.1, by
      have y1 := hP.2.2.2.2.1
      have y2 := cE.2.2.2.2.1
      have y3 : tI σ 5 = tI σ 5 := rfl
      have y4 : tI σ7 5 = tI σ7 5 := rfl
      rw [en7]; omega, y32, by omega, u719, (Pu7 20 (by decide)).1.trans hP.2.2.2.2.2.2.2.2.1, fun k hk => (h.2.2.2.2.2.2.2.2.2.1 k hk).on' hk U7.ul (h.2.2.2.2.2.2.2.2.2.2 k hk), fun k hk => by
      obtain ⟨q', a1, a2⟩ := h.2.2.2.2.2.2.2.2.2.2 k hk
      exact ⟨q', by rw [U7.2.1 33 (by decide) (by decide) k hk]; exact a1, Nat.lt_trans a2 lt7⟩⟩
    have B7 : BN τ σ7 (Di 0) := by
      refine ⟨by rw [eN7]; exact ⟨hn1.1, fun k hk => by rcases hn1.2 k hk with y | ⟨j, hj, y⟩; exact Or.inl y; exact Or.inr ((k1 j hj k (by have := (hn3 j hj k y).1; omega)).mp y)⟩, fun k hk => (g7 29 _ (by decide) (by decide)).trans (hn2 k hk), fun k hk => by rw [eN7, hB31]; exact hn3 0 hi k hk, fun k hk => ?_, fun k hk hd => ?_⟩
      · rw [(G7 31 (by decide)).1, (F6 31 (by decide)).1, e531, hB31, (b01 f1 hk).1, (b01 hB0 hk).1]
        exact f2 k hk
      · rw [d730, ← hRR, e530 k hk]
        have := d2 k hk hd
        rw [this, hRR]
        rfl
    have Ku : KR p u σ := hP.2.1
    obtain ⟨fin1, fin2, fin3⟩ := hC.finT (b := b) (u' := u7) (σ' := σ7) (r := cz v6 + 2) (Sn' := SnR σ7) rb.1 Ku.1 (by omega) (by omega) (by rw [ta]; decide) Fu7 (fun x hx => by
      rw [List.mem_singleton.mp hx]
      refine ⟨by omega, fun y => ?_, Or.inr (by rw [show tg u (fR u 16 p) = 102 from nA.2.1]; unfold ptg; omega)⟩
      have y1 : tg u (fR u 16 p) = 102 := nA.2.1
      have y2 : tg u (fR u 0 p) = 112 := Ku.1.1
      rw [y, y2] at y1
      cases y1) (Pu7 0 (by decide)).2 F7 (by decide) (by have := Fu6.1; omega) (fun j hj x hx => by
      have hx8 : x < 8 := by have := (hn3 j hj x hx).1; omega
      have hx0 := (k1 j hj x hx8).mp hx
      rw [s7, e530 x hx8, (d1 x hx8 hx0).2]
      exact (k2 j hj x hx8 hx0).symm)
    have w24 : tA σ7 24 (np τ) = -4 := (g7 24 _ (by decide) (by decide)).trans g24
    have w25 : tA σ7 25 (np τ) = -4 := (g7 25 _ (by decide) (by decide)).trans g25
    have no := own_no (τ := σ7) (q := np τ) w24 w25
    have hDi : ∀ j, j < i → Di j = Di 0 := fun j hj => funext fun x => propext ⟨fun y => (k1 j hj x (by have := (hn3 j hj x y).1; omega)).mp y, fun y => (k1 j hj x (n8 x y)).mpr y⟩
    refine OUTb.iR (v := cz v6 + 2) (q := np τ) rb10 ⟨rfl, rfl, P7, lt7, (g7 18 _ (by decide) (by decide)).trans g18, (g7 23 _ (by decide) (by decide)).trans g23, w25, U7, eR7, Di 0, ⟨Or.inl w24, Or.inl w25, Or.inl ⟨Or.inl w24, ?_⟩⟩, B7⟩ (fun Q X hh => hh) (fun I QF cl kk => fa ⟨by rw [y32]; omega, fa (by
      have k' : I (np τ) (tI σ7 32) σ7 := kk
      rw [y32] at k' ⊢
      rw [show tA σ7 33 o = np τ from (g7 33 _ (by decide) (by decide)).trans l33]
      exact k')⟩) (by omega)
    rw [if_pos w24, if_pos w25]
    refine ⟨lt7, by have := Fu6.1; have := hc.1.1; omega, x68, fun x hx => ((no x).mp hx).elim, Or.inr (Or.inr (Or.inr (Or.inr (Or.inr (Or.inr ⟨(g7 17 _ (by decide) (by decide)).trans g17, x5', i, c, hi, hi6, ?_, fin1, fin2 hi, fun j hj => ?_, Di 0, fun j hj => ?_, fun x => ?_, fun x hx => ((no x).mp hx).elim⟩)))))⟩
    · rw [x73]
      exact ⟨x9, x10, by have := Fu6.1; have := hc.1.1; omega⟩
    · rw [show tA σ7 18 (np τ) = s from (g7 18 _ (by decide) (by decide)).trans g18]
      exact (g7 18 _ (by decide) (by decide)).trans (hps j hj)
    · rw [x73, x11 j hj, aa6 j]
      have := fin3 j hj
      rw [hDi j hj] at this
      exact this
    · rw [no x]
      exact ⟨fun y => Or.inr y, fun y => by
        rcases y with y | y
        · exact y.elim
        · exact y⟩
  · have z32 : tI σ6 32 = ((o + 1 : Nat) : Int) := ((F6 32 (by decide)).1.trans (F5 32 (by decide)).1).trans hP.2.2.2.2.2.1
    have eo : w32 ((tI σ6 32) - 1) = (o : Int) := by rw [z32]; exact open1 ho8
    have npl : np τ < 1700 := by
      have y1 := hP.2.2.2.2.1
      have y2 := rb.rg
      have y3 : tI σ 5 = tI σ 5 := rfl
      omega
    by_cases h07 : tI σ6 7 = 0
    · refine DD.iW (S1 := [32]) D6 (sI σ6 32 o) ((FT.refl _ _).ssI (by decide)) (fun I QF k => br1 rfl (br1 h07 (fun v hv => k v (by rw [hv, eo])))) (fun σ7 e7 D7 G7 => ?_)
      have y32 : tI σ7 32 = o := by rw [e7]; exact (tI_sI _ _ _ _).trans (if_pos rfl)
      have g7 : ∀ g x, 10 ≤ g → g ≠ 30 → tA σ7 g x = tA σ g x := fun g x hg hg2 => by
        have y1 : tA σ7 g x = tA σ6 g x := by rw [e7]; rfl
        rw [y1, (F6 g (by simp only [List.mem_cons, List.not_mem_nil, or_false]; omega)).2]
        by_cases z : g = 31
        · subst z; rw [(F5' 31 (by decide)).2, h4]; rfl
        · exact (F5 g (by simp only [List.mem_cons, List.not_mem_nil, or_false]; omega)).2 _
      have y33 : tA σ7 33 o = np τ := (g7 33 _ (by decide) (by decide)).trans l33
      have U7 : UL τ σ7 o := ⟨fun g hg x hx => (g7 g x (by omega) (by omega)).trans (hU.1 g (by omega) (by omega) x hx), fun g h1 h2 x hx => (g7 g x (by omega) (by omega)).trans (hU.2.1 g h1 (by omega) x hx)⟩
      refine DD.iT (F' := fun I _ => I (np τ) (o : Int) σ7) (fun I QF cl k => fa ⟨by rw [y32]; omega, fa (by rw [y32, y33]; exact k)⟩) ?_
      exact dI15 (R := nR τ) D7 (by rw [(G7 27 (by decide)).1, (F6 27 (by decide)).1, (F5 27 (by decide)).1, hN.2.1, hRR]) h.2.2.1.2.2.1 y32 (by omega) (fun k hk => (h.2.2.2.2.2.2.2.2.2.1 k (by omega)).on' (by omega) U7 (h.2.2.2.2.2.2.2.2.2.2 k (by omega))) (fun _ => by omega) (by omega)
    · exact DD.iF (x := y3) (y := y4) D6 h07 (fun I QF cl k => br1 rfl (br0 h07 k))
end ZEith6
