/-! remake: both, whole (2) -/
section ZRemk3
variable {p b e d f F n lo wy A : Nat} {w w' wS : CW} {τ σ ρ : TW} {rs : List (Nat × Nat)} {ps : List Pa} {ro : Nat × Nat → Nat} {ru : Nat → Nat}
theorem sC_isIn {x a b : Int} {Q : Int → CW → Prop} (hQ : Q (ff_in x a b τ) w) : wpC p (d + 1) 1 [al x, al a, al b] w (zqI Q zno) := wC_X0_isIn (Nat.zero_le _) (fa hQ)
theorem ff_in_1 {x a b : Int} (h : a ≤ x ∧ x ≤ b) : ff_in x a b τ = 1 := by unfold ff_in; rw [if_pos (by omega)]
theorem ff_in_0 {x a b : Int} (h : ¬ (a ≤ x ∧ x ≤ b)) : ff_in x a b τ = 0 := by unfold ff_in; rw [if_neg (by omega)]
/-- a function's object in the row of functions -/
theorem TXB.fob (h : TXB p w τ) (hf : f < nF τ) : ((111 ≤ tg w (fR w 5 p) ∧ tg w (fR w 5 p) ≤ 119) ∧ 0 ≤ (f : Int) ∧ (f : Int) < ln w (fR w 5 p)) ∧ aR w (fR w 5 p) (f : Nat) = fnr w p f ∧ tg w (fnr w p f) = 4 ∧ p + 8 < fnr w p f := by
  obtain ⟨-, ⟨⟨b1, b2, b3, b4⟩, b5, b6, b7, b8⟩, c1, -⟩ := h
  obtain ⟨_, _, _, _, _, _, _, _, a1, -⟩ := c1 f hf
  exact ⟨⟨by rw [b1]; decide, by omega, by rw [b2]; omega⟩, rfl, a1.1.1.1, a1.1.1.2.1⟩
/-- trees made at the slot beside: functions stay -/
theorem FUN.slot {slot : Nat} (h : FUN p w τ f) (W : WF p w) (fr : Fr [] w w') (W' : WF p w') (K' : KR p w' σ) (hk : ∀ k, k < nK τ → kd w' p k = kd w p k) (hx : KX τ σ) (ef : fnr w' p f = fnr w p f) (h77 : ∀ i : Nat, i ≠ slot → tA σ 77 i = tA τ 77 i) (h78 : ∀ i : Nat, i ≠ slot → tA σ 78 i = tA τ 78 i) (h79 : ∀ i : Nat, i ≠ slot → tA σ 79 i = tA τ 79 i) (hN : NFr τ σ (300 * slot) 0 121) (hne : f ≠ slot) : FUN p w' σ f := by
  have oF : ob w' (fnr w p f) = ob w (fnr w p f) := by
    obtain ⟨_, _, _, _, _, _, _, _, a1, -⟩ := h
    exact fr.2.2.2.2 _ (W.le (by rw [a1.1.1.1]; decide)) (by simp)
  exact h.fr2 W fr W' (fun x hx => by cases hx) oF K' hk hx ef (h77 f hne) (h78 f hne) (h79 f hne) (fun g i h1 h2 h3 h4 => hN g i h1 h2 (by omega))
/-- a tree at the slot twelve: the rest stays -/
theorem inv_12 {S : List Nat} (h : INV p w τ) (hB : TXB p w τ) (h22 : fI w 22 p = 1 ∧ tI τ 9 = 1) (fr : Fr [] w w') (W' : WF p w') (F : FT S τ σ) (hS : ∀ g, g ∈ S → 61 ≤ g ∧ g ≤ 108) (h77 : ∀ i : Nat, i ≠ 12 → tA σ 77 i = tA τ 77 i) (h78 : ∀ i : Nat, i ≠ 12 → tA σ 78 i = tA τ 78 i) (h79 : ∀ i : Nat, i ≠ 12 → tA σ 79 i = tA τ 79 i) (hN : NFr τ σ 3600 0 121) : INV p w' σ := by
  obtain ⟨⟨W, L, p8⟩, -⟩ := id h
  obtain ⟨⟨K, -⟩, ⟨⟨b1, b2, b3, b4⟩, b5, b6, b7, b8⟩, c1, -⟩ := id hB
  have kx : KX τ σ := KX.ft F (fun g hg => Or.inr (Or.inr (hS g hg).1))
  have oF : ∀ f, f < nF τ → ob w' (fnr w p f) = ob w (fnr w p f) := fun f hf => fr.2.2.2.2 _ (W.le (by rw [(hB.fob hf).2.2.1]; decide)) (by simp)
  have hk0 : tg w (fR w 0 p) = 112 := K.1.1
  have op := fr.2.2.2.2 p W.pz (by simp)
  have o5 := fr.2.2.2.2 (fR w 5 p) (W.le (by rw [b1]; decide)) (by simp)
  have o0 := fr.2.2.2.2 (fR w 0 p) (W.le (by rw [hk0]; decide)) (by simp)
  have K' : KR p w' σ := KR.fr2 W K fr ⟨ob.efR op 0, ob.efI op 1⟩ (fun r hr => by cases hr) F (fun g hg => Or.inr (by have := hS g hg; omega))
  have hk : ∀ u, kd w' p u = kd w p u := fun u => by
    unfold kd
    rw [show fR w' 0 p = fR w 0 p from ob.efR op 0]
    exact ob.eaR o0 u
  have ef : ∀ f, fnr w' p f = fnr w p f := fun f => by
    unfold fnr
    rw [ob.efR op 5, ob.eaR o5]
  exact inv_tx h hB h22 fr W' (fun x hx => by cases hx) F hS (fun f hf => ob.efR (oF f hf) 47) (fun f hf => (c1 f hf).slot W fr W' K' (fun k _ => hk k) kx (ef f) h77 h78 h79 hN (by omega))
theorem api_remake {x1 x2 lim : Int} (h : INV p w τ) (hm : lim ≤ mu w ∧ lim ≤ 5 * mz w) (hlim : zm w + 34000 ≤ lim) {K : Int → Int → CW → TW → Prop} (h1 : ∀ v w' τ', INV p w' τ' → STP w τ w' τ' 34000 → K v v w' τ') : wpC p (d + 251) 47 [ar p, ai x1, ai x2] w (zqI (fun v w' => wpT (e + 12) 66 [ai x1, ai x2] τ (zqI (fun v' τ' => K v v' w' τ') zno)) zno) := by
  obtain ⟨⟨W, L, p8⟩, -⟩ := id h
  have no : (ff_isFunction x1 τ = 0 ∨ ff_in x2 0 3 τ = 0) → pC_X0_remake_20 p (wpC p (d + 250)) (fun v w' => zqI (fun v w' => wpT (e + 12) 66 [ai x1, ai x2] τ (zqI (fun v' τ' => K v v' w' τ') zno)) zno (.inl (some (ai v))) w') w := fun z => by
    refine bC_X0_remake_20 ?_
    refine wT_remake (by omega) (bT_remake_0 (br1 z (bT_remake_20 ?_)))
    exact h1 _ _ _ h ⟨⟨rfl, rfl⟩, by omega⟩
  refine wC_X0_remake (Nat.zero_le _) (bC_X0_remake_0 (sC_isFn (d := d + 248) h (fun f hf hfn hB h22 e1 => br0 (by decide) ?_) (fun e0 => br1 rfl (no (Or.inl e0)))))
  refine sC_isIn (τ := τ) (d := d + 249) ?_
  by_cases z2 : 0 ≤ x2 ∧ x2 ≤ 3
  · rw [ff_in_1 z2]
    obtain ⟨wy, hwy⟩ : ∃ wy : Nat, x2 = wy := ⟨x2.toNat, by omega⟩
    have hwy3 : wy ≤ 3 := by omega
    obtain ⟨⟨KK, -⟩, ⟨⟨b1, b2, b3, b4⟩, b5, b6, b7, b8⟩, c1, -⟩ := id hB
    obtain ⟨q1, q2, q3, q4⟩ := hB.fob hfn
    obtain ⟨A, lo, ps, ro, ru, lt, τ0, wy0, hL, -⟩ := c1 f hfn
    have hfps := hL.fps b8
    have hf12 : f < 12 := by omega
    subst hf
    subst hwy
    obtain ⟨F, eF⟩ : ∃ F, F = fnr w p f := ⟨_, rfl⟩
    have q2' : aR w (fR w 5 p) (f : Int) = F := by rw [eF]; exact q2
    rw [← eF] at hL q3 q4
    have h10 : 0 ≤ tI τ 10 := KK.2.2.1
    -- the reference
    have topT : ∀ Q : Int → TW → Prop, ((∀ σ', MKY2 τ τ σ' (rowsK τ f 0 (rk τ f)) 12 wy → pT_remake_49 (wpT (e + 11)) Q f wy (300 * ((f : Int) - 12)) 0 σ') ∧ (∀ σ', MKN2 τ τ σ' (rowsK τ f 0 (rk τ f)) 12 wy → Q (-3) σ')) → wpT (e + 12) 66 [ai (f : Int), ai (wy : Int)] τ (zqI Q zno) := fun Q k => by
      refine wT_remake (by omega) (bT_remake_0 (br0 (fun y => ?_) ?_))
      · rcases y with y | y
        · rw [e1] at y; cases y
        · rw [ff_in_1 z2] at y; cases y
      · refine sT_makes2 (d := e + 5) (slot := 12) (bare := 0) (PE.refl τ) (KX.refl τ) hfps.1 (hfps.2 0).1 (by decide) hwy3 h10 (hfps.2 0).2 ⟨fun σ' hy => br0 (by decide) (fa ?_), fun σ' hn => br1 rfl (k.2 σ' hn)⟩
        rw [show w32 (300 * w32 ((f : Int) - 12)) = 300 * ((f : Int) - 12) by rw [w32_s (a := (f : Int) - 12) (by omega) (by omega), w32_s (by omega) (by omega)]]
        exact k.1 σ' hy
    have hSM : ∀ g, g ∈ SM1 → 61 ≤ g ∧ g ≤ 108 := by decide
    refine br0 (by decide) ⟨q1, fa ?_⟩
    rw [q2']
    refine ⟨q3, ?_⟩
    refine sC_remake (d := d) hL W hwy3 hm hlim (fun w1 hle fr1 W1 pf1 eI eR hC z1 => ?_) (fun x w1 hgt fr1 W1 tx z1 => ⟨tx, bC_X0_remake_42 ?_⟩)
    · have tF1 : tg w1 F = 4 := by rw [(fr1.2.2.2.1 F (W.le (by rw [q3]; decide))).1]; exact q3
      refine ⟨by rw [tF1]; decide, nd_tag hC.2.1.2.1, ?_⟩
      refine sC_many (d := d + 129) 121 _ _ _ hC.2 (by decide) (by omega) _ ?_
      refine topT _ ⟨fun σ1 hy => ?_, fun σ1 hn => by have := hn.2.2; omega⟩
      obtain ⟨⟨FM, m78, m79, mN⟩, m77, mT, m85, m88, -⟩ := hy
      have tpos : 1 ≤ tsz τ (rowsK τ f 0 (rk τ f)) wy 121 [] := tsz_pos
      have e77 : tA σ1 77 12 = (tsz τ (rowsK τ f 0 (rk τ f)) wy 121 [] : Nat) := by have := m77 12; rw [if_pos rfl] at this; exact this
      refine sT_copy (d := e + 11) hf12 (by omega) e77 (fun σ Fc Mc Nc => bT_remake_261 ⟨by omega, fa ⟨by omega, fa ⟨by omega, fa ⟨by omega, ?_⟩⟩⟩⟩)
      have e77c : tA σ 77 12 = (tsz τ (rowsK τ f 0 (rk τ f)) wy 121 [] : Nat) := by rw [(Fc 77 (by decide)).2]; exact e77
      obtain ⟨σ3, h3⟩ : ∃ σ3, σ3 = sA (sA (sA σ 77 f (tA σ 77 12)) 78 f wy) 79 f (tI (sA (sA σ 77 f (tA σ 77 12)) 78 f wy) 10) := ⟨_, rfl⟩
      rw [← h3]
      have Fs : FT [77, 78, 79] σ σ3 := by rw [h3]; exact (((FT.refl _ σ).ssA (by decide)).ssA (by decide)).ssA (by decide)
      have FS : FT SM1 τ σ3 := (FM.trans (Fc.mono (by decide))).trans (Fs.mono (by decide))
      have v10 : tI (sA (sA σ 77 f (tA σ 77 12)) 78 f wy) 10 = tI τ 10 := by
        show tI σ 10 = tI τ 10
        rw [(Fc 10 (by decide)).1, (FM 10 (by decide)).1]
      have v77 : ∀ i : Int, tA σ3 77 i = if i = f then ((tsz τ (rowsK τ f 0 (rk τ f)) wy 121 [] : Nat) : Int) else tA σ 77 i := fun i => by
        rw [h3, tA_sA, if_neg (fun y => by have := y.1; omega), tA_sA, if_neg (fun y => by have := y.1; omega), tA_sA]
        by_cases q : i = f
        · rw [if_pos ⟨rfl, q⟩, if_pos q, e77c]
        · rw [if_neg (fun y => q y.2), if_neg q]
      have v78 : ∀ i : Int, tA σ3 78 i = if i = f then (wy : Int) else tA σ 78 i := fun i => by
        rw [h3, tA_sA, if_neg (fun y => by have := y.1; omega), tA_sA]
        by_cases q : i = f
        · rw [if_pos ⟨rfl, q⟩, if_pos q]
        · rw [if_neg (fun y => q y.2), if_neg q, tA_sA, if_neg (fun y => by have := y.1; omega)]
      have v79 : ∀ i : Int, tA σ3 79 i = if i = f then tI τ 10 else tA σ 79 i := fun i => by
        rw [h3, tA_sA, v10]
        by_cases q : i = f
        · rw [if_pos ⟨rfl, q⟩, if_pos q]
        · rw [if_neg (fun y => q y.2), if_neg q, tA_sA, if_neg (fun y => by have := y.1; omega), tA_sA, if_neg (fun y => by have := y.1; omega)]
      have nd3 : ∀ g i, 80 ≤ g → tA σ3 g i = tA σ g i := fun g i hg => (Fs g (fun y => by simp at y; omega)).2 i
      rw [show tA σ3 77 (f : Int) = (tsz τ (rowsK τ f 0 (rk τ f)) wy 121 [] : Nat) by rw [v77, if_pos rfl]]
      -- all stays but this function's tree
      have kx : KX τ σ3 := KX.ft FS (fun g hg => Or.inr (Or.inr (hSM g hg).1))
      have hne : ∀ g, g < nF τ → g ≠ f → fnr w p g ≠ F := fun g hg hgf y => hgf (hB.inj hg hfn (by rw [y, eF]))
      have hT : ∀ x, x ∈ [F] → tg w x = 4 ∧ p + 8 < x := fun x hx => by rw [List.mem_singleton.mp hx]; exact ⟨q3, q4⟩
      have hkA : tg w (fR w 0 p) = 112 := KK.1.1
      have o := fun (r : Nat) (h0 : tg w r ≠ 0) (h1 : r ≠ F) => fr1.2.2.2.2 r (W.le h0) (fun y => h1 (List.mem_singleton.mp y))
      have o0 := o (fR w 0 p) (by rw [hkA]; decide) (fun y => by rw [y, q3] at hkA; cases hkA)
      have o5 := o (fR w 5 p) (by rw [b1]; decide) (fun y => by rw [y, q3] at b1; cases b1)
      have K1 : KR p w1 σ3 := KR.fr2 W KK fr1 ⟨(pf1 0 (by simp)).2, (pf1 1 (by simp)).1⟩ (fun r hr => Or.inr (Or.inr ⟨(hT r hr).2, by rw [(hT r hr).1]; decide, fun q => by rw [(hT r hr).1] at q; cases q⟩)) FS (fun g hg => Or.inr (by have := hSM g hg; omega))
      have hk : ∀ u, kd w1 p u = kd w p u := fun u => by
        unfold kd
        rw [show fR w1 0 p = fR w 0 p from (pf1 0 (by simp)).2]
        exact ob.eaR o0 u
      have ef : ∀ g, fnr w1 p g = fnr w p g := fun g => by
        unfold fnr
        rw [(pf1 5 (by simp)).2]
        exact ob.eaR o5 g
      have e47 : ∀ g, g < nF τ → fR w1 47 (fnr w p g) = fR w 47 (fnr w p g) := fun g hg => by
        by_cases q : g = f
        · rw [q, ← eF]; exact eR 47 (by decide)
        · exact ob.efR (o (fnr w p g) (by rw [(hB.fob hg).2.2.1]; decide) (hne g hg q)) 47
      refine h1 _ _ _ (inv_tx h hB h22 fr1 W1 hT FS hSM e47 (fun g hg => ?_)) ⟨⟨fr1.emu, fr1.emz⟩, ?_⟩
      · by_cases q : g = f
        · subst q
          obtain ⟨hL1, -⟩ := hL.fr W fr1 W1 (fun x hx => Or.inr (Or.inr (Or.inr (Or.inl (List.mem_singleton.mp hx))))) eI eR kx K1 (fun k _ => hk k)
          refine ⟨A, lo, ps, ro, ru, cz w, τ, wy, ?_, ⟨?_, p8⟩, ?_, hwy3, kx, ?_⟩
          · rw [ef, x_rk kx, ← eF]; exact hL1
          · rw [ef, x_rk kx, ← eF]; exact hC
          · rw [x_rk kx]
            obtain ⟨m0a, m0b, m0c⟩ := Mc 0 (by omega)
            refine ⟨⟨by rw [v77, if_pos rfl], by rw [v78, if_pos rfl], ?_⟩, ?_, ⟨?_, ?_⟩, hle⟩
            · rw [v79, if_pos rfl]; unfold nK; omega
            · have t1 := TT.mv (τ := τ) Mc (by omega) 121 [] 0 (by omega) mT
              exact TT.in 121 [] 0 (fun g h1 h2 => nd3 g _ h1) (fun g i h1 h2 _ _ => nd3 g _ h1) t1
            · rw [nd3 85 _ (by decide)]
              have := m0c 85 (by omega)
              rw [show tA σ1 85 ((3600 + 0 : Nat) : Int) = -4 from m85, if_pos rfl] at this
              exact this
            · rw [nd3 88 _ (by decide)]
              have := m0c 88 (by omega)
              rw [show tA σ1 88 ((3600 + 0 : Nat) : Int) = -4 from m88, if_pos rfl] at this
              exact this
          · rw [x_rk kx]; exact hfps.2 0
        · have oF := o (fnr w p g) (by rw [(hB.fob hg).2.2.1]; decide) (hne g hg q)
          have hg12 : g < 12 := by omega
          refine (c1 g hg).fr2 W fr1 W1 (fun x hx => Or.inr (Or.inr (Or.inr (hT x hx).1))) oF K1 (fun k _ => hk k) kx (ef g) ?_ ?_ ?_ (fun k i h1 h2 h3 h4 => ?_)
          · rw [v77, if_neg (by omega), (Fc 77 (by decide)).2, m77, if_neg (by omega)]
          · rw [v78, if_neg (by omega), (Fc 78 (by decide)).2, m78, if_neg (by omega)]
          · rw [v79, if_neg (by omega), (Fc 79 (by decide)).2, m79, if_neg (by omega)]
          · rw [nd3 k _ h1, Nc k i h1 h2 (by omega), mN k i h1 h2 (by omega)]
      · rw [(FS 1 (by decide)).1]; omega
    · refine topT _ ⟨fun σ1 hy => by have := hy.2.2.2.2.2; omega, fun σ1 hn => ?_⟩
      obtain ⟨⟨FM, m78, m79, mN⟩, m77, -⟩ := hn
      refine h1 _ _ _ (inv_12 h hB h22 fr1 W1 FM hSM (fun i _ => m77 i) (fun i hi => by rw [m78, if_neg hi]) (fun i hi => by rw [m79, if_neg hi]) mN) ⟨⟨fr1.emu, fr1.emz⟩, ?_⟩
      rw [(FM 1 (by decide)).1]; omega
  · rw [ff_in_0 z2]
    exact br1 rfl (no (Or.inr (ff_in_0 z2)))
end ZRemk3
