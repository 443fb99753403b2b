/-! read: both, whole -/
section ZRead
variable {p b e d f F n : Nat} {w w' : CW} {τ σ : TW}
/-- a call's cost -/
def STP (w : CW) (τ : TW) (w' : CW) (τ' : TW) (a : Int) : Prop := (mu w' = mu w ∧ mz w' = mz w) ∧ zm w' + 10000 * tI τ' 1 ≤ zm w + 10000 * tI τ 1 + a
theorem VF2.mz' (V : VF2 p w w') : mu w' = mu w ∧ mz w' = mz w := ⟨congrArg (fun x => x.2.2.1) V.1.2.2, congrArg (fun x => x.2.1) V.1.2.2⟩
/-- values and what was told stay, a text being read -/
theorem inv_vf (h : INV p w τ) (hN : NTX p w τ) (V : VF2 p w w') (P : ∀ g, g = 2 ∨ g = 3 ∨ g = 4 ∨ g = 7 ∨ g = 23 ∨ g = 24 ∨ g = 25 ∨ g = 26 → fI w' g p = fI w g p ∧ fR w' g p = fR w g p) (hτ : ∀ g, 109 ≤ g → tI σ g = tI τ g ∧ tA σ g = tA τ g) : (VAL p w' σ ∧ VT σ) ∧ RES p w' σ ∧ Lit p w' := by
  obtain ⟨⟨W, L, p8⟩, ⟨hT1, hT2, hT3, hT4⟩, -, hV, -, hR⟩ := h
  obtain ⟨K, n0⟩ := hN.kr
  obtain ⟨-, ⟨⟨a1, a2, a3, a4, a5⟩, -⟩, ⟨⟨f1, f2, f3, f4⟩, -⟩, ⟨⟨k1, k2, k3, k4⟩, k5, k6, k7, k8⟩, -⟩ := hN
  have a1 : tg w (fR w 0 p) = 112 := a1
  have k1 : tg w (fR w 15 p) = 103 := k1
  have k5 : tg w (fR w 16 p) = 102 := k5
  have k6 : ln w (fR w 16 p) = 8 := k6
  have hA := hV.1.ar
  have a4 : fR w 0 p ≤ p + 8 := a4
  have k4 : fR w 15 p ≤ p + 8 := k4
  have k8 : fR w 16 p ≤ p + 8 := k8
  have o : ∀ r, tg w r ≠ 0 → (tg w r < 3 ∨ 5 < tg w r) → tg w r ≠ 115 → r ≠ p → r ≠ fR w 0 p → r ≠ fR w 5 p → r ≠ fR w 15 p → r ≠ fR w 16 p → ob w' r = ob w r := fun r h0 h1 h2 h3 h4 h5 h6 h7 => V.2.2 r (W.le h0) h3 h1 h2 h4 h5 h6 h7
  have o3 := o (fR w 3 p) (by rw [hA.1]; decide) (by rw [hA.1]; decide) (by rw [hA.1]; decide) (by omega) (fun q => by rw [q, a1] at hA; omega) (fun q => by rw [q, f1] at hA; omega) (fun q => by rw [q, k1] at hA; omega) (fun q => by rw [q, k5] at hA; omega)
  obtain ⟨r1, r2, r3⟩ := VAL.keep (w' := w') (σ := σ) hV W (fun r _ h1 h2 => o r (by omega) (by omega) (by omega) (by omega) (by omega) (by omega) (by omega) (by omega)) (fun r hr => V.2.1 r hr) ⟨(P 3 (by decide)).2, (P 4 (by decide)).1⟩ (fun i => ob.eaR o3 i) (fun g h1 h2 => ⟨(hτ g h1).1, fun i => congrFun (hτ g h1).2 i⟩) ⟨by omega, fun k hk => by omega⟩
  obtain ⟨⟨b1, b2, b3, b4⟩, ⟨c1, c2, c3, c4⟩, -⟩ := id hR
  have o23 := o (fR w 23 p) (by rw [b1]; decide) (by rw [b1]; decide) (by rw [b1]; decide) (by omega) (fun q => by rw [q, a1] at b1; cases b1) (fun q => by rw [q, f1] at b1; cases b1) (fun q => by rw [q, k1] at b1; cases b1) (fun q => by rw [q, k6] at b2; cases b2)
  have o24 := o (fR w 24 p) (by rw [c1]; decide) (by rw [c1]; decide) (by rw [c1]; decide) (by omega) (fun q => by rw [q, a1] at c1; cases c1) (fun q => by rw [q, f1] at c1; cases c1) (fun q => by rw [q, k1] at c1; cases c1) (fun q => by rw [q, k6] at c2; cases c2)
  refine ⟨r1, hR.fr (fun r hr => V.2.1 r (W.le hr)) (fun g hg => (P g (by omega)).2) (fun i => ob.eaI o23 i) (fun i => ob.eaI o24 i) (fun q1 q2 i => ?_) ⟨Nat.le_of_eq r2, fun v _ => r3 v⟩ (fun g hg => ⟨(hτ g (by omega)).1, fun i => congrFun (hτ g (by omega)).2 i⟩), L.vf2 W V a3 f3 k3 k7⟩
  have := o (fR w 26 p) (by rw [q1]; decide) (by rw [q1]; decide) (by rw [q1]; decide) (by omega) (by omega) (by omega) (by omega) (by omega)
  exact ob.eaR this i
theorem api_read {lim : Int} (h : INV p w τ) (h800 : tI τ 1 ≤ 700) (hm : lim ≤ mu w ∧ lim ≤ 5 * mz w) (hlim : zm w + 6500 * tI τ 1 + 20000 ≤ lim) {K : Int → Int → CW → TW → Prop} (h1 : ∀ v w' τ', INV p w' τ' → STP w τ w' τ' 2300 → K v v w' τ') : wpC p (d + 251) 2 [ar p] w (zqI (fun v w' => wpT (e + 12) 2 [] τ (zqI (fun v' τ' => K v v' w' τ') zno)) zno) := by
  obtain ⟨⟨W, L, p8⟩, hTP, ⟨hf1, hf2⟩, hV, hT, hR⟩ := id h
  have t0 : 0 ≤ tI τ 1 := hTP.1.1
  rcases hT with hN | ⟨⟨h22, h9⟩, hB⟩
  · have nt := hN.nt h
    have t7 : tg w (fR w 7 p) = 101 := hTP.2.1.1
    have K11 : tI τ 11 = 0 := hN.2.2.2.2
    -- what both end in, a text being refused
    have bad : ∀ w' τ', RFX p w τ w' τ' → INV p w' τ' ∧ STP w τ w' τ' 2300 := fun w' τ' hx => by
      obtain ⟨⟨V, P⟩, ⟨n1, n2⟩, z1, ⟨q10, q41, q1, q11⟩, q109⟩ := hx
      have PP : ∀ g, g = 2 ∨ g = 3 ∨ g = 4 ∨ g = 7 ∨ g = 23 ∨ g = 24 ∨ g = 25 ∨ g = 26 → fI w' g p = fI w g p ∧ fR w' g p = fR w g p := fun g hg => P g (by
        rcases hg with q | q | q | q | q | q | q | q <;> rw [q] <;> decide)
      obtain ⟨g1, g2, g3⟩ := inv_vf h hN V PP q109
      obtain ⟨⟨W', L', T', R'⟩, f9, ⟨ka, k1⟩, ⟨fa', k6⟩, na⟩ := id n1
      refine ⟨⟨⟨W', L', Nat.le_trans p8 V.1.1⟩, ⟨T', R', by rw [(PP 7 (by decide)).2]; exact hTP.2.2⟩, ⟨n2, by rw [(PP 2 (by decide)).1, q11, hf2, K11]⟩, g1, Or.inl ⟨f9, ⟨ka, k1, q10⟩, ⟨fa', k6, q41⟩, na, q11⟩, g2⟩, V.mz', by rw [q1]; omega⟩
    rcases rd_settled (d := d + 209) (e := e) nt ⟨by omega, by omega⟩ with ⟨w1, τ1, ⟨V1, P1⟩, ⟨S1, np1, z1, F1, t1, t7', t11, e21⟩, runT, runC⟩ | hbad
    · have em : mu w1 = mu w ∧ mz w1 = mz w := V1.two.mz'
      obtain ⟨⟨W1, L1⟩, K1, NA1, N1, -, J1⟩ := id S1
      have hnp : np τ1 ≤ 800 := by omega
      have hP : ∀ f, f < nF τ1 → FPS τ1 f (rk τ1 f) := fun f hf => S1.fps hnp hf
      have n41 := N1.2.2.1
      have n12 := N1.2.2.2.1
      have F0 : ∀ f, f < nF τ1 → tg w1 (fnr w1 p f) = 4 ∧ tg w1 (fnr w1 p f + 3) = 115 ∧ p + 8 < fnr w1 p f := fun f hf => by
        obtain ⟨_, _, m, k, ⟨⟨y1, y2, y3, y4, y5⟩, -, -, ⟨d1, d2, d3⟩⟩, -⟩ := N1.fl hf
        exact ⟨y1, d2, y2⟩
      have tT : ∀ T : List Nat, (∀ x, x ∈ T → ∃ f, f < nF τ1 ∧ (x = fnr w1 p f ∨ x = fnr w1 p f + 3)) → ∀ x, x ∈ T → x = p ∨ (3 ≤ tg w1 x ∧ tg w1 x ≤ 5) ∨ tg w1 x = 115 := fun T hT x hx => by
        obtain ⟨f, f1, f2 | f2⟩ := hT x hx
        · right; left; rw [f2, (F0 f f1).1]; decide
        · right; right; rw [f2]; exact (F0 f f1).2.1
      refine runC _ (rd_rows (d := d) (lim := lim) S1 hnp (by rw [em.1, em.2]; exact hm) (by omega) (fun w2 S hC Sn => ?_) (fun w2 k hk hlt hgt ⟨T, cT, c1⟩ c2 c3 z2 => ?_))
      · refine runT _ (rt_rows hP t7' n41 n12 K1.2.2.1 (fun hz σ Fσ s1 hT => ?_) (fun ⟨f, f1, f2⟩ => ?_))
        · obtain ⟨⟨T, cT, c1⟩, ⟨c2, c3, c4⟩, c5, c6, c7⟩ := id hC
          have B := TXB.mk S1 hnp hC hP Fσ (by decide) hT
          obtain ⟨w3, e3⟩ : ∃ w3, w3 = pI (pI w2 22 p 1) 8 p 0 := ⟨_, rfl⟩
          obtain ⟨σ3, es⟩ : ∃ σ3, σ3 = sI σ 9 1 := ⟨_, rfl⟩
          rw [← e3, ← es]
          have f3 : Fr [p] w2 w3 := by rw [e3]; exact ((Fr.refl _ _).spI (Or.inl (by simp))).spI (Or.inl (by simp))
          have W3 : WF p w3 := by rw [e3]; exact (c3.spI _ _ _ (Or.inl (by decide))).spI _ _ _ (Or.inl (by decide))
          have Fs3 : FT [9] σ σ3 := by rw [es]; exact (FT.refl _ _).ssI (by decide)
          have pf3 : ∀ g, g ≠ 22 → g ≠ 8 → fI w3 g p = fI w2 g p := fun g h1 h2 => by rw [e3, fI_pI, if_neg (by omega), fI_pI, if_neg (by omega)]
          have pr3 : ∀ g, fR w3 g p = fR w2 g p := fun g => by rw [e3]; rfl
          have o3 : ∀ r, r ≠ p → r ≤ cz w2 → ob w3 r = ob w2 r := fun r h1 h2 => f3.2.2.2.2 r h2 (fun y => h1 (List.mem_singleton.mp y))
          have p8' : p + 8 ≤ cz w2 := B.1.1.ar.2.2.2
          have hx3 : KX σ σ3 := KX.ft Fs3 (by decide)
          have KB : KR p w3 σ3 := KR.fr (T := []) (S := [22, 8]) (S' := [9]) c3 B.1.1 f3 (fun g hg => ⟨pf3 g (by simp at hg; omega) (by simp at hg; omega), pr3 g⟩) (fun r hr => by cases hr) (by decide) (by decide) Fs3 (by decide)
          have k0 := B.1.1.ar
          have l0 := c3.le (r := fR w2 0 p) (by rw [k0.1]; decide)
          have ek : ∀ k, kd w3 p k = kd w2 p k := fun k => by
            show aR w3 (fR w3 0 p) k = aR w2 (fR w2 0 p) k
            rw [pr3, ob.eaR (o3 _ (by omega) l0)]
          have l5 := c3.le (r := fR w2 5 p) (by rw [B.2.1.1.1]; decide)
          have B3 : TXB p w3 σ3 := B.fr c3 f3 W3 (fun x hx => by rw [List.mem_singleton.mp hx]; left; omega) KB (fun k _ => ek k) hx3 (fun g _ => pr3 g) (fun i => ob.eaR (o3 _ (by have := B.2.1.1.2.2.1; omega) l5) i) (pf3 6 (by decide) (by decide)) (fun f hf => ⟨(Fs3 77 (by decide)).2 _, (Fs3 78 (by decide)).2 _, (Fs3 79 (by decide)).2 _, fun g i h1 h2 _ _ => (Fs3 g (by simp; omega)).2 _⟩)
          have V3 : VF2 p w w3 := (V1.two.fr c1 (tT T cT)).fr f3 (fun x hx => Or.inl (List.mem_singleton.mp hx))
          have PP : ∀ g, g = 2 ∨ g = 3 ∨ g = 4 ∨ g = 7 ∨ g = 23 ∨ g = 24 ∨ g = 25 ∨ g = 26 → fI w3 g p = fI w g p ∧ fR w3 g p = fR w g p := fun g hg => by
            have q1 := P1 g (by rcases hg with q | q | q | q | q | q | q | q <;> rw [q] <;> decide)
            have q2 := c2 g (by simp)
            exact ⟨(pf3 g (by omega) (by omega)).trans (q2.1.trans q1.1), (pr3 g).trans (q2.2.trans q1.2)⟩
          have q109 : ∀ g, 109 ≤ g → tI σ3 g = tI τ g ∧ tA σ3 g = tA τ g := fun g hg => by
            have FF : FT (9 :: (1 :: SM1) ++ SRT3) τ σ3 := ((F1.mono (fun x hx => List.mem_append_right _ hx)).trans (Fσ.mono (fun x hx => List.mem_append_left _ (List.mem_cons_of_mem _ hx)))).trans (Fs3.mono (fun x hx => by simp at hx; rw [hx]; simp))
            have ng : g ∉ 9 :: (1 :: SM1) ++ SRT3 := fun y => by
              have : ∀ g, g ∈ 9 :: (1 :: SM1) ++ SRT3 → g < 109 := by decide
              have := this g y
              omega
            exact ⟨(FF g ng).1, funext (FF g ng).2⟩
          obtain ⟨g1, g2, g3⟩ := inv_vf h hN V3 PP q109
          have s7 : tI σ3 7 = 0 := by rw [(Fs3 7 (by decide)).1, (Fσ 7 (by decide)).1]; exact t7'
          have s11 : tI σ3 11 = 0 := by rw [(Fs3 11 (by decide)).1, (Fσ 11 (by decide)).1]; exact t11
          have s1' : tI σ3 1 = 0 := by rw [(Fs3 1 (by decide)).1]; exact s1
          have c21 : fI w3 21 p = 0 := by rw [pf3 21 (by decide) (by decide), (c2 21 (by simp)).1]; exact e21
          have c8 : fI w3 8 p = 0 := by rw [e3, fI_pI, if_pos ⟨rfl, rfl⟩]
          have zz : zm w3 = zm w2 := by rw [e3]; rfl
          refine h1 _ w3 σ3 ⟨⟨W3, g3, Nat.le_trans p8' f3.1⟩, hTP.z (V3.2.1 _ (W.le (by rw [t7]; decide))) (PP 7 (by decide)).2 c8 s1', ⟨by rw [c21, s7], by rw [(PP 2 (by decide)).1, s11, hf2, K11]⟩, g1, Or.inr ⟨⟨by rw [e3, fI_pI, if_neg (by omega), fI_pI, if_pos ⟨rfl, rfl⟩], by rw [es, tI_sI, if_pos rfl]⟩, B3⟩, g2⟩ ⟨V3.mz', by rw [s1']; omega⟩
        · obtain ⟨_, _, _, _, _, _, -, -, -, -, q⟩ := hC.2.2.1 f f1
          omega
      · refine runT _ (rt_rows hP t7' n41 n12 K1.2.2.1 (fun hz => ?_) (fun _ σ Fσ s1 => ?_))
        · have := hz k hk
          omega
        · have V2 : VF2 p w w2 := V1.two.fr c1 (tT T cT)
          have hx := nt_full (τ := τ) (S := (1 :: SM1) ++ SRT3) nt V2 (P1.trans (c2.mono (fun q hq => by cases hq))) c3 (by rw [(c2 21 (by simp)).1, e21, (Fσ 7 (by decide)).1]; exact t7'.symm) s1 (by rw [(Fσ 11 (by decide)).1]; exact t11) (by omega) ((F1.mono (fun x hx => List.mem_append_right _ hx)).trans (Fσ.mono (fun x hx => List.mem_append_left _ hx))) (by decide)
          obtain ⟨i1, i2⟩ := bad _ _ hx
          exact h1 _ _ _ i1 i2
    · refine hbad _ (fun v w' τ' hr => ?_)
      obtain ⟨i1, i2⟩ := bad _ _ (hr.x t0)
      exact h1 _ _ _ i1 i2
  · refine wC_X0_read (Nat.zero_le _) (bC_X0_read_0 (br0 (by rw [h22]; decide) ?_))
    refine wT_read (by omega) (bT_read_0 (br0 (by rw [h9]; decide) ?_))
    exact h1 _ _ _ h ⟨⟨rfl, rfl⟩, by omega⟩
end ZRead
