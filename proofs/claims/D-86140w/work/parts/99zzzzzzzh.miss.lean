/-! missing, unreached: both -/
section ZMiss
variable {p b e d f F n lo wy base lt A : Nat} {w w' wS : CW} {τ σ ρ τ0 : TW} {rs : List (Nat × Nat)} {ps : List Pa} {ro : Nat × Nat → Nat} {ru : Nat → Nat}
theorem NDR.h80 {P : Sp} {x : Nat} (k : NDR τ σ rs wy P x) : tA σ 80 x = 0 ↔ ndE τ rs P = none := by
  obtain ⟨-, k⟩ := k
  cases hn : ndE τ rs P with
  | none => rw [hn] at k; exact ⟨fun _ => rfl, fun _ => k.1⟩
  | some y =>
    rw [hn] at k
    simp only at k
    refine ⟨fun q => ?_, fun q => by cases q⟩
    exfalso
    cases hc : chs τ wy P (rws τ rs P) (ask τ P y) with
    | none =>
      rw [hc] at k
      simp only at k
      have := k.1
      rw [q] at this
      split at this <;> omega
    | some e =>
      rw [hc] at k
      simp only at k
      have := k.1
      rw [q] at this
      unfold knd at this
      split at this
      · split at this
        · omega
        · split at this <;> omega
      · omega
theorem NDR.h81 {P : Sp} {x v : Nat} (k : NDR τ σ rs wy P x) : tA σ 81 x = (v : Nat) ↔ ∃ y, ndE τ rs P = some y ∧ chs τ wy P (rws τ rs P) (ask τ P y) = none ∧ y.1 = v := by
  obtain ⟨-, k⟩ := k
  cases hn : ndE τ rs P with
  | none =>
    rw [hn] at k
    simp only at k
    exact ⟨fun q => by omega, fun ⟨y, q, _⟩ => by cases q⟩
  | some y =>
    rw [hn] at k
    simp only at k
    cases hc : chs τ wy P (rws τ rs P) (ask τ P y) with
    | none =>
      rw [hc] at k
      simp only at k
      refine ⟨fun q => ⟨y, rfl, hc, by omega⟩, fun ⟨y', q1, _, q3⟩ => ?_⟩
      rw [← Option.some.inj q1] at q3
      omega
    | some e =>
      rw [hc] at k
      simp only at k
      refine ⟨fun q => by omega, fun ⟨y', q1, q2, _⟩ => ?_⟩
      rw [← Option.some.inj q1, hc] at q2
      cases q2
theorem nd_all {N : Nat} {base : Nat} (hT : TT τ σ rs wy base 121 [] 0) (hN : N = tsz τ rs wy 121 []) (k : Nat) (hk : k < N) : ∃ y, (nds τ rs wy 121 [])[k]? = some y ∧ NDR τ σ rs wy y.2 (base + k) := by
  have hl : k < (nds τ rs wy 121 []).length := by rw [nds_len]; omega
  obtain ⟨y, hy⟩ : ∃ y, (nds τ rs wy 121 [])[k]? = some y := ⟨_, List.getElem?_eq_getElem hl⟩
  obtain ⟨m', g1, g2⟩ := TT.nd 121 [] 0 hT k y hy
  rw [Nat.zero_add] at g2
  exact ⟨y, hy, g2.2.1⟩
/-- what a rule's rows say -/
theorem LAID.hro {bare : Int} (hL : LAID p w τ f F n A lo ps ro ru) (W : WF p w) (fr : Fr [] w w') : (∀ y, y ∈ rowsK τ f bare n → tg w' (ro y) = 14 ∧ fR w' 80 (ro y) = ru y.1 ∧ ru y.1 ≠ 0) ∧ ∀ y i, y ∈ rowsK τ f bare n → i < n → (ru y.1 = ru (16 * f + i) ↔ y.1 = 16 * f + i) := by
  have hrus := fun i hi => hL.rus (i := i) hi
  obtain ⟨-, -, -, -, -, a12, -⟩ := id hL
  obtain ⟨-, -, -, hRW, -⟩ := a12
  refine ⟨fun y hy => ?_, fun y i hy hi => ⟨fun q => ?_, fun q => by rw [q]⟩⟩
  · have hy0 : y ∈ rowsK τ f 0 n := by rw [rowsK_fil] at hy; exact (mem_fil.mp hy).1
    have r := hRW y hy0
    obtain ⟨j, j1, j2, -⟩ := (rowsK_mem _).mp hy
    obtain ⟨_, _, rr⟩ := hrus j j1
    have r5 := rr.ob56
    rw [← j2] at r5
    have o := fr.2.2.2.2 (ro y) (W.le (by rw [r.1.1]; decide)) (by simp)
    exact ⟨by rw [ob.etg o]; exact r.1.1, by rw [ob.efR o]; exact r.1.2.2.2, by omega⟩
  · obtain ⟨j, j1, j2, -⟩ := (rowsK_mem _).mp hy
    obtain ⟨_, _, rr⟩ := hrus j j1
    obtain ⟨_, _, rr'⟩ := hrus i hi
    have r5 := rr.ob56
    have r6 := rr'.ob56
    rw [← j2, q] at r5
    have := r5.2.2
    have := r6.2.2
    omega
theorem api_missing {x1 lim : Int} (h : INV p w τ) (hm : lim ≤ mu w ∧ lim ≤ 5 * mz w) (hlim : zm w + 34000 ≤ lim) {K : Int → Int → CW → TW → Prop} (h1 : ∀ v w' τ', INV p w' τ' → STP w τ w' τ' 34000 → K v v w' τ') : wpC p (d + 251) 55 [ar p, ai x1] w (zqI (fun v w' => wpT (e + 12) 76 [ai x1] τ (zqI (fun v' τ' => K v v' w' τ') zno)) zno) := by
  obtain ⟨⟨W, L, p8⟩, -⟩ := id h
  have hSM : ∀ g, g ∈ SM1 → 61 ≤ g ∧ g ≤ 108 := by decide
  refine wC_X0_missing (Nat.zero_le _) (bC_X0_missing_0 (sC_isFn (d := d + 248) h (fun f hf hfn hB h22 e1 => br0 (by decide) ?_) (fun e0 => br1 rfl (wT_missing (by omega) (bT_missing_0 (br1 e0 (h1 _ _ _ h ⟨⟨rfl, rfl⟩, by omega⟩)))))))
  obtain ⟨⟨KK, -⟩, ⟨⟨b1, b2, b3, b4⟩, b5, b6, b7, b8⟩, c1, -⟩ := id hB
  obtain ⟨q1, q2, q3, q4⟩ := hB.fob hfn
  obtain ⟨A, lo, ps, ro, ru, lt, τ0, wy0, hL, -⟩ := c1 f hfn
  have hfps := hL.fps b8
  subst hf
  have q2' : aR w (fR w 5 p) (f : Int) = fnr w p f := q2
  obtain ⟨F, eF⟩ : ∃ F, F = fnr w p f := ⟨_, rfl⟩
  rw [← eF] at hL q2' q3 q4
  have h10 : 0 ≤ tI τ 10 := KK.2.2.1
  rw [q2']
  refine ⟨q1, q3, ?_⟩
  obtain ⟨⟨⟨t1, t2, t3, t4, t5⟩, -⟩, -, -, -, ⟨a8, a9, a10, a11⟩, a12, -, ⟨a15, a16, a17⟩, -⟩ := id hL
  have topT : ∀ Q : Int → TW → Prop, ((∀ σ', MKY2 τ τ σ' (rowsK τ f 1 (rk τ f)) 12 0 → pT_missing_29 (wpT (e + 11)) Q 0 0 σ') ∧ (∀ σ', MKN2 τ τ σ' (rowsK τ f 1 (rk τ f)) 12 0 → Q (-3) σ')) → wpT (e + 12) 76 [ai (f : Int)] τ (zqI Q zno) := fun Q k => by
    refine wT_missing (by omega) (bT_missing_0 (br0 (fun y => by rw [e1] at y; cases y) ?_))
    exact sT_makes2 (d := e + 5) (slot := 12) (wy := 0) (bare := 1) (PE.refl τ) (KX.refl τ) hfps.1 (hfps.2 1).1 (by decide) (by decide) h10 (hfps.2 1).2 ⟨fun σ' hy => br0 (by decide) (k.1 σ' hy), fun σ' hn => br1 rfl (k.2 σ' hn)⟩
  refine sC_fmake (d := d + 1) (wy := 0) (bare := 1) (rs' := rowsK τ f 1 (rk τ f)) (by rw [rowsK_fil]) a12 ⟨t2, t5, a8⟩ p8 ⟨a10, a11⟩ (hfps.2 1).1 (by decide) (hfps.2 1).2 hm hlim (fun r w1 hle fr1 W1 z1 hC => ?_) (fun x w1 hgt fr1 W1 tx z1 => ⟨tx, bC_X0_missing_34 ?_⟩)
  · refine ⟨nd_tag hC.1.2.1, ?_⟩
    have fin : ∀ v : Int, (v = 1 ∧ (∃ y, y ∈ nds τ (rowsK τ f 1 (rk τ f)) 0 121 [] ∧ hit τ (rowsK τ f 1 (rk τ f)) 0 ru 0 y.2)) ∨ (v = 0 ∧ ∀ y, y ∈ nds τ (rowsK τ f 1 (rk τ f)) 0 121 [] → ¬ hit τ (rowsK τ f 1 (rk τ f)) 0 ru 0 y.2) → wpT (e + 12) 76 [ai (f : Int)] τ (zqI (fun v' τ' => K v v' w1 τ') zno) := fun v hv => by
      refine topT _ ⟨fun σ1 hy => ?_, fun σ1 hn => by have := hn.2.2; omega⟩
      obtain ⟨⟨FM, m78, m79, mN⟩, m77, mT, -, -, -⟩ := hy
      have e77 : tA σ1 77 12 = (tsz τ (rowsK τ f 1 (rk τ f)) 0 121 [] : Nat) := by have := m77 12; rw [if_pos rfl] at this; exact this
      have iv : INV p w1 σ1 := inv_12 h hB h22 fr1 W1 FM hSM (fun i hi => by rw [m77, if_neg hi]) (fun i hi => by rw [m78, if_neg hi]) (fun i hi => by rw [m79, if_neg hi]) mN
      have st : STP w τ w1 σ1 34000 := ⟨⟨fr1.emu, fr1.emz⟩, by rw [(FM 1 (by decide)).1]; omega⟩
      obtain ⟨N, hN⟩ : ∃ N, N = tsz τ (rowsK τ f 1 (rk τ f)) 0 121 [] := ⟨_, rfl⟩
      rw [← hN] at e77 hle
      have hnd := nd_all mT hN
      refine bT_missing_29 (fun I hI => ?_)
      have key : ∀ g j : Nat, N - j ≤ g → j ≤ N → ∀ x : Int, (x = 1 ∧ ∃ k, k < j ∧ tA σ1 80 (3600 + k : Nat) = 0) ∨ (x = 0 ∧ ∀ k, k < j → tA σ1 80 (3600 + k : Nat) ≠ 0) → I x (j : Int) σ1 := by
        intro g
        have fin2 : ∀ x : Int, (x = 1 ∧ ∃ k, k < N ∧ tA σ1 80 (3600 + k : Nat) = 0) ∨ (x = 0 ∧ ∀ k, k < N → tA σ1 80 (3600 + k : Nat) ≠ 0) → I x (N : Int) σ1 := fun x hx => by
          refine hI _ _ _ ⟨fun _ => bT_missing_69 (fa ?_), fun y => absurd (by rw [e77]; exact Int.le_refl _) y⟩
          have : (if ¬ (x = 0) then (1 : Int) else 0) = v := by
            rcases hx with ⟨x1, k, k1, k2⟩ | ⟨x0, hx⟩
            · rw [x1, if_pos (by decide)]
              rcases hv with ⟨v1, -⟩ | ⟨v0, hv⟩
              · exact v1.symm
              · obtain ⟨y, y1, y2⟩ := hnd k k1
                exact absurd (Or.inl ⟨rfl, y2.h80.mp k2⟩) (hv y (List.mem_of_getElem? y1))
            · rw [x0, if_neg (fun q => q rfl)]
              rcases hv with ⟨v1, y, y1, y2⟩ | ⟨v0, -⟩
              · obtain ⟨k, hk⟩ := List.getElem?_of_mem y1
                have kl : k < N := by rw [hN, ← nds_len]; exact (List.getElem?_eq_some_iff.mp hk).1
                obtain ⟨y', q1, q2⟩ := hnd k kl
                rw [hk] at q1
                rw [← Option.some.inj q1] at q2
                rcases y2 with y2 | y2
                · exact absurd (q2.h80.mpr y2.2) (hx k kl)
                · exact absurd rfl y2.1
              · exact v0.symm
          rw [this]
          exact h1 _ _ _ iv st
        induction g with
        | zero =>
          intro j hg hj x hx
          have ej : j = N := by omega
          rw [ej] at hx ⊢
          exact fin2 x hx
        | succ g ih =>
          intro j hg hj x hx
          by_cases ej : j = N
          · rw [ej] at hx ⊢
            exact fin2 x hx
          · have ew : w32 (3600 + (j : Int)) = ((3600 + j : Nat) : Int) := by rw [w32_s (by omega) (by omega)]; omega
            refine hI _ _ _ ⟨fun y => absurd y (by rw [e77]; omega), fun _ => ⟨fun _ => by rw [ew]; omega, fa (fa ?_)⟩⟩
            rw [ew, w32_k (by omega)]
            refine ih (j + 1) (by omega) (by omega) _ ?_
            rcases hx with ⟨x1, k, k1, k2⟩ | ⟨x0, hx⟩
            · rw [x1, if_pos (Or.inl (by decide))]
              exact Or.inl ⟨rfl, k, by omega, k2⟩
            · rw [x0]
              by_cases z : tA σ1 80 (3600 + j : Nat) = 0
              · rw [if_pos (Or.inr z)]
                exact Or.inl ⟨rfl, j, by omega, z⟩
              · rw [if_neg (fun q => by rcases q with q | q; exact q rfl; exact z q)]
                refine Or.inr ⟨rfl, fun k hk => ?_⟩
                by_cases q : k = j
                · rw [q]; exact z
                · exact hx k (by omega)
      exact key N 0 (by omega) (Nat.zero_le _) 0 (Or.inr ⟨rfl, fun k hk => by omega⟩)
    refine sC_has (d := d + 128) (ru := ru) (hfps.2 1).1 (hfps.2 1).2 (hL.hro W fr1).1 121 [] 0 r hC (by decide) (by omega) _ (fun hy => fa ?_) (fun hn => fa ?_)
    · rw [if_pos (by decide)]; exact fin 1 (Or.inl ⟨rfl, hy⟩)
    · rw [if_neg (fun q => q rfl)]; exact fin 0 (Or.inr ⟨rfl, hn⟩)
  · refine topT _ ⟨fun σ1 hy => by have := hy.2.2.2.2.2; omega, fun σ1 hn => ?_⟩
    obtain ⟨⟨FM, m78, m79, mN⟩, m77, -⟩ := hn
    refine h1 _ _ _ (inv_12 h hB h22 fr1 W1 FM hSM (fun i _ => m77 i) (fun i hi => by rw [m78, if_neg hi]) (fun i hi => by rw [m79, if_neg hi]) mN) ⟨⟨fr1.emu, fr1.emz⟩, ?_⟩
    rw [(FM 1 (by decide)).1]; omega
end ZMiss
