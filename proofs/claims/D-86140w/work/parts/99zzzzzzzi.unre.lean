/-! unreached: both -/
section ZUnre
variable {p b e d f F n lo wy base lt A : Nat} {w w' wS : CW} {τ σ ρ τ0 : TW} {rs : List (Nat × Nat)} {ps : List Pa} {ro : Nat × Nat → Nat} {ru : Nat → Nat}
theorem api_unreached {x1 x2 lim : Int} (h : INV p w τ) (hm : lim ≤ mu w ∧ lim ≤ 5 * mz w) (hlim : zm w + 34000 ≤ lim) {K : Int → Int → CW → TW → Prop} (h1 : ∀ v w' τ', INV p w' τ' → STP w τ w' τ' 34000 → K v v w' τ') : wpC p (d + 251) 56 [ar p, ai x1, ai x2] w (zqI (fun v w' => wpT (e + 12) 77 [ai x1, ai x2] τ (zqI (fun v' τ' => K v v' w' τ') zno)) zno) := by
  obtain ⟨⟨W, L, p8⟩, -⟩ := id h
  have rg := ff_isFn_rg (x1 := x1) h
  have hSM : ∀ g, g ∈ SM1 → 61 ≤ g ∧ g ≤ 108 := by decide
  have no : (ff_isFunction x1 τ = 0 ∨ ff_in x2 0 (w32 (tA τ 45 x1 - 1)) τ = 0) → pC_X0_unreached_29 p (wpC p (d + 250)) (fun v w' => zqI (fun v w' => wpT (e + 12) 77 [ai x1, ai x2] τ (zqI (fun v' τ' => K v v' w' τ') zno)) zno (.inl (some (ai v))) w') w := fun z => bC_X0_unreached_29 (wT_unreached (by omega) (bT_unreached_0 ⟨fun y => by rcases rg with q | q; exact absurd q y; exact q, br1 z (bT_unreached_26 (h1 _ _ _ h ⟨⟨rfl, rfl⟩, by omega⟩))⟩))
  refine wC_X0_unreached (Nat.zero_le _) (bC_X0_unreached_0 (sC_isFn (d := d + 248) h (fun f hf hfn hB h22 e1 => br0 (by decide) ?_) (fun e0 => br1 rfl (no (Or.inl e0)))))
  obtain ⟨⟨KK, -⟩, ⟨⟨b1, b2, b3, b4⟩, b5, b6, b7, b8⟩, c1, -⟩ := id hB
  obtain ⟨q1, q2, q3, q4⟩ := hB.fob hfn
  obtain ⟨A, lo, ps, ro, ru, lt, τ0, wy0, hL, -⟩ := c1 f hfn
  have hfps := hL.fps b8
  subst hf
  have q2' : aR w (fR w 5 p) (f : Int) = fnr w p f := q2
  obtain ⟨F, eF⟩ : ∃ F, F = fnr w p f := ⟨_, rfl⟩
  rw [← eF] at hL q2' q3 q4
  have h10 : 0 ≤ tI τ 10 := KK.2.2.1
  obtain ⟨⟨⟨t1, t2, t3, t4, t5⟩, -, ⟨u1, u2, u3⟩, -⟩, -, ⟨_, _, k1, k2, k3, -⟩, -, ⟨a8, a9, a10, a11⟩, a12, ⟨a13, -⟩, ⟨a15, a16, a17⟩, -⟩ := id hL
  rw [q2', k2]
  refine ⟨q1, by rw [q3]; decide, ?_⟩
  refine sC_isIn (τ := τ) (d := d + 249) ?_
  have ew : w32 ((rk τ f : Int) - 1) = (rk τ f : Int) - 1 := w32_s (by omega) (by omega)
  rw [ew]
  by_cases z2 : 0 ≤ x2 ∧ x2 ≤ (rk τ f : Int) - 1
  · rw [ff_in_1 z2]
    obtain ⟨i, hi⟩ : ∃ i : Nat, x2 = i := ⟨x2.toNat, by omega⟩
    subst hi
    have hin : i < rk τ f := by omega
    have topT : ∀ Q : Int → TW → Prop, ((∀ σ', MKY2 τ τ σ' (rowsK τ f 0 (rk τ f)) 12 0 → pT_unreached_48 (wpT (e + 11)) Q f i 1 0 σ') ∧ (∀ σ', MKN2 τ τ σ' (rowsK τ f 0 (rk τ f)) 12 0 → Q (-3) σ')) → wpT (e + 12) 77 [ai (f : Int), ai (i : Int)] τ (zqI Q zno) := fun Q k => by
      refine wT_unreached (by omega) (bT_unreached_0 ⟨fun y => by rcases rg with q | q; exact absurd q y; exact q, br0 (fun y => ?_) ?_⟩)
      · rcases y with y | y
        · rw [e1] at y; cases y
        · rw [k1, ew, ff_in_1 z2] at y; cases y
      exact sT_makes2 (d := e + 5) (slot := 12) (wy := 0) (bare := 0) (PE.refl τ) (KX.refl τ) hfps.1 (hfps.2 0).1 (by decide) (by decide) h10 (hfps.2 0).2 ⟨fun σ' hy => br0 (by decide) (k.1 σ' hy), fun σ' hn => br1 rfl (k.2 σ' hn)⟩
    refine br0 (by decide) ?_
    rw [q2']
    refine ⟨q1, q3, ?_⟩
    refine sC_fmake (d := d + 1) (wy := 0) (bare := 0) (rs' := rowsK τ f 0 (rk τ f)) (by symm; exact fil_sel (fun x _ => Or.inl rfl)) a12 ⟨t2, t5, a8⟩ p8 ⟨a10, a11⟩ (hfps.2 0).1 (by decide) (hfps.2 0).2 hm hlim (fun r w1 hle fr1 W1 z1 hC => ?_) (fun x w1 hgt fr1 W1 tx z1 => ⟨tx, bC_X0_unreached_65 ?_⟩)
    · have o := fun (r : Nat) (h0 : tg w r ≠ 0) => fr1.2.2.2.2 r (W.le h0) (by simp)
      have op := fr1.2.2.2.2 p W.pz (by simp)
      have o5 := o (fR w 5 p) (by rw [b1]; decide)
      have oF := o F (by rw [q3]; decide)
      have o2 := o (F + 2) (by rw [u2]; decide)
      have e5 : fR w1 5 p = fR w 5 p := ob.efR op 5
      have eF1 : aR w1 (fR w1 5 p) (f : Int) = F := by rw [e5, ob.eaR o5]; exact q2'
      have e47 : fR w1 47 F = F + 2 := by rw [ob.efR oF]; exact u1
      have eR : aR w1 (F + 2) (i : Int) = ru (16 * f + i) := by rw [ob.eaR o2]; exact (a13 i hin).symm
      have hro := hL.hro (bare := 0) W fr1
      obtain ⟨_, _, rr⟩ := hL.rus hin
      have nz : ru (16 * f + i) ≠ 0 := by have := rr.ob56.2.1; omega
      show (_ ∧ _) ∧ _ ∧ _ ∧ _ ∧ _
      rw [eF1, e47, eR]
      refine ⟨by rw [e5, ob.etg o5, ob.eln o5]; exact q1, by rw [ob.etg oF, q3]; decide, ⟨by rw [ob.etg o2, u2]; decide, by omega, by rw [ob.eln o2, u3]; omega⟩, nd_tag hC.1.2.1, ?_⟩
      have hiff : ∀ P, hit τ (rowsK τ f 0 (rk τ f)) 0 ru (ru (16 * f + i)) P ↔ ∃ y, ndE τ (rowsK τ f 0 (rk τ f)) P = some y ∧ chs τ 0 P (rws τ (rowsK τ f 0 (rk τ f)) P) (ask τ P y) = none ∧ y.1 = 16 * f + i := fun P => by
        constructor
        · intro q
          rcases q with q | ⟨-, y, y1, y2, y3⟩
          · exact absurd q.1 nz
          · exact ⟨y, y1, y2, (hro.2 y i (ndE_in y1).1 hin).mp y3⟩
        · rintro ⟨y, y1, y2, y3⟩
          exact Or.inr ⟨nz, y, y1, y2, (hro.2 y i (ndE_in y1).1 hin).mpr y3⟩
      have fin : ∀ v : Int, (v = 0 ∧ (∃ y, y ∈ nds τ (rowsK τ f 0 (rk τ f)) 0 121 [] ∧ hit τ (rowsK τ f 0 (rk τ f)) 0 ru (ru (16 * f + i)) y.2)) ∨ (v = 1 ∧ ∀ y, y ∈ nds τ (rowsK τ f 0 (rk τ f)) 0 121 [] → ¬ hit τ (rowsK τ f 0 (rk τ f)) 0 ru (ru (16 * f + i)) y.2) → wpT (e + 12) 77 [ai (f : Int), ai (i : Int)] τ (zqI (fun v' τ' => K v v' w1 τ') zno) := fun v hv => by
        refine topT _ ⟨fun σ1 hy => ?_, fun σ1 hn => by have := hn.2.2; omega⟩
        obtain ⟨⟨FM, m78, m79, mN⟩, m77, mT, -, -, -⟩ := hy
        have e77 : tA σ1 77 12 = (tsz τ (rowsK τ f 0 (rk τ f)) 0 121 [] : Nat) := by have := m77 12; rw [if_pos rfl] at this; exact this
        have iv : INV p w1 σ1 := inv_12 h hB h22 fr1 W1 FM hSM (fun i hi => by rw [m77, if_neg hi]) (fun i hi => by rw [m78, if_neg hi]) (fun i hi => by rw [m79, if_neg hi]) mN
        have st : STP w τ w1 σ1 34000 := ⟨⟨fr1.emu, fr1.emz⟩, by rw [(FM 1 (by decide)).1]; omega⟩
        obtain ⟨N, hN⟩ : ∃ N, N = tsz τ (rowsK τ f 0 (rk τ f)) 0 121 [] := ⟨_, rfl⟩
        rw [← hN] at e77 hle
        have hnd := nd_all mT hN
        have eq16 : w32 ((w32 (16 * (f : Int))) + (i : Int)) = ((16 * f + i : Nat) : Int) := by rw [w32_s (a := 16 * (f : Int)) (by omega) (by omega), w32_s (by omega) (by omega)]; omega
        refine bT_unreached_48 (fun I hI => ?_)
        have key : ∀ g j : Nat, N - j ≤ g → j ≤ N → ∀ x : Int, (x = 0 ∧ ∃ k, k < j ∧ tA σ1 81 (3600 + k : Nat) = (16 * f + i : Nat)) ∨ (x = 1 ∧ ∀ k, k < j → tA σ1 81 (3600 + k : Nat) ≠ (16 * f + i : Nat)) → I x (j : Int) σ1 := by
          intro g
          have fin2 : ∀ x : Int, (x = 0 ∧ ∃ k, k < N ∧ tA σ1 81 (3600 + k : Nat) = (16 * f + i : Nat)) ∨ (x = 1 ∧ ∀ k, k < N → tA σ1 81 (3600 + k : Nat) ≠ (16 * f + i : Nat)) → I x (N : Int) σ1 := fun x hx => by
            refine hI _ _ _ ⟨fun _ => bT_unreached_96 (fa ?_), fun y => absurd (by rw [e77]; exact Int.le_refl _) y⟩
            have : (if ¬ (x = 0) then (1 : Int) else 0) = v := by
              rcases hx with ⟨x1, k, k1, k2⟩ | ⟨x0, hx⟩
              · rw [x1, if_neg (fun q => q rfl)]
                rcases hv with ⟨v1, -⟩ | ⟨v0, hv⟩
                · exact v1.symm
                · obtain ⟨y, y1, y2⟩ := hnd k k1
                  exact absurd ((hiff _).mpr (y2.h81.mp k2)) (hv y (List.mem_of_getElem? y1))
              · rw [x0, if_pos (by decide)]
                rcases hv with ⟨v1, y, y1, y2⟩ | ⟨v0, -⟩
                · obtain ⟨k, hk⟩ := List.getElem?_of_mem y1
                  have kl : k < N := by rw [hN, ← nds_len]; exact (List.getElem?_eq_some_iff.mp hk).1
                  obtain ⟨y', q1, q2⟩ := hnd k kl
                  rw [hk] at q1
                  rw [← Option.some.inj q1] at q2
                  exact absurd (q2.h81.mpr ((hiff _).mp y2)) (hx k kl)
                · exact v0.symm
            rw [this]
            exact h1 _ _ _ iv st
          induction g with
          | zero =>
            intro j hg hj x hx
            have ej : j = N := by omega
            rw [ej] at hx ⊢
            exact fin2 x hx
          | succ g ih =>
            intro j hg hj x hx
            by_cases ej : j = N
            · rw [ej] at hx ⊢
              exact fin2 x hx
            · have ew : w32 (3600 + (j : Int)) = ((3600 + j : Nat) : Int) := by rw [w32_s (by omega) (by omega)]; omega
              refine hI _ _ _ ⟨fun y => absurd y (by rw [e77]; omega), fun _ => ⟨fun _ => by rw [ew]; omega, fa (fa ?_)⟩⟩
              rw [ew, eq16, w32_k (by omega)]
              refine ih (j + 1) (by omega) (by omega) _ ?_
              rcases hx with ⟨x1, k, k1, k2⟩ | ⟨x0, hx⟩
              · rw [x1, if_neg (fun q => q.1 rfl)]
                exact Or.inl ⟨rfl, k, by omega, k2⟩
              · rw [x0]
                by_cases z : tA σ1 81 (3600 + j : Nat) = (16 * f + i : Nat)
                · rw [if_neg (fun q => q.2 z)]
                  exact Or.inl ⟨rfl, j, by omega, z⟩
                · rw [if_pos ⟨by decide, z⟩]
                  refine Or.inr ⟨rfl, fun k hk => ?_⟩
                  by_cases q : k = j
                  · rw [q]; exact z
                  · exact hx k (by omega)
        exact key N 0 (by omega) (Nat.zero_le _) 1 (Or.inr ⟨rfl, fun k hk => by omega⟩)
      refine sC_has (d := d + 128) (ru := ru) (hfps.2 0).1 (hfps.2 0).2 hro.1 121 [] 0 r hC (by decide) (by omega) _ (fun hy => fa ?_) (fun hn => fa ?_)
      · rw [if_neg (by decide)]; exact fin 0 (Or.inl ⟨rfl, hy⟩)
      · rw [if_pos rfl]; exact fin 1 (Or.inr ⟨rfl, hn⟩)
    · refine topT _ ⟨fun σ1 hy => by have := hy.2.2.2.2.2; omega, fun σ1 hn => ?_⟩
      obtain ⟨⟨FM, m78, m79, mN⟩, m77, -⟩ := hn
      refine h1 _ _ _ (inv_12 h hB h22 fr1 W1 FM hSM (fun i _ => m77 i) (fun i hi => by rw [m78, if_neg hi]) (fun i hi => by rw [m79, if_neg hi]) mN) ⟨⟨fr1.emu, fr1.emz⟩, ?_⟩
      rw [(FM 1 (by decide)).1]; omega
  · rw [ff_in_0 z2]
    exact br1 rfl (no (Or.inr (by rw [k1, ew]; exact ff_in_0 z2)))
end ZUnre
