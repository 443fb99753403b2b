/-! add: a late kind, both -/
section ZAdd
variable {p b e d f F n : Nat} {w w' : CW} {τ σ : TW}
theorem TXB.r45 (h : TXB p w τ) : R45 τ := fun f hf => by
  obtain ⟨-, ⟨-, -, b6, -⟩, c1, -⟩ := h
  obtain ⟨A, lo, ps, ro, ru, lt, τ0, wy, h1, -⟩ := c1 f (by omega)
  obtain ⟨-, -, ⟨l, hh, d1, d2, d3, s, -⟩, -⟩ := h1
  refine ⟨by rw [d1]; omega, by rw [d1]; omega⟩
/-- kinds come back -/
theorem KR.back (hW : WF p w) (h : KR p w τ) (hf : Fr [p, fR w 0 p] w w') (e0 : fR w' 0 p = fR w 0 p) (hk : ∀ u, u < nK τ → kd w' p u = kd w p u) (e1 : fI w' 1 p = fI w 1 p) (e10 : tI σ 10 = tI τ 10) (hS : KSm (nK τ) τ σ) : KR p w' σ := by
  obtain ⟨⟨a1, a2, a3, a4⟩, b1, b2, b3, b4, b5, b6, b7⟩ := h
  have en : nK σ = nK τ := by unfold nK; rw [show tI σ 10 = tI τ 10 from e10]
  have e10' : tI σ 10 = tI τ 10 := e10
  have e0' : fR w' 0 p = fR w 0 p := e0
  have e1' : fI w' 1 p = fI w 1 p := e1
  have tk := hf.2.2.2.1 (fR w 0 p) (hW.le (by rw [show tg w (fR w 0 p) = 112 from a1]; decide))
  show KRs p w' σ (nK σ)
  rw [en]
  refine ⟨⟨by rw [e0']; exact tk.1.trans a1, by rw [e0']; exact tk.2.trans a2, by rw [e0']; exact a3, by rw [e0']; exact a4.1, Nat.le_trans a4.2 hf.1⟩, by rw [e1', e10']; exact b1, by rw [e10']; exact b2, by rw [e10']; exact b3, fun k hk' => ?_, fun j k q1 q2 => ?_, fun k hk' => ?_, fun j k q1 q2 q3 => ?_⟩
  · rw [en] at hk' ⊢
    have s := hS k hk'
    exact KL.fr hW (fun j hj => b4 j (by omega)) hf (fun r hr => by rw [List.mem_singleton.mp hr]; exact Or.inl a4.1) (fun j hj => hk j (by omega)) s.1 s.2.1 s.2.2.1 (fun i hi => by have := s.2.2.2 i hi; rw [show ((4 * k + i : Nat) : Int) = 4 * k + i by omega] at this; exact this)
  · rw [en] at q2
    rw [(hS j (by omega)).1, (hS k q2).1]
    exact b5 j k q1 q2
  · rw [en] at hk'
    have hl := b4 k hk'
    have o1 := hf.eob hW (r := kd w p k) (by rw [hl.1]; decide) (by
      intro hm
      have hl2 := hl.2.1
      have a4' : fR w 0 p ≤ p + 8 := a4.1
      rcases List.mem_cons.mp hm with z | z
      · omega
      · have z := List.mem_singleton.mp z
        omega)
    rw [hk k hk', ob.efI o1, b6 k hk']
    exact (slN_eq _ _ (fun j hj => (hS j hj).2.1)).symm
  · rw [en] at q1 q2
    rw [(hS j q1).2.1] at q3
    rw [(hS k q2).2.2.1]
    exact b7 j k q1 q2 q3
abbrev SAD : List Nat := [1, 2, 3, 4, 5, 6, 7, 8, 10, 11, 12, 13, 14, 15]
/-- all that holds, with kinds more -/
theorem inv_add (h : INV p w τ) (hB : TXB p w τ) (h22 : fI w 22 p = 1 ∧ tI τ 9 = 1) (fr : Fr [p, fR w 0 p] w w') (W' : WF p w') (pf : PF [1, 2, 8, 9, 10, 11, 12, 13, 14, 21] p w w') (K' : KR p w' σ) (hk : ∀ u, u < nK τ → kd w' p u = kd w p u) (hS : KSm (nK τ) τ σ) (hn : nK τ ≤ nK σ) (F : FT SAD τ σ) (e8 : fI w' 8 p = 0) (e1 : tI σ 1 = 0) (e21 : fI w' 21 p = tI σ 7) (e2 : fI w' 2 p = tI σ 11) : INV p w' σ := by
  obtain ⟨⟨W, L, p8⟩, hTP, ⟨hf1, hf2⟩, hV, hT, hR⟩ := id h
  obtain ⟨⟨K, -⟩, ⟨⟨b1, b2, b3, b4⟩, -⟩, -⟩ := id hB
  obtain ⟨⟨a1, a2, a3, a4, a5⟩, -⟩ := id K
  have a1 : tg w (fR w 0 p) = 112 := a1
  have a3 : p < fR w 0 p := a3
  have a4 : fR w 0 p ≤ p + 8 := a4
  have kx : KX τ σ := ⟨fun g h1 h2 => by
    have ng : g ∉ SAD := fun y => by
      have : ∀ g, g ∈ SAD → g < 16 := by decide
      have := this g y
      omega
    exact ⟨(F g ng).1, funext (F g ng).2⟩, hn, fun k hkk => ⟨(hS k hkk).2.1, (hS k hkk).2.2.1, (hS k hkk).2.2.2⟩⟩
  have t : ∀ r, tg w r ≠ 0 → tg w' r = tg w r ∧ ln w' r = ln w r := fun r hr => fr.2.2.2.1 r (W.le hr)
  have o : ∀ r, tg w r ≠ 0 → tg w r ≠ 112 → r ≠ p → ob w' r = ob w r := fun r h0 h1 h2 => fr.2.2.2.2 r (W.le h0) (fun y => by
    rcases List.mem_cons.mp y with z | z
    · exact h2 z
    · rw [List.mem_singleton.mp z] at h1; exact h1 a1)
  have hA := hV.1.ar
  have o3 := o (fR w 3 p) (by rw [hA.1]; decide) (by rw [hA.1]; decide) (by omega)
  have t7 : tg w (fR w 7 p) = 101 := hTP.2.1.1
  obtain ⟨r1, r2, r3⟩ := VAL.keep (w' := w') (σ := σ) hV W (fun r _ h1 h2 => o r (by omega) (by omega) (by omega)) (fun r hr => fr.2.2.2.1 r hr) ⟨(pf 3 (by decide)).2, (pf 4 (by decide)).1⟩ (fun i => ob.eaR o3 i) (fun g h1 h2 => F g (fun y => by
    have : ∀ g, g ∈ SAD → g < 16 := by decide
    have := this g y
    omega)) (kx.vk K.un hk)
  obtain ⟨⟨c1, c2, c3, c4⟩, ⟨d1, d2, d3, d4⟩, -⟩ := id hR
  have o23 := o (fR w 23 p) (by rw [c1]; decide) (by rw [c1]; decide) (by omega)
  have o24 := o (fR w 24 p) (by rw [d1]; decide) (by rw [d1]; decide) (by omega)
  have o5 := o (fR w 5 p) (by rw [b1]; decide) (by rw [b1]; decide) (by have := b3; omega)
  refine ⟨⟨W', L.fr3 W fr (fun x hx => ?_), Nat.le_trans p8 fr.1⟩, hTP.z (t _ (by rw [t7]; decide)) (pf 7 (by decide)).2 e8 e1, ⟨e21, e2⟩, r1, Or.inr ⟨⟨?_, ?_⟩, ?_⟩, ?_⟩
  · rcases List.mem_cons.mp hx with y | y
    · omega
    · rw [List.mem_singleton.mp y]; omega
  · rw [(pf 22 (by decide)).1]; exact h22.1
  · rw [(F 9 (by decide)).1]; exact h22.2
  · refine hB.fr W fr W' (fun x hx => ?_) K' hk kx (fun g hg => (pf g (by rcases hg with q | q | q <;> rw [q] <;> decide)).2) (fun i => ob.eaR o5 i) (pf 6 (by decide)).1 (fun f _ => ⟨(F 77 (by decide)).2 _, (F 78 (by decide)).2 _, (F 79 (by decide)).2 _, fun g i h1 h2 _ _ => (F g (fun y => by
      have : ∀ g, g ∈ SAD → g < 16 := by decide
      have := this g y
      omega)).2 _⟩)
    rcases List.mem_cons.mp hx with y | y
    · left; omega
    · left; rw [List.mem_singleton.mp y]; exact a4
  · refine hR.fr t (fun g hg => (pf g (by rcases hg with q | q | q | q <;> rw [q] <;> decide)).2) (fun i => ob.eaI o23 i) (fun i => ob.eaI o24 i) (fun q1 q2 i => ?_) ⟨Nat.le_of_eq r2, fun v _ => r3 v⟩ (fun g hg => F g (fun y => by
      have : ∀ g, g ∈ SAD → g < 16 := by decide
      have := this g y
      omega))
    have := o (fR w 26 p) (by rw [q1]; decide) (by rw [q1]; decide) (by omega)
    exact ob.eaR this i
/-- the late kind is refused: both end alike -/
theorem ad_bad {w2 : CW} {τ2 : TW} {x : Nat} {how pl a : Int} (h : INV p w τ) (hB : TXB p w τ) (h22 : fI w 22 p = 1 ∧ tI τ 9 = 1) (fr : Fr [p, fR w 0 p] w w2) (W2 : WF p w2) (pf : PF [1, 9, 10, 11, 12, 13, 14, 21] p w w2) (hk : ∀ u, u < nK τ → kd w2 p u = kd w p u) (hS : KSm (nK τ) τ τ2) (F : FT [2, 3, 4, 5, 6, 7, 8, 10, 12, 13, 14, 15] τ τ2) (hz : zm w2 ≤ zm w + 10000 * tI τ 1 + a) (wr : Wr w2 x how pl) (D : Dd how pl τ2) :
    ∃ w3 τ3 v, (INV p w3 τ3 ∧ STP w τ w3 τ3 a) ∧ (∀ (call : Nat → List ZA → CW → (ZRes → CW → Prop) → Prop) (Q : Int → CW → Prop), Q v w3 → tg w2 x = 2 ∧ pC_X0_add_79 p call Q (fI w 1 p) x w2) ∧ ∀ (Q : Int → TW → Prop), Q v τ3 → pT_add_40 (wpT (e + 11)) Q (tI τ 10) τ2 := by
  obtain ⟨x1, x2, x3⟩ := wr
  -- the reference's end
  have key : ∃ τ4, FT [7, 8] τ2 τ4 ∧ (tI τ4 7 = how ∧ tI τ4 8 = pl ∧ 1 ≤ how) ∧ ∀ Q, pT_add_59 (wpT (e + 11)) Q (tI τ 10) τ4 → pT_add_40 (wpT (e + 11)) Q (tI τ 10) τ2 := by
    rcases D with ⟨a1, a2, a3⟩ | ⟨a1, a2, a3, a4, a5⟩
    · have a1' : tI τ2 7 = how := a1
      exact ⟨τ2, FT.refl _ _, ⟨a1, a2, a3⟩, fun Q hQ => bT_add_40 (br0 (fun y => by have := y.1; omega) hQ)⟩
    · obtain ⟨τ4, ⟨f4, d4, n4⟩, run⟩ := dd_stop (d := e + 9) (k := 2) (show Dd how pl τ2 from Or.inr ⟨a1, a2, a3, a4, a5⟩) (by decide)
      have a2' : tI τ2 3 = 7 := a2
      rcases d4 with q | ⟨q, -⟩
      · exact ⟨τ4, f4, q, fun Q hQ => bT_add_40 (br1 ⟨a1, by rw [a2']; decide⟩ (run _ hQ))⟩
      · exact absurd q n4
  obtain ⟨τ4, f4, ⟨q1, q2, q3⟩, run⟩ := key
  obtain ⟨τ5, h5⟩ : ∃ τ5, τ5 = sI (sI τ4 1 0) 10 (tI τ 10) := ⟨_, rfl⟩
  obtain ⟨w5, hw5⟩ : ∃ w5, w5 = pI (pI (pI w2 21 p how) 1 p (fI w 1 p)) 8 p 0 := ⟨_, rfl⟩
  have F5 : FT [1, 10] τ4 τ5 := by rw [h5]; exact ((FT.refl _ _).ssI (by decide)).ssI (by decide)
  have S5 : KSm (nK τ) τ τ5 := (hS.trans (KSm.ft f4 (by decide))).trans (KSm.ft F5 (by decide))
  have Ft : FT SAD τ τ5 := ((F.mono (by decide)).trans (f4.mono (by decide))).trans (F5.mono (by decide))
  obtain ⟨⟨W, L, p8⟩, hTP, ⟨hf1, hf2⟩, hV, hT, hR⟩ := id h
  obtain ⟨⟨K, -⟩, -⟩ := id hB
  have c1 : 0 ≤ fI w 1 p ∧ fI w 1 p ≤ 24 := by
    have a : fI w 1 p = tI τ 10 := K.2.1
    have b : 0 ≤ tI τ 10 := K.2.2.1
    have c : tI τ 10 ≤ 24 := K.2.2.2.1
    omega
  have fr5 : Fr [p, fR w 0 p] w w5 := by
    rw [hw5]
    exact ((fr.spI (Or.inl (by simp))).spI (Or.inl (by simp))).spI (Or.inl (by simp))
  have W5 : WF p w5 := by
    rw [hw5]
    refine WF.spI ?_ _ _ _ (Or.inl (by decide))
    have W2' : WF p (pI w2 21 p how) := W2.spI _ _ _ (Or.inl (by decide))
    exact W2'.set 1 _ (fun _ => c1) (fun y => by cases y)
  have pf5 : PF [1, 2, 8, 9, 10, 11, 12, 13, 14, 21] p w w5 := by
    rw [hw5]
    exact (((pf.mono (by decide)).spI (Or.inl (by decide))).spI (Or.inl (by decide))).spI (Or.inl (by decide))
  have hk5 : ∀ u, u < nK τ → kd w5 p u = kd w p u := fun u hu => by
    rw [← hk u hu, hw5]; rfl
  have e1 : fI w5 1 p = fI w 1 p := by rw [hw5, fI_of _ _ _ _ (by decide), fI_at]
  have e0 : fR w5 0 p = fR w 0 p := (pf5 0 (by decide)).2
  have e10 : tI τ5 10 = tI τ 10 := by rw [h5]; rfl
  have K5 : KR p w5 τ5 := KR.back W K fr5 e0 hk5 e1 e10 S5
  have en : nK τ5 = nK τ := by unfold nK; rw [show tI τ5 10 = tI τ 10 from e10]
  have v7 : tI τ5 7 = how := by rw [(F5 7 (by decide)).1]; exact q1
  have v8 : tI τ5 8 = pl := by rw [(F5 8 (by decide)).1]; exact q2
  refine ⟨w5, τ5, w32 (-10 - pl), ⟨inv_add h hB h22 fr5 W5 pf5 K5 hk5 S5 (Nat.le_of_eq en.symm) Ft (by rw [hw5, fI_at]) (by rw [h5]; rfl) (by rw [v7, hw5, fI_of _ _ _ _ (by decide), fI_of _ _ _ _ (by decide), fI_at]) ?_, ⟨⟨fr5.emu, fr5.emz⟩, ?_⟩⟩, fun call Q hQ => ⟨x1, bC_X0_add_79 ⟨by rw [x1]; decide, fa (fa ⟨?_, fa (bC_X0_add_101 (fa ?_))⟩)⟩⟩, fun Q hQ => run Q (bT_add_59 (fa (br0 ?_ (fa ?_))))⟩
  · have := (pf 2 (by decide)).1
    have e2 : fI w5 2 p = fI w2 2 p := by rw [hw5, fI_of _ _ _ _ (by decide), fI_of _ _ _ _ (by decide), fI_of _ _ _ _ (by decide)]
    rw [e2, this, hf2]
    exact ((F5 11 (by decide)).1.trans ((f4 11 (by decide)).1.trans (F 11 (by decide)).1)).symm
  · have z5 : zm w5 = zm w2 := by rw [hw5]; rfl
    have : tI τ5 1 = 0 := by rw [h5]; rfl
    rw [z5, this]
    omega
  · show hF 36 (tg w2 x) = true
    rw [x1]; decide
  · rw [x2]
    have e36 : fI (pI (pI w2 21 p how) 1 p (fI w 1 p)) 36 x = pl := by
      rw [fI_of _ _ _ _ (by decide), fI_of _ _ _ _ (by decide)]; exact x3
    rw [e36, ← hw5]
    exact hQ
  · have : tI (sI τ4 1 0) 7 = how := by
      rw [tI_sI, if_neg (by decide)]; exact q1
    omega
  · have : tI (sI (sI τ4 1 0) 10 (tI τ 10)) 8 = pl := by rw [← h5]; exact v8
    rw [this, ← h5]
    exact hQ
end ZAdd
