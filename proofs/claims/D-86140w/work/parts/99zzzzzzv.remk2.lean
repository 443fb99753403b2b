/-! remake: both, whole -/
section ZRemk2
variable {p b e d f F n lo wy A : Nat} {w w' wS : CW} {τ σ ρ : TW} {rs : List (Nat × Nat)} {ps : List Pa} {ro : Nat × Nat → Nat} {ru : Nat → Nat}
theorem LAID.fps (h : LAID p w τ f F n A lo ps ro ru) (hnp : np τ ≤ 800) : FPS τ f n := by
  obtain ⟨m, hC, m1, hR⟩ := h.rp
  obtain ⟨-, -, ⟨_, _, r1, -, r3, -⟩, ⟨-, a6, a7⟩, -⟩ := id h
  exact ⟨⟨a7, r1, r3, ⟨m, hC.1, m1, hC.2.2.1, hR⟩, hnp, a6⟩, fun bare => ⟨h.sub, h.spr⟩⟩
theorem TXB.fr2 {T : List Nat} (h : TXB p w τ) (W : WF p w) (fr : Fr T w w') (W' : WF p w') (hT : TkU p w T) (K' : KR p w' σ) (hx : KX τ σ) (eR : ∀ g, g = 5 ∨ g = 15 ∨ g = 16 → fR w' g p = fR w g p) (e5 : ∀ i : Nat, aR w' (fR w 5 p) i = aR w (fR w 5 p) i) (e6 : fI w' 6 p = fI w 6 p) (e47 : ∀ f, f < nF τ → fR w' 47 (fnr w p f) = fR w 47 (fnr w p f)) (hF : ∀ f, f < nF τ → FUN p w' σ f) : TXB p w' σ := by
  obtain ⟨⟨a1, ⟨k1, k2, k3, k4⟩, k5, k6, k7, k8⟩, ⟨⟨b1, b2, b3, b4⟩, b5, b6, b7, b8⟩, c1, c2, c3⟩ := h
  have t : ∀ r, tg w r ≠ 0 → tg w' r = tg w r ∧ ln w' r = ln w r := fun r hr => fr.2.2.2.1 r (W.le hr)
  have t5 := t _ (show tg w (fR w 5 p) ≠ 0 by rw [b1]; decide)
  have t15 := t _ (show tg w (fR w 15 p) ≠ 0 by rw [show tg w (fR w 15 p) = 103 from k1]; decide)
  have t16 := t _ (show tg w (fR w 16 p) ≠ 0 by rw [show tg w (fR w 16 p) = 102 from k5]; decide)
  have ef : ∀ f, fnr w' p f = fnr w p f := fun f => by
    unfold fnr
    rw [eR 5 (by decide)]
    exact e5 f
  refine ⟨⟨K', ?_⟩, ⟨?_, by rw [e6, x_nF hx]; exact b5, by rw [(hx.1 41 (by decide) (by decide)).1, x_nF hx]; exact b6, by rw [x_nF hx]; exact b7, by rw [x_np hx.pq]; exact b8⟩, fun f hf => ?_, fun f i hf hi => ?_, fun f hf => ?_⟩
  · unfold NA
    rw [eR 15 (by decide), eR 16 (by decide)]
    exact ⟨⟨t15.1.trans k1, t15.2.trans k2, k3, k4⟩, t16.1.trans k5, t16.2.trans k6, k7, k8⟩
  · unfold FA
    rw [eR 5 (by decide)]
    exact ⟨t5.1.trans b1, t5.2.trans b2, b3, b4⟩
  · rw [x_nF hx] at hf
    exact hF f hf
  · rw [x_nF hx] at hf
    rw [x_rk hx] at hi
    exact (c2 f i hf hi).fr hf hi c1 W a1 fr hT e47 hx ef
  · rw [x_nF hx] at hf
    rw [x_rk hx, x_sumR hx, hx.a (by decide) (by decide)]
    exact c3 f hf
/-- trees were made: the rest stays -/
theorem inv_tx {T S : List Nat} (h : INV p w τ) (hB : TXB p w τ) (h22 : fI w 22 p = 1 ∧ tI τ 9 = 1) (fr : Fr T w w') (W' : WF p w') (hT : ∀ x, x ∈ T → tg w x = 4 ∧ p + 8 < x) (F : FT S τ σ) (hS : ∀ g, g ∈ S → 61 ≤ g ∧ g ≤ 108) (e47 : ∀ f, f < nF τ → fR w' 47 (fnr w p f) = fR w 47 (fnr w p f)) (hF : ∀ f, f < nF τ → FUN p w' σ f) : INV p w' σ := by
  obtain ⟨⟨W, L, p8⟩, hTP, ⟨hf1, hf2⟩, hV, hT0, hR⟩ := id h
  obtain ⟨⟨K, ⟨⟨k1, k2, k3, k4⟩, k5, k6, k7, k8⟩⟩, ⟨⟨b1, b2, b3, b4⟩, -⟩, -⟩ := id hB
  have hz := W.pz
  have kx : KX τ σ := KX.ft F (fun g hg => Or.inr (Or.inr (hS g hg).1))
  have t : ∀ r, tg w r ≠ 0 → tg w' r = tg w r ∧ ln w' r = ln w r := fun r hr => fr.2.2.2.1 r (W.le hr)
  have o : ∀ r, r ≤ cz w → tg w r ≠ 4 ∨ r ≤ p + 8 → ob w' r = ob w r := fun r h0 h1 => fr.2.2.2.2 r h0 (fun y => by
    have := hT r y
    omega)
  have op := o p hz (Or.inr (by omega))
  have lt8 : ∀ r, tg w r ≠ 0 → tg w r ≠ 4 → ob w' r = ob w r := fun r h1 h2 => o r (W.le h1) (Or.inl h2)
  have pf : PF [] p w w' := fun g _ => ⟨ob.efI op g, ob.efR op g⟩
  have F8 : ∀ g, g < 61 ∨ 108 < g → tI σ g = tI τ g ∧ ∀ i, tA σ g i = tA τ g i := fun g hg => F g (fun y => by have := hS g y; omega)
  have hA := hV.1.ar
  have hkA : tg w (fR w 0 p) = 112 := K.1.1
  have K' : KR p w' σ := KR.fr2 W K fr ⟨(pf 0 (by simp)).2, (pf 1 (by simp)).1⟩ (fun r hr => Or.inr (Or.inr ⟨(hT r hr).2, by rw [(hT r hr).1]; decide, fun q => by rw [(hT r hr).1] at q; cases q⟩)) F (fun g hg => Or.inr (by have := hS g hg; omega))
  have hk : ∀ u, kd w' p u = kd w p u := fun u => by
    unfold kd
    rw [show fR w' 0 p = fR w 0 p from (pf 0 (by simp)).2]
    exact ob.eaR (lt8 (fR w 0 p) (by rw [hkA]; decide) (by rw [hkA]; decide)) u
  have t7 : tg w (fR w 7 p) = 101 := hTP.2.1.1
  have o7 := lt8 (fR w 7 p) (by rw [t7]; decide) (by rw [t7]; decide)
  have o3 := lt8 (fR w 3 p) (by rw [hA.1]; decide) (by rw [hA.1]; decide)
  obtain ⟨r1, r2, r3⟩ := VAL.keep (w' := w') (σ := σ) hV W (fun r h0 h1 h2 => o r h0 (Or.inl (by omega))) (fun r hr => fr.2.2.2.1 r hr) ⟨(pf 3 (by simp)).2, (pf 4 (by simp)).1⟩ (fun i => ob.eaR o3 i) (fun g h1 h2 => F8 g (by omega)) (kx.vk K.un (fun k _ => hk k))
  obtain ⟨⟨c1, c2, c3, c4⟩, ⟨d1, d2, d3, d4⟩, -⟩ := id hR
  have o23 := lt8 (fR w 23 p) (by rw [c1]; decide) (by rw [c1]; decide)
  have o24 := lt8 (fR w 24 p) (by rw [d1]; decide) (by rw [d1]; decide)
  have o5 := lt8 (fR w 5 p) (by rw [b1]; decide) (by rw [b1]; decide)
  refine ⟨⟨W', L.fr3 W fr (fun x hx => by have := (hT x hx).2; omega), Nat.le_trans p8 fr.1⟩, hTP.fr (t _ (by rw [t7]; decide)) (fun i => ob.eaI o7 i) (pf 7 (by simp)).2 (pf 8 (by simp)).1 (F8 1 (by decide)).1 (F8 0 (by decide)).2, ⟨by rw [(pf 21 (by simp)).1, (F8 7 (by decide)).1]; exact hf1, by rw [(pf 2 (by simp)).1, (F8 11 (by decide)).1]; exact hf2⟩, r1, Or.inr ⟨⟨by rw [(pf 22 (by simp)).1]; exact h22.1, by rw [(F8 9 (by decide)).1]; exact h22.2⟩, ?_⟩, ?_⟩
  · exact hB.fr2 W fr W' (fun x hx => Or.inr (Or.inr (Or.inr (hT x hx).1))) K' kx (fun g _ => (pf g (by simp)).2) (fun i => ob.eaR o5 i) (pf 6 (by simp)).1 e47 hF
  · refine hR.fr t (fun g hg => (pf g (by simp)).2) (fun i => ob.eaI o23 i) (fun i => ob.eaI o24 i) (fun q1 q2 i => ?_) ⟨Nat.le_of_eq r2, fun v _ => r3 v⟩ (fun g hg => F8 g (by omega))
    exact ob.eaR (lt8 (fR w 26 p) (by rw [q1]; decide) (by rw [q1]; decide)) i
/-- is it a function -/
theorem sC_isFn {x : Int} (h : INV p w τ) {Q : ZRes → CW → Prop} (h1 : ∀ f : Nat, x = f → f < nF τ → TXB p w τ → (fI w 22 p = 1 ∧ tI τ 9 = 1) → ff_isFunction x τ = 1 → Q (.inl (some (ai 1))) w) (h0 : ff_isFunction x τ = 0 → Q (.inl (some (ai 0))) w) : wpC p (d + 2) 48 [ar p, ai x] w Q := by
  obtain ⟨-, -, -, -, hT, -⟩ := h
  have hm : fI w 6 p = tI τ 41 ∧ 0 ≤ tI τ 41 ∧ tI τ 41 ≤ 12 ∧ (0 < tI τ 41 → TXB p w τ ∧ (fI w 22 p = 1 ∧ tI τ 9 = 1)) := by
    rcases hT with ⟨-, -, ⟨-, a, b⟩, -⟩ | ⟨h22, B⟩
    · exact ⟨by omega, by omega, by omega, fun y => by omega⟩
    · obtain ⟨-, ⟨-, b5, b6, b7, -⟩, -⟩ := id B
      exact ⟨by omega, by omega, by omega, fun _ => ⟨B, h22⟩⟩
  obtain ⟨m1, m2, m3, m4⟩ := hm
  refine wC_X0_isFunction (Nat.zero_le _) (bC_X0_isFunction_0 (wC_X0_isIn (Nat.zero_le _) (fa ?_)))
  have ew : w32 (tI τ 41 - 1) = tI τ 41 - 1 := w32_s (by omega) (by omega)
  rw [m1, ew]
  have ef : ff_isFunction x τ = if 0 ≤ x ∧ x < tI τ 41 then 1 else 0 := by
    unfold ff_isFunction ff_in
    rw [ew]
    by_cases z : 0 ≤ x ∧ x < tI τ 41
    · rw [if_pos z, if_pos (by omega)]
    · rw [if_neg z, if_neg (by omega)]
  by_cases z : 0 ≤ x ∧ x < tI τ 41
  · rw [if_pos (by omega)]
    rw [if_pos z] at ef
    obtain ⟨B, h22⟩ := m4 (by omega)
    obtain ⟨f, hf⟩ : ∃ f : Nat, x = f := ⟨x.toNat, by omega⟩
    have hn : (nF τ : Int) = tI τ 41 := B.2.1.2.2.1.symm
    exact ⟨Or.inr rfl, h1 f hf (by omega) B h22 ef⟩
  · rw [if_neg (by omega)]
    rw [if_neg z] at ef
    exact ⟨Or.inl rfl, h0 ef⟩
end ZRemk2
