/-! a text whose trees are too large: both forget it -/
section ZFull
variable {p b e d f F n lo wy A : Nat} {w w' w0 : CW} {τ σ : TW}
/-- as VF, but rows of places too may change -/
def VF2 (p : Nat) (w w' : CW) : Prop := (cz w ≤ cz w' ∧ cu w ≤ cu w' ∧ w'.2.2.2.2.2.2.2.2 = w.2.2.2.2.2.2.2.2) ∧ (∀ r, r ≤ cz w → tg w' r = tg w r ∧ ln w' r = ln w r) ∧
  ∀ r, r ≤ cz w → r ≠ p → (tg w r < 3 ∨ 5 < tg w r) → tg w r ≠ 115 → r ≠ fR w 0 p → r ≠ fR w 5 p → r ≠ fR w 15 p → r ≠ fR w 16 p → ob w' r = ob w r
theorem VF.two (h : VF p w w') : VF2 p w w' := ⟨h.1, h.2.1, fun r h1 h2 h3 _ h4 h5 h6 h7 => h.2.2 r h1 h2 h3 h4 h5 h6 h7⟩
theorem VF2.step {w1 w2 : CW} (h : VF2 p w w1) (hz : cz w1 ≤ cz w2 ∧ cu w1 ≤ cu w2 ∧ w2.2.2.2.2.2.2.2.2 = w1.2.2.2.2.2.2.2.2) (ht : ∀ r, r ≤ cz w1 → tg w2 r = tg w1 r ∧ ln w2 r = ln w1 r) (ho : ∀ r, r ≤ cz w1 → r ≠ p → (tg w1 r < 3 ∨ 5 < tg w1 r) → tg w1 r ≠ 115 → r ≠ fR w 0 p → r ≠ fR w 5 p → r ≠ fR w 15 p → r ≠ fR w 16 p → ob w2 r = ob w1 r) : VF2 p w w2 := by
  obtain ⟨⟨a1, a2, a3⟩, a4, a5⟩ := h
  refine ⟨⟨Nat.le_trans a1 hz.1, Nat.le_trans a2 hz.2.1, hz.2.2.trans a3⟩, fun r hr => ⟨(ht r (by omega)).1.trans (a4 r hr).1, (ht r (by omega)).2.trans (a4 r hr).2⟩, fun r h1 h2 h3 h3' h4 h5 h6 h7 => (ho r (by omega) h2 (by rw [(a4 r h1).1]; exact h3) (by rw [(a4 r h1).1]; exact h3') h4 h5 h6 h7).trans (a5 r h1 h2 h3 h3' h4 h5 h6 h7)⟩
theorem VF2.fr {w1 w2 : CW} {T : List Nat} (h : VF2 p w w1) (F : Fr T w1 w2) (hT : ∀ x, x ∈ T → x = p ∨ (3 ≤ tg w1 x ∧ tg w1 x ≤ 5) ∨ tg w1 x = 115) : VF2 p w w2 := h.step ⟨F.1, F.2.1, F.2.2.1⟩ F.2.2.2.1 (fun r h1 h2 h3 h4 _ _ _ _ => F.2.2.2.2 r h1 (fun y => by have := hT r y; omega))
theorem Lit.vf2 (h : Lit p w) (W : WF p w) (V : VF2 p w w') (a0 : p < fR w 0 p) (a5 : p < fR w 5 p) (a15 : p < fR w 15 p) (a16 : p < fR w 16 p) : Lit p w' := by
  have hp := W.pz
  intro k s hs
  obtain ⟨h1, h2, h3⟩ := h k s hs
  have e : sr w' k = sr w k := congrArg (fun x => x.2.2.2 k) V.1.2.2
  have t1 : tg w (sr w k) = 32 ∨ tg w (sr w k) = 34 := h1.1
  have t2 : tg w (fR w 123 (sr w k)) = 101 ∨ tg w (fR w 123 (sr w k)) = 106 := h1.2.2.1
  have o1 := V.2.2 (sr w k) (by omega) (by omega) (by omega) (by omega) (by omega) (by omega) (by omega) (by omega)
  have o2 := V.2.2 (fR w 123 (sr w k)) (by omega) (by omega) (by omega) (by omega) (by omega) (by omega) (by omega) (by omega)
  rw [e]
  exact ⟨h1.st o1 o2, h2, by rw [ob.efR o1]; exact h3⟩
theorem NT.arr2 (W : WF p w) (hK : KA p w) (hF : FA p w) (hNA : NA p w) (V : VF2 p w w') (P : PF SRC3 p w w') : KA p w' ∧ FA p w' ∧ NA p w' := by
  have tg' : ∀ r, tg w r ≠ 0 → tg w' r = tg w r ∧ ln w' r = ln w r := fun r hr => V.2.1 r (W.le hr)
  obtain ⟨a1, a2, a3, a4, a5⟩ := hK
  obtain ⟨f1, f2, f3, f4⟩ := hF
  obtain ⟨⟨k1, k2, k3, k4⟩, k5, k6, k7, k8⟩ := hNA
  have x0 := tg' _ (show tg w (fR w 0 p) ≠ 0 by rw [show tg w (fR w 0 p) = 112 from a1]; decide)
  have x5 := tg' _ (show tg w (fR w 5 p) ≠ 0 by rw [f1]; decide)
  have x15 := tg' _ (show tg w (fR w 15 p) ≠ 0 by rw [show tg w (fR w 15 p) = 103 from k1]; decide)
  have x16 := tg' _ (show tg w (fR w 16 p) ≠ 0 by rw [show tg w (fR w 16 p) = 102 from k5]; decide)
  refine ⟨?_, ?_, ?_⟩
  · unfold KA
    rw [(P 0 (by decide)).2]
    exact ⟨x0.1.trans a1, x0.2.trans a2, a3, a4, by have := V.1.1; omega⟩
  · unfold FA
    rw [(P 5 (by decide)).2]
    exact ⟨x5.1.trans f1, x5.2.trans f2, f3, f4⟩
  · unfold NA
    rw [(P 15 (by decide)).2, (P 16 (by decide)).2]
    exact ⟨⟨x15.1.trans k1, x15.2.trans k2, k3, k4⟩, x16.1.trans k5, x16.2.trans k6, k7, k8⟩
theorem flW_vf2 {w1 : CW} {how : Int} (V : VF2 p w w1) (p0 : fR w1 0 p = fR w 0 p) (p5 : fR w1 5 p = fR w 5 p) : VF2 p w (flW w1 p how) := by
  refine V.step ⟨Nat.le_refl _, Nat.le_refl _, rfl⟩ (fun r _ => ⟨rfl, rfl⟩) (fun r h1 h2 h3 h3' h4 h5 h6 h7 => ?_)
  unfold ob
  refine Prod.ext rfl (Prod.ext rfl (Prod.ext (funext fun f => ?_) (Prod.ext rfl (Prod.ext rfl (funext fun i => ?_)))))
  · show (if f = 8 ∧ r = p then (0 : Int) else if f = 6 ∧ r = p then 0 else if f = 1 ∧ r = p then 0 else if f = 21 ∧ r = p then how else fI w1 f r) = fI w1 f r
    rw [if_neg (by omega), if_neg (by omega), if_neg (by omega), if_neg (by omega)]
  · show (if r = fR w1 5 p ∧ 0 ≤ i ∧ i < _ then 0 else if r = fR w1 0 p ∧ 0 ≤ i ∧ i < _ then 0 else aR w1 r i) = aR w1 r i
    rw [if_neg (by rw [p5]; omega), if_neg (by rw [p0]; omega)]
/-- both have refused a text -/
def RFX (p : Nat) (w : CW) (τ : TW) (w' : CW) (τ' : TW) : Prop := (VF2 p w w' ∧ PF SRC3 p w w') ∧ (NT p w' τ' ∧ fI w' 21 p = tI τ' 7) ∧ zm w' ≤ zm w + 6500 * tI τ 1 + 2200 ∧ (tI τ' 10 = 0 ∧ tI τ' 41 = 0 ∧ tI τ' 1 = 0 ∧ tI τ' 11 = 0) ∧ ∀ g, 109 ≤ g → tI τ' g = tI τ g ∧ tA τ' g = tA τ g
theorem nt_full {w1 : CW} {τ1 : TW} {S : List Nat} (h : NT p w τ) (V : VF2 p w w1) (P : PF SRC3 p w w1) (W1 : WF p w1) (h21 : fI w1 21 p = tI τ1 7) (h1' : tI τ1 1 = 0) (h11 : tI τ1 11 = 0) (hz : zm w1 ≤ zm w + 6500 * tI τ 1 + 2200) (F : FT S τ τ1) (hS : ∀ g, g ∈ S → g < 109) : RFX p w τ (pI (clW w1 p) 8 p 0) (sI (sI (sI τ1 9 0) 10 0) 41 0) := by
  obtain ⟨⟨W, L, T0, R⟩, ⟨h22, h9⟩, ⟨hKA, h1⟩, ⟨hFA, h6⟩, hNA⟩ := h
  obtain ⟨how, hhow⟩ : ∃ how, how = fI w1 21 p := ⟨_, rfl⟩
  have ew : pI (clW w1 p) 8 p 0 = flW w1 p how := by
    unfold flW
    rw [pI_id hhow.symm]
  have V2 : VF2 p w (flW w1 p how) := flW_vf2 V (P 0 (by decide)).2 (P 5 (by decide)).2
  have P2 : PF SRC3 p w (flW w1 p how) := P.trans ((flW_pf W1 how).mono (by decide))
  obtain ⟨q1, q2, q3⟩ := NT.arr2 W hKA hFA hNA V2 P2
  have W2 : WF p (flW w1 p how) := by
    have a : WF p (wA (pI w1 21 p how) (clA (pI w1 21 p how) p (fI (pI w1 21 p how) 1 p) (fI (pI w1 21 p how) 6 p))) := W1.spI 21 p how
    exact ((a.set 1 0 (fun _ => by decide) (fun _ => by decide)).set 6 0 (fun _ => by decide) (fun _ => by decide)).spI 8 p 0
  have L2 := L.vf2 W V2 hKA.2.2.1 hFA.2.2.1 hNA.1.2.2.1 hNA.2.2.2.1
  have t7 := V2.2.1 (fR w 7 p) (W.le (by rw [show tg w (fR w 7 p) = 101 from R.1]; decide))
  have p7 : fR (flW w1 p how) 7 p = fR w 7 p := (P2 7 (by decide)).2
  obtain ⟨τ2, e2⟩ : ∃ τ2, τ2 = sI (sI (sI τ1 9 0) 10 0) 41 0 := ⟨_, rfl⟩
  have z1 : tI τ2 1 = 0 := by rw [e2, tI_sI, if_neg (by decide), tI_sI, if_neg (by decide), tI_sI, if_neg (by decide)]; exact h1'
  have z11 : tI τ2 11 = 0 := by rw [e2, tI_sI, if_neg (by decide), tI_sI, if_neg (by decide), tI_sI, if_neg (by decide)]; exact h11
  have z7 : tI τ2 7 = tI τ1 7 := by rw [e2, tI_sI, if_neg (by decide), tI_sI, if_neg (by decide), tI_sI, if_neg (by decide)]
  have F2 : FT ([9, 10, 41] ++ S) τ τ2 := by
    rw [e2]
    exact (((F.mono (fun g hg => List.mem_append_right _ hg)).ssI (by simp)).ssI (by simp)).ssI (by simp)
  rw [ew, ← e2]
  refine ⟨⟨V2, P2⟩, ⟨⟨⟨W2, L2, ⟨by rw [show tI τ2 1 = tI τ2 1 from rfl, z1]; exact Int.le_refl 0, by rw [show tI τ2 1 = tI τ2 1 from rfl, z1]; decide, fun k hk => ?_⟩, ⟨?_, ?_, ?_, fun k hk => ?_⟩⟩, ⟨((P2 22 (by decide)).1).trans h22, by rw [e2, tI_sI, if_neg (by decide), tI_sI, if_neg (by decide), tI_sI, if_pos rfl]⟩, ⟨q1, ?_⟩, ⟨q2, ?_⟩, q3⟩, ?_⟩, hz, ⟨by rw [e2, tI_sI, if_neg (by decide), tI_sI, if_pos rfl], by rw [e2, tI_sI, if_pos rfl], z1, z11⟩, fun g hg => ?_⟩
  · have hk : (k : Int) < tI τ2 1 := hk
    omega
  · show tg _ (fR (flW w1 p how) 7 p) = 101
    rw [p7, t7.1]; exact R.1
  · show ln _ (fR (flW w1 p how) 7 p) = 1600
    rw [p7, t7.2]; exact R.2.1
  · show fI (flW w1 p how) 8 p = tI τ2 1
    rw [z1]
    exact if_pos ⟨rfl, rfl⟩
  · have hk : (k : Int) < tI τ2 1 := hk
    omega
  · show (if 1 = 8 ∧ p = p then (0 : Int) else if 1 = 6 ∧ p = p then 0 else if 1 = 1 ∧ p = p then 0 else if 1 = 21 ∧ p = p then how else fI w1 1 p) = 0
    rw [if_neg (by omega), if_neg (by omega), if_pos ⟨rfl, rfl⟩]
  · show (if 6 = 8 ∧ p = p then (0 : Int) else if 6 = 6 ∧ p = p then 0 else if 6 = 1 ∧ p = p then 0 else if 6 = 21 ∧ p = p then how else fI w1 6 p) = 0
    rw [if_neg (by omega), if_pos ⟨rfl, rfl⟩]
  · show (if 21 = 8 ∧ p = p then (0 : Int) else if 21 = 6 ∧ p = p then 0 else if 21 = 1 ∧ p = p then 0 else if 21 = 21 ∧ p = p then how else fI w1 21 p) = tI τ2 7
    rw [if_neg (by omega), if_neg (by omega), if_neg (by omega), if_pos ⟨rfl, rfl⟩, z7, hhow]
    exact h21
  · have ng : g ∉ [9, 10, 41] ++ S := fun y => by
      rcases List.mem_append.mp y with y | y
      · simp at y; omega
      · have := hS g y; omega
    exact ⟨(F2 g ng).1, funext (F2 g ng).2⟩
theorem RFL.x {w' : CW} {τ' : TW} (h : RFL p w τ w' τ') (h0 : 0 ≤ tI τ 1) : RFX p w τ w' τ' := by
  obtain ⟨⟨a1, a2⟩, a3, a4, a5, a6⟩ := h
  refine ⟨⟨a1.two, a2⟩, a3, by omega, a6, fun g hg => ?_⟩
  have ng : g ∉ [41] ++ SRT3 := fun y => by
    have : ∀ g, g ∈ [41] ++ SRT3 → g < 109 := by decide
    have := this g y
    omega
  exact ⟨(a5 g ng).1, funext (a5 g ng).2⟩
end ZFull
