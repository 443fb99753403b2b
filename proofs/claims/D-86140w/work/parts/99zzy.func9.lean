/-! a function, both: the whole -/
section ZFunc9
variable {p b e d : Nat} {w : CW} {τ : TW}
theorem FN.nx {S S' : List Nat} {w' : CW} {τ' : TW} (h : FN p w τ) (hK : KA p w) (W : WF p w) (c : CF p [] S S' w τ w' τ') (hS : ∀ g, g ∈ S → g ≠ 0 ∧ g ≠ 5 ∧ g ≠ 6 := by decide) (hS' : ∀ g, g ∈ S' → g < 10 := by decide) : FN p w' τ' ∧ nF τ' = nF τ ∧ fR w' 5 p = fR w 5 p ∧ ∀ j : Nat, aR w' (fR w 5 p) j = aR w (fR w 5 p) j := by
  obtain ⟨⟨a1, a2, a3, a4⟩, b1, b2, b3, ⟨S, bS, b4⟩, b5⟩ := h
  have F' := c.2.2.2.1
  have nS : ∀ g, 10 ≤ g → g ∉ S' := fun g hg y => by have := hS' g y; omega
  have hT : ∀ x, x ∈ [p] → x ≤ p + 8 ∨ cz w < x := fun x hx => by rw [List.mem_singleton.mp hx]; left; omega
  have o5 := c.1.2.2.2.2 (fR w 5 p) (W.le (by rw [a1]; decide)) (by simp; omega)
  have p5 := (c.2.1 5 (fun y => (hS _ y).2.1 rfl)).2
  have p6 := (c.2.1 6 (fun y => (hS _ y).2.2 rfl)).1
  have en : nF τ' = nF τ := by unfold nF; rw [(F' 41 (nS _ (by decide))).1]
  have ef : ∀ f, fnr w' p f = fnr w p f := fun f => by unfold fnr; rw [p5]; exact ob.eaR o5 f
  have kk : KdK p w w' τ τ' := ⟨by unfold nK; rw [(F' 10 (nS _ (by decide))).1]; exact Nat.le_refl _, fun k _ => ⟨kd_fr2 hK c.1 (c.2.1 0 (fun y => (hS _ y).1 rfl)).2 (by have := hK.2.2.1; have : p < fR w 0 p := this; simp; omega) k, (F' 14 (nS _ (by decide))).2 _, fun _ _ => (F' 15 (nS _ (by decide))).2 _⟩⟩
  refine ⟨⟨⟨by rw [p5, ob.etg o5]; exact a1, by rw [p5, ob.eln o5]; exact a2, by rw [p5]; exact a3, by rw [p5]; exact a4⟩, by rw [p6, en]; exact b1, by rw [(F' 41 (nS _ (by decide))).1, en]; exact b2, by rw [en]; exact b3, ⟨S, by rw [en, np_ft F' (nS 16 (by decide))]; exact bS, fun f hf => ⟨(b4 f (by rw [en] at hf; exact hf)).1, ?_⟩⟩, fun f g q1 q2 => ?_⟩, en, p5, fun j => ob.eaR o5 j⟩
  · rw [en] at hf
    exact ((b4 f hf).2).fr W c.1 hT (ef f) ((F' 42 (nS _ (by decide))).2 _) ((F' 45 (nS _ (by decide))).2 _) kk (fun i _ => URk.ft F' (fun g hg => by have := hS' g hg; omega) f i)
  · rw [en] at q2
    rw [(F' 42 (nS _ (by decide))).2, (F' 42 (nS _ (by decide))).2]
    exact b5 f g q1 q2
theorem FS.nx {S S' : List Nat} {w' : CW} {τ' : TW} (h : FS p w τ) (c : CF p [] S S' w τ w' τ') (rb : RB p w' τ') (hS : ∀ g, g ∈ S → g ≠ 0 ∧ g ≠ 1 ∧ g ≠ 15 ∧ g ≠ 16 := by decide) (hS' : ∀ g, g ∈ S' → g < 10 := by decide) : FS p w' τ' := by
  obtain ⟨a1, a2, a3, a4, a5⟩ := h
  have F' := c.2.2.2.1
  have nS : ∀ g, 10 ≤ g → g ∉ S' := fun g hg y => by have := hS' g y; omega
  have en : np τ' = np τ := np_ft F' (nS _ (by decide))
  refine ⟨rb, a2.fr a1.1 c.1 c.2.1 (fun r hr => by cases hr) (fun y => (hS _ y).1 rfl) (fun y => (hS _ y).2.1 rfl) F' (fun g hg => by have := hS' g hg; omega), ?_, ?_, ?_⟩
  · obtain ⟨⟨k1, k2, k3, k4⟩, k5, k6, k7, k8⟩ := a3
    have t15 := c.1.2.2.2.1 (fR w 15 p) (a1.1.le (by rw [show tg w (fR w 15 p) = 103 from k1]; decide))
    have t16 := c.1.2.2.2.1 (fR w 16 p) (a1.1.le (by rw [show tg w (fR w 16 p) = 102 from k5]; decide))
    have p15 := (c.2.1 15 (fun y => (hS _ y).2.2.1 rfl)).2
    have p16 := (c.2.1 16 (fun y => (hS _ y).2.2.2 rfl)).2
    unfold NA
    rw [p15, p16]
    exact ⟨⟨t15.1.trans k1, t15.2.trans k2, k3, k4⟩, t16.1.trans k5, t16.2.trans k6, k7, k8⟩
  · rw [(F' 16 (nS _ (by decide))).1, en]; exact a4
  · rw [en]
    have y1 := c.2.2.2.2.1
    have y3 : tI τ 5 = tI τ 5 := rfl
    have y4 : tI τ' 5 = tI τ' 5 := rfl
    omega
/-- a function has just been read -/
def FNi (p nf F : Nat) (v : Int) (w : CW) (τ : TW) (w' : CW) (τ' : TW) : Prop := (∃ m i, GFn p w' τ' nf F m i (np τ)) ∧ UFo τ τ' nf ∧ fI w' 6 p = (nf + 1 : Nat) ∧ (∀ j : Nat, aR w' (fR w 5 p) j = if j = nf then F else aR w (fR w 5 p) j) ∧ tI τ' 41 = (nf + 1 : Nat) ∧ (∀ y : Nat, tA τ' 42 y = if y = nf then v else tA τ 42 y) ∧ (fR w' 5 p = fR w 5 p ∧ cz w < F)
abbrev SPX : List Nat := [2, 3, 4, 5, 6, 7, 8, 16, 17, 18, 19, 20, 21, 22, 23, 24, 25, 26, 27, 28, 29, 30, 31, 32, 33, 34, 35, 36, 37, 38, 39, 40, 41, 42, 43, 44, 45, 47, 48, 49, 50, 51, 52, 53, 54, 55, 56, 57, 58, 59, 60]
abbrev SPD : List Nat := [6, 9, 10, 11, 12, 13, 14, 17, 18, 19, 20]
theorem FNi.fn {nf F : Nat} {v : Int} {w' : CW} {τ' : TW} (h : FN p w τ) (hFS : FS p w τ) (hn : nF τ = nf) (n12 : nf < 12) (hv : ∀ k : Nat, k < nf → tA τ 42 k ≠ v) (n : FNi p nf F v w τ w' τ') (c : CF p [fR w 5 p, fR w 15 p, fR w 16 p] SPD SPX w τ w' τ') : FS p w' τ' ∧ FN p w' τ' := by
  obtain ⟨⟨m, i, G⟩, U, n6, n5, n41, n42, e5, hFz⟩ := n
  obtain ⟨⟨a1, a2, a3, a4⟩, b1, b2, b3, ⟨S, bS, b4⟩, b5⟩ := h
  have W := hFS.1.1
  have F' := c.2.2.2.1
  have hnA := hFS.2.2.1.1.2.2.2
  have hnB := hFS.2.2.1.2.2.2.2
  have t5 := c.1.2.2.2.1 (fR w 5 p) (W.le (by rw [a1]; decide))
  have en : nF τ' = nf + 1 := by unfold nF; rw [n41]; rfl
  have efn : ∀ j : Nat, fnr w' p j = if j = nf then F else fnr w p j := fun j => by unfold fnr; rw [e5]; exact n5 j
  have hT : ∀ x, x ∈ [p, fR w 5 p, fR w 15 p, fR w 16 p] → x ≤ p + 8 ∨ cz w < x := fun x hx => by
    simp only [List.mem_cons, List.not_mem_nil, or_false] at hx
    left
    rcases hx with hx | hx | hx | hx
    · omega
    · rw [hx]; exact a4
    · rw [hx]; exact hnA
    · rw [hx]; exact hnB
  have K0 := hFS.2.1.1
  have k0 : tg w (fR w 0 p) = 112 := K0.1
  have k15 : tg w (fR w 15 p) = 103 := hFS.2.2.1.1.1
  have k16 : tg w (fR w 16 p) = 102 := hFS.2.2.1.2.1
  have kk : KdK p w w' τ τ' := ⟨by unfold nK; rw [(F' 10 (by decide)).1]; exact Nat.le_refl _, fun k _ => ⟨kd_fr2 K0 c.1 (c.2.1 0 (by decide)).2 (fun y => by
    have kp : p < fR w 0 p := K0.2.2.1
    simp only [List.mem_cons, List.not_mem_nil, or_false] at y
    rcases y with y | y | y | y
    · omega
    · rw [y, a1] at k0; cases k0
    · rw [y, k15] at k0; cases k0
    · rw [y, k16] at k0; cases k0) k, (F' 14 (by decide)).2 _, fun _ _ => (F' 15 (by decide)).2 _⟩⟩
  refine ⟨G.1, ⟨by rw [e5]; exact t5.1.trans a1, by rw [e5]; exact t5.2.trans a2, by rw [e5]; exact a3, by rw [e5]; exact a4⟩, by rw [n6, en], by rw [n41, en], by rw [en]; omega, ⟨(fun j => if j = nf + 1 then np τ' else S j), by rw [en]; exact Nat.le_of_eq (if_pos rfl), fun f hf => ?_⟩, fun f g q1 q2 => ?_⟩
  · rw [en] at hf
    show (if f = nf + 1 then np τ' else S f) ≤ (if f + 1 = nf + 1 then np τ' else S (f + 1)) ∧ FL p w' τ' f (if f = nf + 1 then np τ' else S f) (if f + 1 = nf + 1 then np τ' else S (f + 1))
    rw [if_neg (by omega : ¬ f = nf + 1)]
    rw [hn] at bS b4
    by_cases z : f = nf
    · subst z
      obtain ⟨g1, g2, g3, g4, g5, g6, g7, g8⟩ := G
      have ee : fnr w' p f = F := by rw [efn, if_pos rfl]
      rw [if_pos rfl]
      obtain ⟨r1, r2, r3, s, r4, r5⟩ := g5
      have npm : np τ ≤ np τ' := (U.1 (f + 1) 0 (by decide) (by omega)).1
      exact ⟨by omega, m, i, by rw [ee]; exact g2, by rw [ee]; exact g3, g4, by rw [ee]; exact ⟨r1, r2, r3, s, ⟨by omega, r4.2⟩, r5⟩, by rw [ee]; exact g6⟩
    · rw [if_neg (by omega)]
      refine ⟨(b4 f (by omega)).1, ?_⟩
      exact ((b4 f (by omega)).2).fr W c.1 hT (by rw [efn, if_neg z]) (by rw [n42, if_neg z]) (U.2 f z) kk (fun i hi => U.1 f i hi z)
  · rw [en] at q2
    rw [n42, n42, if_neg (by omega)]
    by_cases z : g = nf
    · rw [if_pos z]; exact hv f (by omega)
    · rw [if_neg z]; exact b5 f g q1 (by omega)
end ZFunc9
