/-! a function behind its columns, both -/
section ZFunc5
variable {p b e d : Nat} {w : CW} {τ : TW}
theorem GCn.nx {f F m : Nat} {S S' : List Nat} {w' : CW} {τ' : TW} (h : GCn p w τ f F m) (c : CF p [] S S' w τ w' τ') (rb : RB p w' τ') (hS : ∀ g, g ∈ S → g ≠ 0 ∧ g ≠ 1 ∧ g ≠ 15 ∧ g ≠ 16 := by decide) (hS' : ∀ g, g ∈ S' → g < 10 := by decide) : GCn p w' τ' f F m := by
  obtain ⟨⟨a1, a2, a3, a4, a5⟩, b1, b2, ⟨b3, b4⟩, b5, b6, b7⟩ := h
  have F' := c.2.2.2.1
  have nS : ∀ g, 10 ≤ g → g ∉ S' := fun g hg y => by have := hS' g y; omega
  have hT : ∀ x, x ∈ [p] → x ≤ p + 8 ∨ cz w < x := fun x hx => by rw [List.mem_singleton.mp hx]; left; omega
  have oF := c.1.2.2.2.2 F (a1.1.le (by rw [b1.1.1]; decide)) (by have := b1.1.2.1; simp; omega)
  have en : np τ' = np τ := np_ft F' (nS _ (by decide))
  refine ⟨⟨rb, a2.fr a1.1 c.1 c.2.1 (fun r hr => by cases hr) (fun y => (hS _ y).1 rfl) (fun y => (hS _ y).2.1 rfl) F' (fun g hg => by have := hS' g hg; omega), ?_, ?_, ?_⟩, b1.fr a1.1 c.1 hT ((F' 42 (nS _ (by decide))).2 _), b2.fr b1 a1.1 c.1 hT ((F' 43 (nS _ (by decide))).2 _) (fun j _ => (F' 44 (nS _ (by decide))).2 _) (by unfold nK; rw [(F' 10 (nS _ (by decide))).1]; exact Nat.le_refl _), ⟨by rw [(F' 45 (nS _ (by decide))).2]; exact b3, by rw [ob.efI oF]; exact b4⟩, by rw [ob.efI oF]; exact b5, b6, by rw [(F' 41 (nS _ (by decide))).1]; exact b7⟩
  · obtain ⟨⟨k1, k2, k3, k4⟩, k5, k6, k7, k8⟩ := a3
    have t15 := c.1.2.2.2.1 (fR w 15 p) (a1.1.le (by rw [show tg w (fR w 15 p) = 103 from k1]; decide))
    have t16 := c.1.2.2.2.1 (fR w 16 p) (a1.1.le (by rw [show tg w (fR w 16 p) = 102 from k5]; decide))
    have p15 := (c.2.1 15 (fun y => (hS _ y).2.2.1 rfl)).2
    have p16 := (c.2.1 16 (fun y => (hS _ y).2.2.2 rfl)).2
    unfold NA
    rw [p15, p16]
    exact ⟨⟨t15.1.trans k1, t15.2.trans k2, k3, k4⟩, t16.1.trans k5, t16.2.trans k6, k7, k8⟩
  · rw [(F' 16 (nS _ (by decide))).1, en]; exact a4
  · rw [en]
    have y1 := c.2.2.2.2.1
    have y3 : tI τ 5 = tI τ 5 := rfl
    have y4 : tI τ' 5 = tI τ' 5 := rfl
    omega
theorem uf_end {f F m M n15 n16 : Nat} {T S S' : List Nat} {u : CW} {σ : TW} (hT : n15 ∈ T ∧ n16 ∈ T ∧ F ∈ T ∧ F + 2 ∈ T) (hS : ∀ g, g ∈ SPC → g ∈ S) (hS' : ∀ g, g ∈ SPV → g ∈ S') (hG : GCn p u σ f F m) (m1 : 1 ≤ m) (hn : fR u 15 p = n15 ∧ fR u 16 p = n16) (hR : Rm 8000 u σ) :
    OUTb p b T S S' (-17700) 700 (fun (_ : Unit) (_ : Unit) w' τ' => (∃ m i, GFn p w' τ' f F m i (np σ)) ∧ UFo σ τ' f) (fun Q X => pC_X0_readFunction_186 p (wpC p (M + 40)) (fun w => Q () w) (fun x w => X x w) F u) (fun Q => pT_readFunction_197 (wpT (e + 10)) (fun w => Q () w) f σ) u σ := by
  have inS : ∀ g, g ∈ [9, 10, 11, 12, 13, 14] → g ∈ S := fun g hg => hS g ((by decide : ∀ g, g ∈ [9, 10, 11, 12, 13, 14] → g ∈ SPC) g hg)
  have inS' : ∀ g, g ∈ [2, 3, 4, 5, 6, 7, 8] → g ∈ S' := fun g hg => hS' g ((by decide : ∀ g, g ∈ [2, 3, 4, 5, 6, 7, 8] → g ∈ SPV) g hg)
  have in78 : ∀ g, g ∈ [7, 8] → g ∈ S' := fun g hg => hS' g ((by decide : ∀ g, g ∈ [7, 8] → g ∈ SPV) g hg)
  have f12 := hG.2.2.2.2.2.1
  have f41 := hG.2.2.2.2.2.2
  have e43 := hG.2.2.1.1
  refine OUTb.bVV hR (OUT.skip (d := M + 27) (e := e + 4) (T := []) (S := [9, 10, 11, 12, 13, 14]) (S' := [2, 3, 4, 5, 6, 7, 8]) (c := 41) hG.1.1 (by decide) (fun f hf => hf) (fun f hf => hf) (hR.le (by decide))) (fun Q X h => bC_X0_readFunction_186 h) (fun Q h => bT_readFunction_197 h) (fun _ _ u1 σ1 rb1 _ k1 hR1 => ?_) (fun h pl σ1 D F1 => (uf_dead123 (e := e) D).mono in78) (hS := inS) (hS' := inS')
  have G1 := hG.nx k1 rb1
  have F1 := k1.2.2.2.1
  have hn1 : fR u1 15 p = n15 ∧ fR u1 16 p = n16 := ⟨by rw [(k1.2.1 15 (by decide)).2]; exact hn.1, by rw [(k1.2.1 16 (by decide)).2]; exact hn.2⟩
  have hroom := Rm.room rb1 hR1 (k := 1) (n := 8) (by decide)
  by_cases z : ff_isSign 123 σ1 = 0
  · obtain ⟨σ3, ⟨a3, b3, c3⟩, run3⟩ := RB.must (e := e + 4) rb1 z
    refine OUTb.thr (how := 2) (pl := tI σ1 5) rb1 (fun Q X h => sR_isSign (d := M + 39) rb1 (by decide) (rb1.wantNo (d := M + 35) z hroom h)) (DD.mono (S1 := [7, 8]) (DD.pre (tm' := fun (Q : Unit → TW → Prop) => pT_readFunction_209 (wpT (e + 10)) (fun w => Q () w) f σ3) (S1 := [7, 8]) a3 (fun Q k => run3 _ k) ?_) in78)
    rw [pT_fe209']
    exact fe_dead0 (e := e) b3 c3
  · refine OUTb.cc (fun Q X h => sR_isSign (d := M + 39) rb1 (by decide) (sC_want (d := M + 38) z h)) ?_
    refine OUTb.bVV hR1 (OUT.mn (d := M + 28) (e := e + 4) (T := []) (S := [9, 10, 11, 12, 13, 14]) (S' := [2, 3, 4, 5, 6]) rb1 z (fun f hf => hf) (fun f hf => hf) (hR1.le (by decide))) (fun Q X h => h) (fun Q h => h) (fun _ _ u2 σ2 rb2 n2 k2 hR2 => ?_) (fun h pl σ2 D F2 => ?_) (hS := inS) (hS' := fun g hg => inS' g ((by decide : ∀ g, g ∈ [2, 3, 4, 5, 6] → g ∈ [2, 3, 4, 5, 6, 7, 8]) g hg))
    · have G2 := (G1.nx k2 rb2).gf m1
      rw [np_ft k2.2.2.2.1 (by decide), np_ft F1 (by decide)] at G2
      have hn2 : fR u2 15 p = n15 ∧ fR u2 16 p = n16 := ⟨by rw [(k2.2.1 15 (by decide)).2]; exact hn1.1, by rw [(k2.2.1 16 (by decide)).2]; exact hn1.2⟩
      refine OUTb.cc (cm' := cmG (feC p (M + 40) F) (fun (_ : Unit → CW → Prop) (_ : Nat → CW → Prop) I => I u2)) (fun Q X h => h) (OUTb.tt (tm' := tmL (feT (e + 10) f) (fun (_ : Unit → TW → Prop) I => I σ2)) (fun Q h => h) ?_)
      refine ((fe_loop (e := e) (M := M) (b := b) hT hS (fun g hg => hS' g ((by decide : ∀ g, g ∈ SPU → g ∈ SPV) g hg)) _ 0 u2 σ2 (Nat.le_refl _) G2 hn2 (hR2.le (by decide))).nn (fun v v' w' τ' _ _ n => ?_)).le
      exact ⟨⟨m, n.1⟩, ((UFo.ft F1 (by decide) f).trans (UFo.ft k2.2.2.2.1 (by decide) f)).trans n.2⟩
    · rw [pT_fe209']
      exact (fe_dead (e := e) D f12 (by rw [(F2 41 (by decide)).1, (F1 41 (by decide)).1]; exact f41) (by rw [(F2 43 (by decide)).2, (F1 43 (by decide)).2, e43]; omega)).mono (fun g hg => hS' g ((by decide : ∀ g, g ∈ [7, 8, 27, 28, 31, 32, 48, 49] → g ∈ SPV) g hg))
end ZFunc5
