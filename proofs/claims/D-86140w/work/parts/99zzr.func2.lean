/-! a function's rules, both -/
section ZFunc2
variable {p b e d : Nat} {w : CW} {τ : TW}
/-- a sign that is at hand: next, and must -/
theorem OUT.mn {S S' T : List Nat} {c : Int} (h : RB p w τ) (hc : ff_isSign c τ ≠ 0) (hS : ∀ f, f ∈ [9, 10, 11, 12, 13, 14] → f ∈ S) (hS' : ∀ f, f ∈ [2, 3, 4, 5, 6] → f ∈ S') (hR : Rm 100 w τ) : OUT p T S S' (-5900) 13 (fun (_ : Unit) (_ : Unit) _ τ' => tI τ 5 + 1 ≤ tI τ' 5) (fun Q X => wpC p (d + 12) 4 [ar p] w (zqV (Q ()) X)) (fun Q => wpT (e + 6) 20 [ai c] τ (zqV (Q ()) zno)) w τ := by
  have h0 : tI τ 3 ≠ 0 := by
    intro y
    exact hc (ff_s0 (fun q => by have : tI τ 3 = 5 := q.1; have : tI τ 3 = tI τ 3 := rfl; omega))
  obtain ⟨w', τ', hcf, hp, run, g⟩ := nx (d := d) (e := e) (T := T) (S := S) (S' := S') h h0 hS hS' hR
  have hf := nxFrom hcf hp
  refine ⟨w', τ', (), hcf, fun Q hQ => sT_mustYes h.f0 hc run _ hQ, ?_⟩
  rcases g with ⟨rb, k⟩ | ⟨h, pl, x, wr, dd, k⟩
  · exact Or.inl ⟨(), rb, by omega, hf, fun Q X hQ => k _ hQ⟩
  · exact Or.inr ⟨h, pl, x, by omega, wr, dd, fun Q X hX => k _ hX⟩
/-- a dead rule -/
theorem dd_rule {h pl : Int} {f : Nat} (D : Dd h pl τ) (h0 : tI τ 7 = 0) (hf : f < 12) (h41 : (f : Int) < tI τ 41) (h43 : 1 ≤ tA τ 43 f) : ∃ σ', FT [7, 8, 27, 28, 31, 32, 48, 49] τ σ' ∧ Dd h pl σ' ∧ tI σ' 7 ≠ 0 ∧ ∀ Q : TW → Prop, Q σ' → wpT (e + 10) 23 [ai f] τ (zqV (fun u => Q u) zno) := by
  have hr : R45 τ := by
    rcases D.r45 with y | y
    · exact absurd h0 y
    · exact y
  obtain ⟨r1, r2⟩ := hr f h41
  obtain ⟨i, hi⟩ : ∃ i : Nat, tA τ 45 f = i := ⟨(tA τ 45 f).toNat, by omega⟩
  have hff : (0 : Int) ≤ (f : Int) ∧ (f : Int) < 12 := by omega
  obtain ⟨σ0, hσ0⟩ : ∃ σ0, σ0 = ruT τ (ruN f i) := ⟨_, rfl⟩
  have F0 : FT [27, 28, 31, 48, 49] τ σ0 := by rw [hσ0]; exact ruT_ft _ _
  have D0 := D.ft F0 (by decide)
  obtain ⟨much, hmu⟩ : ∃ v : Int, v = if i = 16 then 1 else 0 := ⟨_, rfl⟩
  have e44 : w32 ((w32 (3 * (f : Int))) + 0) = ((3 * f + 0 : Nat) : Int) := ix3 (n := 0) rfl rfl (by omega)
  obtain ⟨v24, hv⟩ : ∃ v : Int, v = (if ¬ (much = 0) ∧ ((0 : Int) = 0) then 1 else 0) := ⟨_, rfl⟩
  obtain ⟨σ', F, D', hn, run⟩ := dd_pattern (e := e) (x1 := tA σ0 44 (3 * f + 0 : Nat)) (x2 := v24) D0 ((F0 7 (by decide)).1.trans h0)
  refine ⟨σ', (F0.mono (by decide)).trans (F.mono (by decide)), D', hn, fun Q hQ => sT_rule (e := e) hf hi (by omega) hσ0 ?_⟩
  rw [← hmu]
  refine bT_readRule_85 (fun I hI => ?_)
  refine hI _ _ _ ⟨hff, br1 ⟨by rw [(F0 43 (by decide)).2]; omega, (F0 7 (by decide)).1.trans h0⟩ (br1 (Int.le_refl _) (bT_readRule_133 ⟨by rw [e44]; omega, fun v hv2 => ?_⟩))⟩
  rw [hv2, ← hv, e44]
  exact run _ (br0 hn (bT_readRule_171 hQ))
/-- the loops over rules -/
def feC (p M F : Nat) (Q : Unit → CW → Prop) (X : Nat → CW → Prop) (I206 : CW → Prop) : Prop := ∀ (w : CW), (
    wpC p M 16 [ar p, ai 125] w (zqI (fun v57 u56 =>
      (v57 = 0 →
        wpC p M 21 [ar p, ar F] u56 (zqV (fun u63 =>
          I206 u63) (fun x65 u66 =>
          X x65 u66))) ∧
      (¬ (v57 = 0) →
        pC_X0_readFunction_223 p (wpC p M) (fun w => Q () w) (fun x w => X x w) u56)) zno)) → I206 w
theorem pC_fe206 {M F : Nat} {Q : Unit → CW → Prop} {X : Nat → CW → Prop} {w : CW} : pC_X0_readFunction_206 p (wpC p M) (fun w => Q () w) (fun x w => X x w) F w = ∀ I, feC p M F Q X I → I w := rfl
def feT (M : Nat) (x1 : Int) (Q : Unit → TW → Prop) (I209 : TW → Prop) : Prop := ∀ (w : TW), (
    (((tI w 7) = 0) ∧ ((ff_isSign 125 w) = 0) →
      wpT M 23 [ai x1] w (zqV (fun u39 =>
        I209 u39) zno)) ∧
    (¬ (((tI w 7) = 0) ∧ ((ff_isSign 125 w) = 0)) →
      pT_readFunction_233 (wpT M) (fun w => Q () w) w)) → I209 w
theorem pT_fe209 {M : Nat} {x1 : Int} {Q : Unit → TW → Prop} {w : TW} : pT_readFunction_209 (wpT M) (fun w => Q () w) x1 w = ∀ I, feT M x1 Q I → I w := rfl
theorem fe_dead0 {h pl : Int} {f : Nat} (D : Dd h pl τ) (h0 : tI τ 7 ≠ 0) : DD [7, 8] h pl (tmL (feT (e + 10) f) (fun (_ : Unit → TW → Prop) I => I τ)) τ :=
  DD.gT (G' := fun Q _ => wpT (e + 10) 20 [ai 125] τ (zqV (fun u => Q () u) zno)) (fun Q I l k => l τ (br0 (fun y => h0 y.1) (bT_readFunction_233 k))) (DD.gO (D.must (e := e + 6)))
theorem fe_dead {h pl : Int} {f : Nat} (D : Dd h pl τ) (hf : f < 12) (h41 : (f : Int) < tI τ 41) (h43 : 1 ≤ tA τ 43 f) : DD [7, 8, 27, 28, 31, 32, 48, 49] h pl (tmL (feT (e + 10) f) (fun (_ : Unit → TW → Prop) I => I τ)) τ := by
  by_cases h0 : tI τ 7 = 0
  · obtain ⟨σ', F, D', hn, run⟩ := dd_rule (e := e) D h0 hf h41 h43
    refine DD.pre (tm' := tmL (feT (e + 10) f) (fun _ I => I σ')) F (fun Q k I l => l τ (br1 ⟨h0, (D.ns h0 125).1⟩ (run _ (k I l)))) ?_
    exact (fe_dead0 (e := e) D' hn).mono
  · exact (fe_dead0 (e := e) D h0).mono
/-- i rules are read -/
def GFn (p : Nat) (w : CW) (τ : TW) (f F m i lo : Nat) : Prop := FS p w τ ∧ FH p w τ f F ∧ FC w τ f F m ∧ 1 ≤ m ∧ FRs p w τ f F i lo (np τ) ∧ fI w 51 F = 0 ∧ f < 12 ∧ (f : Int) < tI τ 41
/-- other functions' rows stay -/
def UFo (τ τ' : TW) (f : Nat) : Prop := (∀ f' i', i' < 16 → f' ≠ f → URk τ τ' f' i') ∧ ∀ y : Nat, y ≠ f → tA τ' 45 y = tA τ 45 y
theorem UFo.trans {τ1 τ2 : TW} {f : Nat} (h : UFo τ τ1 f) (k : UFo τ1 τ2 f) : UFo τ τ2 f := ⟨fun f' i' h1 h2 => (h.1 f' i' h1 h2).trans (k.1 f' i' h1 h2), fun y hy => (k.2 y hy).trans (h.2 y hy)⟩
theorem UFo.ft {S : List Nat} {τ' : TW} (F : FT S τ τ') (hS : ∀ f, f ∈ S → f < 16 ∨ 60 < f) (f : Nat) : UFo τ τ' f := ⟨fun f' i' _ _ => URk.ft F hS f' i', fun y _ => (F 45 (fun z => by have := hS _ z; omega)).2 _⟩
/-- a token more -/
theorem GFn.nx {f F m i lo : Nat} {S S' : List Nat} {w' : CW} {τ' : TW} (h : GFn p w τ f F m i lo) (c : CF p [] S S' w τ w' τ') (rb : RB p w' τ') (hS : ∀ g, g ∈ S → g ≠ 0 ∧ g ≠ 1 ∧ g ≠ 15 ∧ g ≠ 16 := by decide) (hS' : ∀ g, g ∈ S' → g < 10 := by decide) : GFn p w' τ' f F m i lo := by
  obtain ⟨⟨a1, a2, a3, a4, a5⟩, b1, b2, b3, b4, b5, b6, b7⟩ := h
  have F' := c.2.2.2.1
  have nS : ∀ g, 10 ≤ g → g ∉ S' := fun g hg y => by have := hS' g y; omega
  have hT : ∀ x, x ∈ [p] → x ≤ p + 8 ∨ cz w < x := fun x hx => by rw [List.mem_singleton.mp hx]; left; omega
  have K0 := a2.1
  have kk : KdK p w w' τ τ' := ⟨by unfold nK; rw [(F' 10 (nS _ (by decide))).1]; exact Nat.le_refl _, fun k _ => ⟨kd_fr2 K0 c.1 (c.2.1 0 (fun y => (hS _ y).1 rfl)).2 (by have := K0.2.2.1; have : p < fR w 0 p := this; simp; omega) k, (F' 14 (nS _ (by decide))).2 _, fun _ _ => (F' 15 (nS _ (by decide))).2 _⟩⟩
  have oF := c.1.2.2.2.2 F (a1.1.le (by rw [b1.1.1]; decide)) (by have := b1.1.2.1; simp; omega)
  have en : np τ' = np τ := np_ft F' (nS _ (by decide))
  refine ⟨⟨rb, a2.fr a1.1 c.1 c.2.1 (fun r hr => by cases hr) (fun y => (hS _ y).1 rfl) (fun y => (hS _ y).2.1 rfl) F' (fun g hg => by have := hS' g hg; omega), ?_, ?_, ?_⟩, b1.fr a1.1 c.1 hT ((F' 42 (nS _ (by decide))).2 _), b2.fr b1 a1.1 c.1 hT ((F' 43 (nS _ (by decide))).2 _) (fun j _ => (F' 44 (nS _ (by decide))).2 _) kk.1, b3, by rw [en]; exact b4.fr b1 a1.1 c.1 hT ((F' 45 (nS _ (by decide))).2 _) kk (fun i _ => URk.ft F' (fun g hg => by have := hS' g hg; omega) f i), by rw [ob.efI oF]; exact b5, b6, by rw [(F' 41 (nS _ (by decide))).1]; exact b7⟩
  · obtain ⟨⟨k1, k2, k3, k4⟩, k5, k6, k7, k8⟩ := a3
    have t15 := c.1.2.2.2.1 (fR w 15 p) (a1.1.le (by rw [show tg w (fR w 15 p) = 103 from k1]; decide))
    have t16 := c.1.2.2.2.1 (fR w 16 p) (a1.1.le (by rw [show tg w (fR w 16 p) = 102 from k5]; decide))
    have p15 := (c.2.1 15 (fun y => (hS _ y).2.2.1 rfl)).2
    have p16 := (c.2.1 16 (fun y => (hS _ y).2.2.2 rfl)).2
    unfold NA
    rw [p15, p16]
    exact ⟨⟨t15.1.trans k1, t15.2.trans k2, k3, k4⟩, t16.1.trans k5, t16.2.trans k6, k7, k8⟩
  · rw [(F' 16 (nS _ (by decide))).1, en]; exact a4
  · rw [en]
    have y1 := c.2.2.2.2.1
    have y3 : tI τ 5 = tI τ 5 := rfl
    have y4 : tI τ' 5 = tI τ' 5 := rfl
    omega
end ZFunc2
