/-! a text that is wrong: both forget it -/
section ZClear
variable {p b e d : Nat} {w : CW} {τ : TW}
def wA (w : CW) (A : Nat → Int → Nat) : CW := (w.1, w.2.1, w.2.2.1, w.2.2.2.1, w.2.2.2.2.1, A, w.2.2.2.2.2.2)
theorem wA_id : wA w (aR w) = w := rfl
/-- kinds up to j, functions up to k are forgotten -/
def clA (w : CW) (p : Nat) (j k : Int) : Nat → Int → Nat := fun r i => if r = fR w 5 p ∧ 0 ≤ i ∧ i < k then 0 else if r = fR w 0 p ∧ 0 ≤ i ∧ i < j then 0 else aR w r i
theorem clA_00 : clA w p 0 0 = aR w := by
  funext r i
  unfold clA
  rw [if_neg (by omega), if_neg (by omega)]
theorem clA_j {j : Int} (h : 0 ≤ j) : qR (wA w (clA w p j 0)) (fR w 0 p) j 0 = wA w (clA w p (j + 1) 0) := by
  unfold qR wA
  refine Prod.ext rfl (Prod.ext rfl (Prod.ext rfl (Prod.ext rfl (Prod.ext rfl (Prod.ext (funext fun r => funext fun i => ?_) rfl)))))
  show (if r = fR w 0 p ∧ i = j then 0 else clA w p j 0 r i) = clA w p (j + 1) 0 r i
  unfold clA
  rw [if_neg (show ¬ (r = fR w 5 p ∧ 0 ≤ i ∧ i < 0) by omega), if_neg (show ¬ (r = fR w 5 p ∧ 0 ≤ i ∧ i < 0) by omega)]
  by_cases z : r = fR w 0 p ∧ i = j
  · rw [if_pos z, if_pos ⟨z.1, by omega, by omega⟩]
  · rw [if_neg z]
    by_cases y : r = fR w 0 p ∧ 0 ≤ i ∧ i < j
    · rw [if_pos y, if_pos ⟨y.1, by omega, by omega⟩]
    · rw [if_neg y, if_neg (fun q => by
        rcases Int.lt_trichotomy i j with u | u | u
        · exact y ⟨q.1, q.2.1, u⟩
        · exact z ⟨q.1, u⟩
        · omega)]
theorem clA_k {n k : Int} (h : 0 ≤ k) : qR (wA w (clA w p n k)) (fR w 5 p) k 0 = wA w (clA w p n (k + 1)) := by
  unfold qR wA
  refine Prod.ext rfl (Prod.ext rfl (Prod.ext rfl (Prod.ext rfl (Prod.ext rfl (Prod.ext (funext fun r => funext fun i => ?_) rfl)))))
  show (if r = fR w 5 p ∧ i = k then 0 else clA w p n k r i) = clA w p n (k + 1) r i
  unfold clA
  by_cases z : r = fR w 5 p ∧ i = k
  · rw [if_pos z, if_pos ⟨z.1, by omega, by omega⟩]
  · rw [if_neg z]
    by_cases y : r = fR w 5 p ∧ 0 ≤ i ∧ i < k
    · rw [if_pos y, if_pos ⟨y.1, by omega, by omega⟩]
    · rw [if_neg y, if_neg (show ¬ (r = fR w 5 p ∧ 0 ≤ i ∧ i < k + 1) from fun q => by
        rcases Int.lt_trichotomy i k with u | u | u
        · exact y ⟨q.1, q.2.1, u⟩
        · exact z ⟨q.1, u⟩
        · omega)]
def clW (w : CW) (p : Nat) : CW := pI (pI (wA w (clA w p (fI w 1 p) (fI w 6 p))) 1 p 0) 6 p 0
theorem sC_clear (W : WF p w) (hK : KA p w) (hFA : FA p w) {Q : ZRes → CW → Prop} (hQ : Q (.inl none) (clW w p)) : wpC p (d + 1) 44 [ar p] w Q := by
  obtain ⟨-, -, -, ⟨b1, b2⟩, b3, b4⟩ := W
  obtain ⟨k1, k2, k3, k4, k5⟩ := hK
  obtain ⟨f1, f2, f3, f4⟩ := hFA
  have k1 : tg w (fR w 0 p) = 112 := k1
  have k2 : ln w (fR w 0 p) = 24 := k2
  refine wC_X0_clear (Nat.zero_le _) (bC_X0_clear_0 (bC_X0_clear_2 ?_))
  intro I hI
  have two : pC_X0_clear_23 p (wpC p d) (fun w => Q (.inl none) w) (wA w (clA w p (fI w 1 p) 0)) := by
    refine bC_X0_clear_23 (bC_X0_clear_25 ?_)
    intro J hJ
    have key : ∀ m k : Nat, (k : Int) + m = fI w 6 p → J (k : Int) (wA w (clA w p (fI w 1 p) k)) := by
      intro m
      induction m with
      | zero =>
        intro k hk
        have e : (k : Int) = fI w 6 p := by omega
        refine hJ _ _ (br1 (show fI w 6 p ≤ k by omega) (bC_X0_clear_46 (fa (fa ?_))))
        rw [e]
        exact hQ
      | succ m ih =>
        intro k hk
        refine hJ _ _ (br0 (show ¬ fI w 6 p ≤ k by omega) ⟨⟨(show 111 ≤ tg w (fR w 5 p) ∧ tg w (fR w 5 p) ≤ 119 by rw [f1]; decide), by omega, (show (k : Int) < (ln w (fR w 5 p) : Nat) by rw [f2]; omega)⟩, fa (fa ?_)⟩)
        have e : qR (wA w (clA w p (fI w 1 p) k)) (fR (wA w (clA w p (fI w 1 p) k)) 5 p) k 0 = wA w (clA w p (fI w 1 p) (k + 1)) := clA_k (by omega)
        rw [e, w32_s (by omega) (by omega)]
        have := ih (k + 1) (by omega)
        exact this
    obtain ⟨m, hm⟩ : ∃ m : Nat, fI w 6 p = m := ⟨(fI w 6 p).toNat, by omega⟩
    exact key m 0 (by omega)
  have key : ∀ m k : Nat, (k : Int) + m = fI w 1 p → I (k : Int) (wA w (clA w p k 0)) := by
    intro m
    induction m with
    | zero =>
      intro k hk
      have e : (k : Int) = fI w 1 p := by omega
      refine hI _ _ (br1 (show fI w 1 p ≤ k by omega) ?_)
      rw [e]
      exact two
    | succ m ih =>
      intro k hk
      refine hI _ _ (br0 (show ¬ fI w 1 p ≤ k by omega) ⟨⟨(show 111 ≤ tg w (fR w 0 p) ∧ tg w (fR w 0 p) ≤ 119 by rw [k1]; decide), by omega, (show (k : Int) < (ln w (fR w 0 p) : Nat) by rw [k2]; omega)⟩, fa (fa ?_)⟩)
      have e : qR (wA w (clA w p k 0)) (fR (wA w (clA w p k 0)) 0 p) k 0 = wA w (clA w p (k + 1) 0) := clA_j (by omega)
      rw [e, w32_s (by omega) (by omega)]
      have := ih (k + 1) (by omega)
      exact this
  obtain ⟨m, hm⟩ : ∃ m : Nat, fI w 1 p = m := ⟨(fI w 1 p).toNat, by omega⟩
  have := key m 0 (by omega)
  rw [show ((0 : Nat) : Int) = 0 from rfl, clA_00, wA_id] at this
  exact this
/-- what is left of a wrong text -/
def flW (w : CW) (p : Nat) (f : Int) : CW := pI (clW (pI w 21 p f) p) 8 p 0
theorem rc_wrong {x : Nat} {how pl : Int} (W : WF p w) (hK : KA p w) (hFA : FA p w) (wr : Wr w x how pl) {Qf : Int → CW → Prop} (hQ : Qf (w32 (-10 - pl)) (flW w p how)) : RH p (d + 1) Qf x w := by
  obtain ⟨r1, r2, r3⟩ := wr
  have hx : x ≠ p := fun y => by rw [y, W.2.1] at r1; cases r1
  refine br1 r1 (bC_X0_read_130 ⟨by rw [r1]; decide, fa ?_⟩)
  rw [r2]
  refine sC_clear (w := pI w 21 p how) (W.spI _ _ _) hK hFA ⟨(show hF 36 (tg w x) = true by rw [r1]; decide), fa ?_⟩
  have e : fI (clW (pI w 21 p how) p) 36 x = pl := by
    show (if 36 = 6 ∧ x = p then (0 : Int) else if 36 = 1 ∧ x = p then 0 else if 36 = 21 ∧ x = p then how else fI w 36 x) = pl
    rw [if_neg (by omega), if_neg (by omega), if_neg (by omega)]
    exact r3
  rw [e]
  exact bC_X0_read_162 (call := wpC p (d + 1)) (fa hQ)
theorem rc_full {x : Nat} (W : WF p w) (hK : KA p w) (hFA : FA p w) (hx : tg w x = 18) {Qf : Int → CW → Prop} (hQ : Qf (-3) (pI (clW w p) 8 p 0)) : RH p (d + 1) Qf x w := by
  refine br0 (by omega) ⟨hx, bC_X0_read_154 (sC_clear W hK hFA (bC_X0_read_162 (call := wpC p (d + 1)) (fa hQ)))⟩
/-- the reference's -/
def flT (τ : TW) : TW := sI (sI (sI (sI τ 1 0) 9 0) 10 0) 41 0
theorem rt_wrong {Qf : Int → TW → Prop} (h1 : 1 ≤ tI τ 7) (hQ : Qf (w32 (-10 - tI τ 8)) (flT τ)) : pT_read_109 (wpT e) Qf τ := by
  refine bT_read_109 (fa (bT_read_118 ?_))
  intro I hI
  refine hI _ _ _ (br0 (fun y => ?_) (bT_read_160 (fa (fa (fa (br1 ?_ (fa (fa (bT_read_202 (fa ?_))))))))))
  · have : tI τ 7 = 0 := y.2.1
    omega
  · show (if (tI τ 7 = 0) ∧ ((0 : Int) = 0) then (1 : Int) else 0) = 0
    rw [if_neg (by omega)]
  · have e : (if tI (sI (sI (sI (sI τ 1 0) 9 (if (tI (sI τ 1 0) 7 = 0) ∧ ((0 : Int) = 0) then (1 : Int) else 0)) 10 0) 41 0) 7 ≤ 0 then (if (0 : Int) = 0 then tI (sI (sI τ 1 0) 9 (if (tI (sI τ 1 0) 7 = 0) ∧ ((0 : Int) = 0) then (1 : Int) else 0)) 41 else -3) else w32 (-10 - tI τ 8)) = w32 (-10 - tI τ 8) := by
      refine if_neg ?_
      show ¬ tI τ 7 ≤ 0
      omega
    have e2 : (if (tI (sI τ 1 0) 7 = 0) ∧ ((0 : Int) = 0) then (1 : Int) else 0) = 0 := by
      show (if (tI τ 7 = 0) ∧ ((0 : Int) = 0) then (1 : Int) else 0) = 0
      rw [if_neg (by omega)]
    refine Eq.mpr (congrArg (fun v => Qf v _) e) ?_
    rw [e2]
    exact hQ
end ZClear
