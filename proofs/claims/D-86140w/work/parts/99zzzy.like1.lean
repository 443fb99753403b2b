/-! alike -/
section ZLike1
variable {p b e d : Nat} {w : CW} {τ : TW}
/-- the part j of v -/
def pt (τ : TW) (v j : Nat) : Nat := (tA τ 114 (4 * v + j : Nat)).toNat
def LR (τ : TW) (a b : Nat) : Prop := tA τ 110 a = tA τ 110 b ∧ tA τ 111 a = tA τ 111 b ∧ tA τ 112 a = tA τ 112 b ∧ tA τ 113 a = tA τ 113 b
def LK (τ : TW) : Nat → Nat → Nat → Prop
  | 0, _, _ => True
  | n + 1, a, b => LR τ a b ∧ (tA τ 110 a = 4 → ∀ j : Nat, (j : Int) < tA τ 14 (tA τ 111 a) → LK τ n (pt τ a j) (pt τ b j))
theorem LK_fuel (hT : VT τ) : ∀ n m a b, a < n → a < m → a < nV τ → (LK τ n a b ↔ LK τ m a b) := by
  intro n
  induction n with
  | zero => intro m a b h; omega
  | succ n ih =>
    intro m a b h1 h2 hv
    cases m with
    | zero => omega
    | succ m =>
      unfold LK
      have key : tA τ 110 a = 4 → ∀ j : Nat, (j : Int) < tA τ 14 (tA τ 111 a) → (LK τ n (pt τ a j) (pt τ b j) ↔ LK τ m (pt τ a j) (pt τ b j)) := by
        intro h4 j hj
        obtain ⟨k, q, a1, a2, a3, a4, a5, a6⟩ := hT a hv h4
        rw [a1, a3] at hj
        obtain ⟨u, u1, u2, -⟩ := a6 j (by omega)
        have e : pt τ a j = u := by unfold pt; rw [u2, Int.toNat_natCast]
        rw [e]
        exact ih m u (pt τ b j) (by omega) (by omega) (by omega)
      constructor
      · intro q
        exact ⟨q.1, fun h4 j hj => (key h4 j hj).mp (q.2 h4 j hj)⟩
      · intro q
        exact ⟨q.1, fun h4 j hj => (key h4 j hj).mpr (q.2 h4 j hj)⟩
def LW (τ : TW) (a b : Nat) : Prop := LK τ (a + 1) a b
theorem LW_iff (hT : VT τ) {a b : Nat} (hv : a < nV τ) : LW τ a b ↔ LR τ a b ∧ (tA τ 110 a = 4 → ∀ j : Nat, (j : Int) < tA τ 14 (tA τ 111 a) → LW τ (pt τ a j) (pt τ b j)) := by
  have key : tA τ 110 a = 4 → ∀ j : Nat, (j : Int) < tA τ 14 (tA τ 111 a) → (LK τ a (pt τ a j) (pt τ b j) ↔ LW τ (pt τ a j) (pt τ b j)) := by
    intro h4 j hj
    obtain ⟨k, q, a1, a2, a3, a4, a5, a6⟩ := hT a hv h4
    rw [a1, a3] at hj
    obtain ⟨u, u1, u2, -⟩ := a6 j (by omega)
    have e : pt τ a j = u := by unfold pt; rw [u2, Int.toNat_natCast]
    rw [e]
    exact LK_fuel hT a (u + 1) u (pt τ b j) (by omega) (by omega) (by omega)
  unfold LW
  constructor
  · intro q
    exact ⟨q.1, fun h4 j hj => (key h4 j hj).mp (q.2 h4 j hj)⟩
  · intro q
    exact ⟨q.1, fun h4 j hj => (key h4 j hj).mpr (q.2 h4 j hj)⟩
/-- sizes need not be looked at -/
theorem LW_c (hT : VT τ) (hV : VAL p w τ) {a b : Nat} (ha : a < nV τ) (hb : b < nV τ) : LW τ a b ↔ (tA τ 110 a = tA τ 110 b ∧ tA τ 111 a = tA τ 111 b ∧ tA τ 112 a = tA τ 112 b) ∧ (tA τ 110 a = 4 → ∀ j : Nat, (j : Int) < tA τ 14 (tA τ 111 a) → LW τ (pt τ a j) (pt τ b j)) := by
  rw [LW_iff hT ha]
  constructor
  · intro q
    exact ⟨⟨q.1.1, q.1.2.1, q.1.2.2.1⟩, q.2⟩
  · intro q
    refine ⟨⟨q.1.1, q.1.2.1, q.1.2.2, ?_⟩, q.2⟩
    by_cases h4 : tA τ 110 a = 4
    · obtain ⟨k, m, a1, a2, a3, a4, a5, a6⟩ := hT a ha h4
      obtain ⟨k', m', b1, b2, b3, b4, b5, b6⟩ := hT b hb (q.1.1.symm.trans h4)
      have ek : k' = k := by have := q.1.2.1; omega
      subst ek
      have em : m' = m := by omega
      subst em
      have ch := q.2 h4
      rw [a1, a3] at ch
      rw [a5, b5]
      have : ∀ i, i ≤ m' → mkZ τ (fun j => tA τ 114 (4 * a + j : Nat)) i = mkZ τ (fun j => tA τ 114 (4 * b + j : Nat)) i := by
        intro i
        induction i with
        | zero => intro _; rfl
        | succ i ih =>
          intro hi
          obtain ⟨u, u1, u2, -⟩ := a6 i (by omega)
          obtain ⟨v, v1, v2, -⟩ := b6 i (by omega)
          have c := ch i (by omega)
          have eu : pt τ a i = u := by unfold pt; rw [u2, Int.toNat_natCast]
          have ev : pt τ b i = v := by unfold pt; rw [v2, Int.toNat_natCast]
          rw [eu, ev] at c
          have c4 := c.1.2.2.2
          show mkZ τ _ i + tA τ 113 (tA τ 114 (4 * a + i : Nat)) = mkZ τ _ i + tA τ 113 (tA τ 114 (4 * b + i : Nat))
          rw [ih (by omega), u2, v2, c4]
      exact this m' (Nat.le_refl _)
    · have s1 : ∀ v, v < nV τ → tA τ 110 v ≠ 4 → tA τ 113 v = 1 := fun v hv h => by
        rcases (hV.2.2.2.2 v hv).2 with y | y | y | y | y
        · exact y.2.2.2.2
        · exact y.2.2.2.2.2
        · exact y.2.2.2.2
        · exact y.2.2.2.2
        · exact absurd y.1 h
      rw [s1 a ha h4, s1 b hb (fun y => h4 (q.1.1.trans y))]
noncomputable def lkI (τ : TW) (a b : Nat) : Int := @ite _ (LW τ a b) (Classical.propDecidable _) 1 0
theorem lkI_1 {a b : Nat} (h : LW τ a b) : lkI τ a b = 1 := by unfold lkI; rw [if_pos h]
theorem lkI_0 {a b : Nat} (h : ¬ LW τ a b) : lkI τ a b = 0 := by unfold lkI; rw [if_neg h]
theorem lk_ite {a b : Nat} {c : Prop} [Decidable c] (h : LW τ a b ↔ c) : (if c then (1 : Int) else 0) = lkI τ a b := by
  by_cases z : c
  · rw [if_pos z, lkI_1 (h.mpr z)]
  · rw [if_neg z, lkI_0 (fun q => z (h.mp q))]
theorem sC_like (W : WF p w) (hV : VAL p w τ) (hT : VT τ) (hK : KR p w τ) : ∀ n a b, a < n → a < nV τ → b < nV τ → ∀ {Q : ZRes → CW → Prop}, Q (.inl (some (ai (lkI τ a b)))) w → wpC p (d + n + 4) (vm7 (tg w (vr w p a))) [ar (vr w p a), ar (vr w p b)] w Q := by
  intro n
  induction n with
  | zero => intro a b h; omega
  | succ n ih =>
    intro a b h1 ha hb Q hQ
    have hra := hV.2.2.2.2 a ha
    have hrb := hV.2.2.2.2 b hb
    have iff := LW_c hT hV ha hb
    have h26 : zca 26 "LetterPost$Whole" = true ∧ zca 27 "LetterPost$Whole" = true := by decide
    have ht : zca 26 "LetterPost$Text" = false ∧ zca 27 "LetterPost$Text" = false ∧ zca 28 "LetterPost$Text" = true ∧ zca 29 "LetterPost$Text" = false ∧ zca 30 "LetterPost$Text" = false := by decide
    have hn : znc 26 "LetterPost$Text" = true ∧ znc 27 "LetterPost$Text" = true ∧ znc 29 "LetterPost$Text" = true ∧ znc 30 "LetterPost$Text" = true := by decide
    obtain ⟨x, hx⟩ : ∃ x, x = vr w p a := ⟨_, rfl⟩
    obtain ⟨y, hy⟩ : ∃ y, y = vr w p b := ⟨_, rfl⟩
    rw [← hx] at hra ⊢
    rw [← hy] at hrb ⊢
    have whole : (tA τ 110 a = 0 ∨ tA τ 110 a = 1) → hF 115 (tg w x) = true → fI w 115 x = tA τ 111 a → tA τ 112 a = 0 → ∀ {v : Int}, v = tA τ 110 a → wpC p (d + n + 4) (vm5 (tg w y)) [ar y] w (zqI (fun v4 u3 =>
      ((v = v4 → (hF 115 (tg u3 x) = true) ∧ (y = 0 ∨ zca (tg u3 y) "LetterPost$Whole" = true) ∧ (hF 115 (tg u3 y) = true))) ∧
      ∀ v5 : Int, v5 = (if (v = v4) ∧ ((fI u3 115 x) = (fI u3 115 y)) then 1 else 0) →
      Q (.inl (some (ai v5))) u3) zno) := by
      intro z e1 e2 e3 v hv
      refine sC_what (d := d + n + 3) hrb ?_
      have yb : tA τ 110 a = tA τ 110 b → zca (tg w y) "LetterPost$Whole" = true ∧ hF 115 (tg w y) = true ∧ fI w 115 y = tA τ 111 b ∧ tA τ 112 b = 0 := by
        intro q
        rcases hrb.2 with r | r | r | r | r
        · rw [r.2.1]; exact ⟨h26.1, by decide, r.2.2.1, r.2.2.2.1⟩
        · rw [r.2.1]; exact ⟨h26.2, by decide, r.2.2.1, r.2.2.2.2.1⟩
        · omega
        · omega
        · omega
      refine ⟨fun q => ⟨e1, Or.inr (yb (hv.symm.trans q)).1, (yb (hv.symm.trans q)).2.1⟩, fa ?_⟩
      rw [lk_ite (a := a) (b := b) (τ := τ)]
      · exact hQ
      · rw [iff]
        constructor
        · intro q
          refine ⟨hv.trans q.1.1, ?_⟩
          rw [e2, (yb q.1.1).2.2.1]
          exact q.1.2.1
        · intro q
          have q1 := hv.symm.trans q.1
          have q2 := q.2
          rw [e2, (yb q1).2.2.1] at q2
          exact ⟨⟨q1, q2, by rw [e3, (yb q1).2.2.2]⟩, fun h4 => by omega⟩
    rcases hra.2 with r | r | r | r | r
    · rw [r.2.1]
      refine wC_X31_isLike (d := d + n + 4) (Nat.zero_le _) ?_
      refine bC_X31_isLike_0 ?_
      rw [r.2.1]
      refine wC_X31_what (Nat.zero_le _) ?_
      exact whole (Or.inl r.1) (by rw [r.2.1]; decide) r.2.2.1 r.2.2.2.1 r.1.symm
    · rw [r.2.1]
      refine wC_X31_isLike (d := d + n + 4) (Nat.zero_le _) ?_
      refine bC_X31_isLike_0 ?_
      rw [r.2.1]
      refine wC_X32_what (Nat.zero_le _) ?_
      exact whole (Or.inr r.1) (by rw [r.2.1]; decide) r.2.2.1 r.2.2.2.2.1 r.1.symm
    · rw [r.2.1]
      refine wC_X33_isLike (d := d + n + 4) (Nat.zero_le _) (bC_X33_isLike_0 ?_)
      by_cases z : tA τ 110 b = 2
      · have q : tg w y = 28 ∧ fI w 116 y = tA τ 112 b ∧ tA τ 111 b = cn (tA τ 112 b) 8 := by
          rcases hrb.2 with r | r | r | r | r
          · omega
          · omega
          · exact ⟨r.2.1, r.2.2.1, r.2.2.2.1.1⟩
          · omega
          · omega
        refine ⟨Or.inr (Or.inl (by rw [q.1]; exact ht.2.2.1)), fun _ => ⟨by rw [r.2.1]; decide, Or.inr (by rw [q.1]; exact ht.2.2.1), by rw [q.1]; decide⟩, fa ?_⟩
        rw [lk_ite (a := a) (b := b) (τ := τ)]
        · exact hQ
        · rw [iff, r.2.2.1, q.2.1]
          constructor
          · intro u
            exact ⟨by rw [q.1]; exact ht.2.2.1, u.1.2.2⟩
          · intro u
            refine ⟨⟨r.1.trans z.symm, ?_, u.2⟩, fun h4 => by omega⟩
            rw [r.2.2.2.1.1, q.2.2, u.2]
      · have q : zca (tg w y) "LetterPost$Text" = false ∧ znc (tg w y) "LetterPost$Text" = true := by
          rcases hrb.2 with r | r | r | r | r
          · rw [r.2.1]; exact ⟨ht.1, hn.1⟩
          · rw [r.2.1]; exact ⟨ht.2.1, hn.2.1⟩
          · omega
          · rw [r.2.1]; exact ⟨ht.2.2.2.1, hn.2.2.1⟩
          · rw [r.2.1]; exact ⟨ht.2.2.2.2, hn.2.2.2⟩
        refine ⟨Or.inr (Or.inr q.2), fun u => absurd (q.1.symm.trans u) (by decide), fa ?_⟩
        rw [lk_ite (a := a) (b := b) (τ := τ)]
        · exact hQ
        · rw [iff]
          constructor
          · intro u
            omega
          · intro u
            exact absurd (q.1.symm.trans u.1) (by decide)
    · rw [r.2.1]
      refine wC_X34_isLike (d := d + n + 4) (Nat.zero_le _) (bC_X34_isLike_0 ?_)
      rw [r.2.1]
      refine wC_X34_what (Nat.zero_le _) (sC_what (d := d + n + 3) hrb (fa ?_))
      rw [lk_ite (a := a) (b := b) (τ := τ)]
      · exact hQ
      · rw [iff]
        constructor
        · intro u
          omega
        · intro u
          refine ⟨⟨r.1.trans u, ?_, ?_⟩, fun h4 => by omega⟩
          · rcases hrb.2 with s | s | s | s | s <;> omega
          · rcases hrb.2 with s | s | s | s | s <;> omega
    · rw [r.2.1]
      obtain ⟨r1, r2, r3, k, m, k1, k2, k3, k4, k5, ⟨k6, k7, k8⟩, k9⟩ := r
      refine wC_X35_isLike (d := d + n + 4) (Nat.zero_le _) (bC_X35_isLike_0 ⟨by rw [r2]; decide, wC_X34_isLike (d := d + n + 3) (Nat.zero_le _) (bC_X34_isLike_0 ?_)⟩)
      rw [r2]
      refine wC_X35_what (Nat.zero_le _) (sC_what (d := d + n + 2) hrb (fa ?_))
      have stop : ∀ i : Int, lkI τ a b = 0 → ∀ I27 : Int → Int → CW → Prop, (∀ (x2 : Int) (x3 : Int) (w : CW), (
    ((¬ (x2 = 0) → (hF 118 (tg w x) = true) ∧ (101 ≤ tg w (fR w 118 x) ∧ tg w (fR w 118 x) ≤ 119 ∧ (tg w (fR w 118 x) < 107 ∨ 111 ≤ tg w (fR w 118 x))))) ∧
    (¬ (x2 = 0) ∧ (¬ (((ln w (fR w 118 x) : Nat) : Int) ≤ x3)) →
      (hF 118 (tg w x) = true) ∧
      ((111 ≤ tg w (fR w 118 x) ∧ tg w (fR w 118 x) ≤ 119) ∧ 0 ≤ x3 ∧ x3 < ln w (fR w 118 x)) ∧
      (y = 0 ∨ zca (tg w y) "LetterPost$Letter" = true) ∧
      (hF 118 (tg w y) = true) ∧
      ((111 ≤ tg w (fR w 118 y) ∧ tg w (fR w 118 y) ≤ 119) ∧ 0 ≤ x3 ∧ x3 < ln w (fR w 118 y)) ∧
      wpC p (d + n + 4) (vm7 (tg w (aR w (fR w 118 x) x3))) [ar (aR w (fR w 118 x) x3), ar (aR w (fR w 118 y) x3)] w (zqI (fun v11 u10 =>
        ∀ x3_12 : Int, x3_12 = w32 (x3 + 1) →
        I27 v11 x3_12 u10) zno)) ∧
    (¬ (¬ (x2 = 0) ∧ (¬ (((ln w (fR w 118 x) : Nat) : Int) ≤ x3))) →
      pC_X35_isLike_65 p (wpC p (d + n + 4)) (fun v w => Q (.inl (some (ai v))) w) x2 w)) → I27 x2 x3 w) → I27 0 i w := by
        intro i e0 I hI
        refine hI _ _ _ ⟨fun z => absurd rfl z, fun z => absurd rfl z.1, fun _ => bC_X35_isLike_65 ⟨Or.inl rfl, ?_⟩⟩
        rw [e0] at hQ
        exact hQ
      by_cases z : tA τ 110 b = 4
      · obtain ⟨s1, s2, s3, k', m', j1, j2, j3, j4, j5, ⟨j6, j7, j8⟩, j9⟩ : tA τ 110 b = 4 ∧ tg w y = 30 ∧ tA τ 112 b = 0 ∧ ∃ k m : Nat, tA τ 111 b = k ∧ k < nK τ ∧ fR w 117 y = kd w p k ∧ tA τ 14 k = m ∧ m ≤ 4 ∧ (tg w (fR w 118 y) = 119 ∧ ln w (fR w 118 y) = m ∧ p + 8 < fR w 118 y) ∧ ∀ i : Nat, i < m → ∃ u : Nat, u < b ∧ tA τ 114 (4 * b + i : Nat) = u ∧ aR w (fR w 118 y) i = vr w p u := by
          rcases hrb.2 with s | s | s | s | s
          · omega
          · omega
          · omega
          · omega
          · exact s
        rw [if_pos z.symm]
        refine br0 (by decide) ⟨by rw [r2]; decide, ?_⟩
        rw [s2]
        refine wC_X35_kind (d := d + n + 3) (Nat.zero_le _) (bC_X35_kind_0 ⟨by rw [s2]; decide, ?_⟩)
        rw [k3, j3]
        by_cases e : k = k'
        · subst e
          have em : m' = m := by omega
          subst em
          refine br1 rfl (bC_X35_isLike_24 (call := wpC p (d + n + 4)) (bC_X35_isLike_27 ?_))
          intro I hI
          have key : ∀ n2 j : Nat, j + n2 = m' → (∀ i, i < j → LW τ (pt τ a i) (pt τ b i)) → I 1 (j : Int) w := by
            intro n2
            induction n2 with
            | zero =>
              intro j hj hd
              have e : j = m' := by omega
              subst e
              refine hI _ _ _ ⟨fun _ => ⟨by rw [r2]; decide, by rw [k6]; decide⟩, fun z => absurd (by rw [k7]; exact Int.le_refl _) z.2, fun _ => bC_X35_isLike_65 (call := wpC p (d + n + 4)) ⟨Or.inr rfl, ?_⟩⟩
              rw [lkI_1 (iff.mpr ⟨⟨r1.trans s1.symm, k1.trans j1.symm, r3.trans s3.symm⟩, fun _ i hi => hd i (by rw [k1, k4] at hi; omega)⟩)] at hQ
              exact hQ
            | succ n2 ih2 =>
              intro j hj hd
              obtain ⟨u, u1, u2, u3⟩ := k9 j (by omega)
              obtain ⟨v, v1, v2, v3⟩ := j9 j (by omega)
              have eu : pt τ a j = u := by unfold pt; rw [u2, Int.toNat_natCast]
              have ev : pt τ b j = v := by unfold pt; rw [v2, Int.toNat_natCast]
              have c30 : zca 30 "LetterPost$Letter" = true := zca_letter.2.2.2.2
              refine hI _ _ _ ⟨fun _ => ⟨by rw [r2]; decide, by rw [k6]; decide⟩, fun _ => ⟨by rw [r2]; decide, ⟨by rw [k6]; decide, by omega, by rw [k7]; omega⟩, Or.inr (by rw [s2]; exact c30), by rw [s2]; decide, ⟨by rw [j6]; decide, by omega, by rw [j7]; omega⟩, ?_⟩, fun z => absurd ⟨by decide, by rw [k7]; omega⟩ z⟩
              rw [u3, v3]
              refine ih u v (by omega) (by omega) (by omega) ?_
              show ∀ x3_12 : Int, x3_12 = w32 ((j : Int) + 1) → I (lkI τ u v) x3_12 w
              refine fa ?_
              rw [w32_s (by omega) (by omega)]
              by_cases q : LW τ u v
              · rw [lkI_1 q]
                exact ih2 (j + 1) (by omega) (fun i hi => by
                  rcases Nat.lt_or_ge i j with t | t
                  · exact hd i t
                  · rw [show i = j by omega, eu, ev]; exact q)
              · rw [lkI_0 q]
                exact stop _ (lkI_0 (fun t => q (by
                  have := (iff.mp t).2 r1 j (by rw [k1, k4]; omega)
                  rw [eu, ev] at this
                  exact this))) I hI
          exact key m' 0 (by omega) (fun i hi => by omega)
        · have hne : kd w p k ≠ kd w p k' := fun q => e (hK.inj k2 j2 q)
          exact br0 hne (bC_X35_isLike_23 (bC_X35_isLike_24 (call := wpC p (d + n + 4)) (bC_X35_isLike_27 (stop 0 (lkI_0 (fun t => e (by have := (iff.mp t).1.2.1; omega)))))))
      · rw [if_neg (fun q => z q.symm)]
        exact br1 rfl (bC_X35_isLike_23 (bC_X35_isLike_24 (call := wpC p (d + n + 4)) (bC_X35_isLike_27 (stop 0 (lkI_0 (fun t => z (by have := (iff.mp t).1.1; omega)))))))
end ZLike1
