/-! names of the rule at hand -/
section ZNames
variable {p d e : Nat} {w : CW} {τ : TW}
/-- bits -/
noncomputable def bit (b : Int) (k : Nat) : Int := i_and (i_shr b k) 1
theorem bit_eq {b k : Nat} (hb : b < 256) (hk : k < 9) : bit b k = if b.testBit k then 1 else 0 := by
  have h : ∀ b : Fin 256, ∀ k : Fin 9, (zi ((zi ((b.val : Nat) : Int) >>> (zi ((k.val : Nat) : Int) &&& 31)).toInt) &&& zi 1).toInt = if b.val.testBit k.val then (1 : Int) else 0 := by decide +kernel
  have := h ⟨b, hb⟩ ⟨k, hk⟩
  unfold bit
  rw [i_and_def, i_shr_def]
  exact this
theorem or_eq {b n : Nat} (hb : b < 256) (hn : n < 8) : i_or b (i_shl 1 n) = ((b ||| 2 ^ n : Nat) : Int) ∧ b ||| 2 ^ n < 256 := by
  have h : ∀ b : Fin 256, ∀ n : Fin 8, (zi ((b.val : Nat) : Int) ||| zi ((zi 1 <<< (zi ((n.val : Nat) : Int) &&& 31)).toInt)).toInt = ((b.val ||| 2 ^ n.val : Nat) : Int) ∧ b.val ||| 2 ^ n.val < 256 := by decide +kernel
  have := h ⟨b, hb⟩ ⟨n, hn⟩
  rw [i_or_def, i_shl_def]
  exact this
def NA (p : Nat) (w : CW) : Prop := (tg w (fR w 15 p) = 103 ∧ ln w (fR w 15 p) = 8 ∧ p < fR w 15 p ∧ fR w 15 p ≤ p + 8) ∧ tg w (fR w 16 p) = 102 ∧ ln w (fR w 16 p) = 8 ∧ p < fR w 16 p ∧ fR w 16 p ≤ p + 8
/-- the rule at hand, its names -/
def nR (τ : TW) : Nat := (tI τ 27).toNat
def nN (τ : TW) : Nat := (tA τ 28 (tI τ 27)).toNat
def NmR (p : Nat) (w : CW) (τ : TW) : Prop := NA p w ∧ tI τ 27 = nR τ ∧ nR τ < 192 ∧ tA τ 28 (nR τ) = nN τ ∧ nN τ ≤ 8 ∧ fI w 17 p = nN τ ∧ fI w 18 p = tI τ 31 ∧
  (∃ B : Nat, tI τ 31 = B ∧ B < 256 ∧ ∀ k, nN τ ≤ k → B.testBit k = false) ∧
  (∀ i, i < nN τ → aI w (fR w 15 p) i = tA τ 29 (8 * nR τ + i : Nat)) ∧ (∀ i, i < nN τ → aI w (fR w 16 p) i = tA τ 30 (8 * nR τ + i : Nat)) ∧ ∀ i j, i < j → j < nN τ → tA τ 29 (8 * nR τ + i : Nat) ≠ tA τ 29 (8 * nR τ + j : Nat)
def nmN (τ : TW) (v : Int) : Nat → Int
  | 0 => -4
  | n + 1 => if tA τ 29 (8 * nR τ + n : Nat) = v then (n : Int) else nmN τ v n
/-- the number of a name; -4 -/
def nmB (τ : TW) (v : Int) : Int := nmN τ v (nN τ)
theorem nmN_spec (v : Int) : ∀ n, (nmN τ v n = -4 ∧ ∀ k : Nat, k < n → tA τ 29 (8 * nR τ + k : Nat) ≠ v) ∨ ∃ k : Nat, k < n ∧ nmN τ v n = k ∧ tA τ 29 (8 * nR τ + k : Nat) = v := by
  intro n
  induction n with
  | zero => exact Or.inl ⟨rfl, fun k hk => by omega⟩
  | succ n ih =>
    unfold nmN
    by_cases z : tA τ 29 (8 * nR τ + n : Nat) = v
    · exact Or.inr ⟨n, by omega, by rw [if_pos z], z⟩
    · rw [if_neg z]
      rcases ih with ⟨a, b⟩ | ⟨k, a, b, c⟩
      · refine Or.inl ⟨a, fun k hk => ?_⟩
        rcases Nat.lt_or_ge k n with y | y
        · exact b k y
        · have : k = n := by omega
          rw [this]; exact z
      · exact Or.inr ⟨k, by omega, b, c⟩
theorem nmB_spec (τ : TW) (v : Int) : (nmB τ v = -4 ∧ ∀ k : Nat, k < nN τ → tA τ 29 (8 * nR τ + k : Nat) ≠ v) ∨ ∃ k : Nat, k < nN τ ∧ nmB τ v = k ∧ tA τ 29 (8 * nR τ + k : Nat) = v := nmN_spec v (nN τ)
theorem w32_8 {r i : Nat} (hr : r < 192) (hi : i ≤ 8) : w32 ((w32 (8 * (r : Int))) + (i : Int)) = ((8 * r + i : Nat) : Int) := by
  rw [w32_s (a := 8 * (r : Int)) (by omega) (by omega), w32_s (by omega) (by omega)]; omega
theorem sT_nameOf {v : Int} {Q : ZRes → TW → Prop} (h1 : tI τ 27 = nR τ) (h2 : nR τ < 192) (h3 : tA τ 28 (nR τ) = nN τ) (h4 : nN τ ≤ 8) (hQ : Q (.inl (some (ai (nmB τ v)))) τ) : wpT (d + 1) 28 [al v] τ Q := by
  refine wT_nameOf (Nat.zero_le _) ?_
  intro I hI
  have h1' : tI τ 27 = nR τ := h1
  have h3' : tA τ 28 (nR τ) = nN τ := h3
  have key : ∀ m j : Nat, nN τ - j ≤ m → j ≤ nN τ → I (nmN τ v j) (j : Int) τ := by
    intro m
    induction m with
    | zero =>
      intro j q1 q2
      have : j = nN τ := by omega
      subst this
      refine hI _ _ _ ⟨by rw [h1']; omega, fun _ => hQ, fun h => ?_⟩
      rw [h1', h3'] at h; omega
    | succ m ih =>
      intro j q1 q2
      by_cases hj : j = nN τ
      · subst hj
        refine hI _ _ _ ⟨by rw [h1']; omega, fun _ => hQ, fun h => ?_⟩
        rw [h1', h3'] at h; omega
      · refine hI _ _ _ ⟨by rw [h1']; omega, fun h => ?_, fun _ => ?_⟩
        · rw [h1', h3'] at h; omega
        · rw [h1', w32_8 h2 (by omega)]
          refine ⟨by omega, fa (fa ?_)⟩
          rw [w32_k (by omega)]
          exact ih (j + 1) (by omega) (by omega)
  exact key (nN τ) 0 (by omega) (by omega)
/-- nameAt: its number, or a new one's, if it isn't bound -/
theorem sC_nameAt {s : Int} (h : NmR p w τ) (n0 : Nat) (hn : (nmB τ (fI w 12 p) = -4 ∧ n0 = nN τ) ∨ nmB τ (fI w 12 p) = n0) {Q : ZRes → CW → Prop} (hQ : wpC p (d + 4) 10 [ar p, ai (if (n0 : Int) = nN τ ∨ bit (tI τ 31) n0 = 0 then 1 else 0), ai 3, ai (fI w 11 p)] w (zqV (fun u4 => Q (.inl (some (ai n0))) u4) (fun x6 u7 => Q (.inr x6) u7))) : wpC p (d + 5) 24 [ar p, ai s] w Q := by
  obtain ⟨⟨⟨a1, a2, a3, a4⟩, a5, a6, a7, a8⟩, b1, b2, b3, b4, b5, b6, b7, b8, b9, b10⟩ := h
  refine wC_X0_nameAt (Nat.zero_le _) ?_
  intro I hI
  have hn0 : n0 ≤ nN τ ∧ (∀ q, q < n0 → tA τ 29 (8 * nR τ + q : Nat) ≠ fI w 12 p) ∧ (n0 < nN τ → tA τ 29 (8 * nR τ + n0 : Nat) = fI w 12 p) := by
    rcases hn with ⟨x1, x2⟩ | x
    · rcases nmB_spec τ (fI w 12 p) with ⟨y1, y2⟩ | ⟨k, y1, y2, y3⟩
      · exact ⟨by omega, fun q hq => y2 q (by omega), fun z => by omega⟩
      · omega
    · rcases nmB_spec τ (fI w 12 p) with ⟨y1, y2⟩ | ⟨k, y1, y2, y3⟩
      · omega
      · have : k = n0 := by omega
        subst this
        exact ⟨by omega, fun q hq z => b10 q k hq y1 (z.trans y3.symm), fun _ => y3⟩
  have hr : ∀ j : Nat, j < nN τ → aW w (fR w 15 p) j = tA τ 29 (8 * nR τ + j : Nat) := by
    intro j hj
    unfold aW
    rw [if_pos a1]
    exact b8 j hj
  have key : ∀ m j : Nat, n0 - j ≤ m → j ≤ n0 → I (j : Int) w := by
    intro m
    induction m with
    | zero =>
      intro j q1 q2
      have : j = n0 := by omega
      subst this
      refine hI _ _ ⟨fun z => ⟨a1, by omega, by rw [a2]; rw [b5] at z; omega⟩, fun z => ?_, fun z => fa ?_⟩
      · exfalso
        rw [b5] at z
        have hlt : j < nN τ := by omega
        exact z.2 ((hr j hlt).trans (hn0.2.2 hlt))
      · rw [b5, b6]
        exact hQ
    | succ m ih =>
      intro j q1 q2
      by_cases hj : j = n0
      · subst hj
        refine hI _ _ ⟨fun z => ⟨a1, by omega, by rw [a2]; rw [b5] at z; omega⟩, fun z => ?_, fun z => fa ?_⟩
        · exfalso
          rw [b5] at z
          have hlt : j < nN τ := by omega
          exact z.2 ((hr j hlt).trans (hn0.2.2 hlt))
        · rw [b5, b6]
          exact hQ
      · refine hI _ _ ⟨fun z => ⟨a1, by omega, by rw [a2]; omega⟩, fun z => fa ?_, fun z => ?_⟩
        · rw [w32_k (by omega)]
          exact ih (j + 1) (by omega) (by omega)
        · exfalso
          apply z
          rw [b5]
          refine ⟨by omega, fun y => ?_⟩
          rw [hr j (by omega)] at y
          exact hn0.2.1 j (by omega) y
  exact key n0 0 (by omega) (by omega)
/-- known: the number of a bound name; else it throws -/
theorem sC_known (h : NmR p w τ) {Q : ZRes → CW → Prop} (n0 : Nat) (hn : (nmB τ (fI w 12 p) = n0 ∧ bit (tI τ 31) n0 = 1) ∨ (n0 = nN τ ∧ ∀ k : Nat, nmB τ (fI w 12 p) = k → bit (tI τ 31) k = 0)) (hQ : wpC p (d + 4) 10 [ar p, ai (if ¬ ((nN τ : Int) ≤ n0) then 1 else 0), ai 4, ai (fI w 11 p)] w (zqV (fun u4 => Q (.inl (some (ai n0))) u4) (fun x6 u7 => Q (.inr x6) u7))) : wpC p (d + 5) 38 [ar p] w Q := by
  obtain ⟨⟨⟨a1, a2, a3, a4⟩, a5, a6, a7, a8⟩, b1, b2, b3, b4, b5, b6, b7, b8, b9, b10⟩ := h
  refine wC_X0_known (Nat.zero_le _) ?_
  intro I hI
  have hr : ∀ j : Nat, j < nN τ → aW w (fR w 15 p) j = tA τ 29 (8 * nR τ + j : Nat) := by
    intro j hj
    unfold aW
    rw [if_pos a1]
    exact b8 j hj
  have hn0 : n0 ≤ nN τ ∧ (∀ q, q < n0 → tA τ 29 (8 * nR τ + q : Nat) ≠ fI w 12 p ∨ bit (tI τ 31) q = 0) ∧ (n0 < nN τ → tA τ 29 (8 * nR τ + n0 : Nat) = fI w 12 p ∧ bit (tI τ 31) n0 ≠ 0) := by
    rcases hn with ⟨x1, x2⟩ | ⟨x1, x2⟩
    · rcases nmB_spec τ (fI w 12 p) with ⟨y1, y2⟩ | ⟨k, y1, y2, y3⟩
      · omega
      · have : k = n0 := by omega
        subst this
        exact ⟨by omega, fun q hq => Or.inl (fun z => b10 q k hq y1 (z.trans y3.symm)), fun _ => ⟨y3, by omega⟩⟩
    · rcases nmB_spec τ (fI w 12 p) with ⟨y1, y2⟩ | ⟨k, y1, y2, y3⟩
      · exact ⟨by omega, fun q hq => Or.inl (y2 q (by omega)), fun z => by omega⟩
      · refine ⟨by omega, fun q hq => ?_, fun z => by omega⟩
        by_cases z : q = k
        · rw [z]; exact Or.inr (x2 k y2)
        · left
          intro y
          rcases Nat.lt_trichotomy q k with x | x | x
          · exact b10 q k x y1 (y.trans y3.symm)
          · exact z x
          · exact b10 k q x (by omega) (y3.trans y.symm)
  have key : ∀ m j : Nat, n0 - j ≤ m → j ≤ n0 → I (j : Int) w := by
    intro m
    induction m with
    | zero =>
      intro j q1 q2
      have : j = n0 := by omega
      subst this
      refine hI _ _ ⟨fun z => ⟨a1, by omega, by rw [a2]; rw [b5] at z; omega⟩, fun z => ?_, fun z => fa ?_⟩
      · exfalso
        rw [b5, b6] at z
        have hlt : j < nN τ := by omega
        obtain ⟨y1, y2⟩ := hn0.2.2 hlt
        rcases z.2 with x | x
        · exact x ((hr j hlt).trans y1)
        · exact y2 x
      · rw [b5]
        exact hQ
    | succ m ih =>
      intro j q1 q2
      by_cases hj : j = n0
      · subst hj
        refine hI _ _ ⟨fun z => ⟨a1, by omega, by rw [a2]; rw [b5] at z; omega⟩, fun z => ?_, fun z => fa ?_⟩
        · exfalso
          rw [b5, b6] at z
          have hlt : j < nN τ := by omega
          obtain ⟨y1, y2⟩ := hn0.2.2 hlt
          rcases z.2 with x | x
          · exact x ((hr j hlt).trans y1)
          · exact y2 x
        · rw [b5]
          exact hQ
      · refine hI _ _ ⟨fun z => ⟨a1, by omega, by rw [a2]; omega⟩, fun z => fa ?_, fun z => ?_⟩
        · rw [w32_k (by omega)]
          exact ih (j + 1) (by omega) (by omega)
        · exfalso
          apply z
          rw [b5, b6]
          refine ⟨by omega, ?_⟩
          rcases hn0.2.1 j (by omega) with y | y
          · left; rw [hr j (by omega)]; exact y
          · exact Or.inr y
  exact key n0 0 (by omega) (by omega)
end ZNames
