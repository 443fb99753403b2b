/-! a name is bound, both -/
section ZBind
variable {p d e : Nat} {w : CW} {τ : TW}
noncomputable def bdW (p : Nat) (w : CW) (n : Nat) (s : Int) : CW := pI (qI (pI (qI w (fR w 15 p) n (fI w 12 p)) 17 p (if (fI w 17 p) < (w32 ((n : Int) + 1)) then (w32 ((n : Int) + 1)) else (fI w 17 p))) (fR w 16 p) n s) 18 p (i_or (fI w 18 p) (i_shl 1 n))
noncomputable def bdT (τ : TW) (n : Nat) (s : Int) : TW := sI (sA (if n = nN τ then sA (sA τ 28 (nR τ) (nN τ + 1 : Nat)) 29 (8 * nR τ + n : Nat) (tI τ 4) else τ) 30 (8 * nR τ + n : Nat) s) 31 (i_or (tI τ 31) (i_shl 1 n))
theorem bdW_fr (W : WF p w) (n : Nat) (s : Int) : Fr [p, fR w 15 p, fR w 16 p] w (bdW p w n s) ∧ PF [17, 18] p w (bdW p w n s) ∧ WF p (bdW p w n s) ∧ cz (bdW p w n s) = cz w ∧ cu (bdW p w n s) = cu w := by
  refine ⟨?_, ?_, W, rfl, rfl⟩
  · exact (((((Fr.refl _ w).sqI (Or.inl (by simp))).spI (Or.inl (by simp))).sqI (Or.inl (by simp))).spI (Or.inl (by simp)))
  · exact (((((PF.refl _ p w).sqI).spI (Or.inl (by simp))).sqI).spI (Or.inl (by simp)))
theorem bdT_ft (τ : TW) (n : Nat) (s : Int) : FT [28, 29, 30, 31] τ (bdT τ n s) := by
  unfold bdT
  refine FT.ssI (FT.ssA ?_ (by simp)) (by simp)
  split
  · exact ((FT.refl _ τ).ssA (by simp)).ssA (by simp)
  · exact FT.refl _ τ
theorem NmR.bind (h : NmR p w τ) {n : Nat} {s : Int} (hn : (nmB τ (tI τ 4) = -4 ∧ n = nN τ) ∨ nmB τ (tI τ 4) = n) (h8 : n < 8) (hw : fI w 12 p = tI τ 4) : NmR p (bdW p w n s) (bdT τ n s) ∧ nR (bdT τ n s) = nR τ ∧ nN (bdT τ n s) = max (nN τ) (n + 1) := by
  obtain ⟨⟨⟨a1, a2, a3, a4⟩, a5, a6, a7, a8⟩, b1, b2, b3, b4, b5, b6, ⟨B, b71, b72, b73⟩, b8, b9, b10⟩ := h
  have hnle : n ≤ nN τ := by
    rcases hn with ⟨x1, x2⟩ | x
    · omega
    · rcases nmB_spec τ (tI τ 4) with ⟨y1, y2⟩ | ⟨k, y1, y2, y3⟩
      · omega
      · omega
  have eR : nR (bdT τ n s) = nR τ := by unfold nR; rw [((bdT_ft τ n s) 27 (by decide)).1]
  have e27 : tI (bdT τ n s) 27 = nR τ := by rw [((bdT_ft τ n s) 27 (by decide)).1]; exact b1
  have e28 : tA (bdT τ n s) 28 (nR τ) = (max (nN τ) (n + 1) : Nat) := by
    show tA (sA (if n = nN τ then sA (sA τ 28 (nR τ) (nN τ + 1 : Nat)) 29 (8 * nR τ + n : Nat) (tI τ 4) else τ) 30 (8 * nR τ + n : Nat) s) 28 (nR τ) = _
    rw [tA_sA, if_neg (by omega)]
    by_cases z : n = nN τ
    · rw [if_pos z, tA_sA, if_neg (by omega), tA_sA, if_pos ⟨rfl, rfl⟩]; omega
    · rw [if_neg z, b3]; omega
  have eN : nN (bdT τ n s) = max (nN τ) (n + 1) := by
    unfold nN
    rw [e27]
    rw [e28]
    show (((max (nN τ) (n + 1) : Nat) : Int)).toNat = max ((tA τ 28 (tI τ 27)).toNat) (n + 1)
    rw [Int.toNat_natCast]; rfl
  have e29 : ∀ i : Nat, tA (bdT τ n s) 29 (8 * nR τ + i : Nat) = if i = n ∧ n = nN τ then tI τ 4 else tA τ 29 (8 * nR τ + i : Nat) := by
    intro i
    show tA (sA (if n = nN τ then sA (sA τ 28 (nR τ) (nN τ + 1 : Nat)) 29 (8 * nR τ + n : Nat) (tI τ 4) else τ) 30 (8 * nR τ + n : Nat) s) 29 (8 * nR τ + i : Nat) = _
    rw [tA_sA, if_neg (by omega)]
    by_cases z : n = nN τ
    · rw [if_pos z, tA_sA]
      by_cases y : i = n
      · rw [if_pos ⟨rfl, by omega⟩, if_pos ⟨y, z⟩]
      · rw [if_neg (by omega), if_neg (by omega), tA_sA, if_neg (by omega)]
    · rw [if_neg z, if_neg (fun y => z y.2)]
  have e30 : ∀ i : Nat, tA (bdT τ n s) 30 (8 * nR τ + i : Nat) = if i = n then s else tA τ 30 (8 * nR τ + i : Nat) := by
    intro i
    show tA (sA (if n = nN τ then sA (sA τ 28 (nR τ) (nN τ + 1 : Nat)) 29 (8 * nR τ + n : Nat) (tI τ 4) else τ) 30 (8 * nR τ + n : Nat) s) 30 (8 * nR τ + i : Nat) = _
    rw [tA_sA]
    by_cases y : i = n
    · rw [if_pos ⟨rfl, by omega⟩, if_pos y]
    · rw [if_neg (by omega), if_neg y]
      by_cases z : n = nN τ
      · rw [if_pos z, tA_sA, if_neg (by omega), tA_sA, if_neg (by omega)]
      · rw [if_neg z]
  have e31 : tI (bdT τ n s) 31 = i_or (tI τ 31) (i_shl 1 n) := by
    unfold bdT
    rw [tI_sI, if_pos rfl]
  have f15 : fR (bdW p w n s) 15 p = fR w 15 p := rfl
  have f16 : fR (bdW p w n s) 16 p = fR w 16 p := rfl
  have f17 : fI (bdW p w n s) 17 p = (max (nN τ) (n + 1) : Nat) := by
    show fI (pI (qI (pI (qI w (fR w 15 p) n (fI w 12 p)) 17 p (if (fI w 17 p) < (w32 ((n : Int) + 1)) then (w32 ((n : Int) + 1)) else (fI w 17 p))) (fR w 16 p) n s) 18 p (i_or (fI w 18 p) (i_shl 1 n))) 17 p = _
    rw [fI_of _ _ _ _ (by decide)]
    show fI (pI (qI w (fR w 15 p) n (fI w 12 p)) 17 p (if (fI w 17 p) < (w32 ((n : Int) + 1)) then (w32 ((n : Int) + 1)) else (fI w 17 p))) 17 p = _
    rw [fI_at, w32_k (by omega), b5]
    by_cases z : (nN τ : Int) < ((n + 1 : Nat) : Int)
    · rw [if_pos z]; omega
    · rw [if_neg z]; omega
  have f18 : fI (bdW p w n s) 18 p = i_or (tI τ 31) (i_shl 1 n) := by
    refine (fI_at _ 18 p _).trans ?_
    rw [b6]
  have hor := or_eq b72 h8
  have hne : fR w 15 p ≠ fR w 16 p := by intro z; rw [z, a5] at a1; cases a1
  have g15 : ∀ i : Nat, aI (bdW p w n s) (fR w 15 p) i = if i = n then tI τ 4 else aI w (fR w 15 p) i := by
    intro i
    show aI (qI (pI (qI w (fR w 15 p) n (fI w 12 p)) 17 p (if (fI w 17 p) < (w32 ((n : Int) + 1)) then (w32 ((n : Int) + 1)) else (fI w 17 p))) (fR w 16 p) n s) (fR w 15 p) i = _
    rw [aI_qI, if_neg (fun z => hne z.1)]
    show aI (qI w (fR w 15 p) n (fI w 12 p)) (fR w 15 p) i = _
    rw [aI_qI]
    by_cases y : i = n
    · rw [if_pos ⟨rfl, by omega⟩, if_pos y]; exact hw
    · rw [if_neg (by omega), if_neg y]
  have g16 : ∀ i : Nat, aI (bdW p w n s) (fR w 16 p) i = if i = n then s else aI w (fR w 16 p) i := by
    intro i
    show aI (qI (pI (qI w (fR w 15 p) n (fI w 12 p)) 17 p (if (fI w 17 p) < (w32 ((n : Int) + 1)) then (w32 ((n : Int) + 1)) else (fI w 17 p))) (fR w 16 p) n s) (fR w 16 p) i = _
    rw [aI_qI]
    by_cases y : i = n
    · rw [if_pos ⟨rfl, by omega⟩, if_pos y]
    · rw [if_neg (by omega), if_neg y]
      show aI (qI w (fR w 15 p) n (fI w 12 p)) (fR w 16 p) i = _
      rw [aI_qI, if_neg (fun z => hne z.1.symm)]
  -- the names as they are
  have hname : ∀ i, i < max (nN τ) (n + 1) → (i = n → tA (bdT τ n s) 29 (8 * nR τ + i : Nat) = tI τ 4) := by
    intro i hi hin
    rw [e29]
    by_cases z : n = nN τ
    · rw [if_pos ⟨hin, z⟩]
    · rw [if_neg (fun y => z y.2), hin]
      rcases hn with ⟨x1, x2⟩ | x
      · exact absurd x2 z
      · rcases nmB_spec τ (tI τ 4) with ⟨y1, y2⟩ | ⟨k, y1, y2, y3⟩
        · omega
        · have : k = n := by omega
          rw [← this]; exact y3
  refine ⟨⟨⟨⟨a1, a2, a3, a4⟩, a5, a6, a7, a8⟩, by rw [eR]; exact e27, by rw [eR]; exact b2, by rw [eR, eN]; exact e28, by rw [eN]; omega, by rw [eN]; exact f17, by rw [e31]; exact f18, ⟨B ||| 2 ^ n, ?_, hor.2, fun k hk => ?_⟩, fun i hi => ?_, fun i hi => ?_, fun i j hij hj => ?_⟩, eR, eN⟩
  · rw [e31, b71]; exact hor.1
  · rw [eN] at hk
    rw [Nat.testBit_or, b73 k (by omega), Nat.testBit_two_pow]
    simp; omega
  · rw [eN] at hi
    rw [eR, f15, g15]
    by_cases y : i = n
    · rw [if_pos y, hname i hi y]
    · rw [if_neg y, e29, if_neg (fun z => y z.1)]
      exact b8 i (by omega)
  · rw [eN] at hi
    rw [eR, f16, g16, e30]
    by_cases y : i = n
    · rw [if_pos y, if_pos y]
    · rw [if_neg y, if_neg y]
      exact b9 i (by omega)
  · rw [eN] at hj
    rw [eR]
    by_cases z : n = nN τ
    · have hnone : nmB τ (tI τ 4) = -4 := by
        rcases hn with ⟨x1, _⟩ | x
        · exact x1
        · rcases nmB_spec τ (tI τ 4) with ⟨y1, _⟩ | ⟨k, y1, y2, y3⟩
          · exact y1
          · omega
      have hno : ∀ k : Nat, k < nN τ → tA τ 29 (8 * nR τ + k : Nat) ≠ tI τ 4 := by
        rcases nmB_spec τ (tI τ 4) with ⟨_, y2⟩ | ⟨k, y1, y2, y3⟩
        · exact y2
        · omega
      rw [e29, e29, if_neg (by omega)]
      by_cases y : j = n
      · rw [if_pos ⟨y, z⟩]
        exact hno i (by omega)
      · rw [if_neg (fun x => y x.1)]
        exact b10 i j hij (by omega)
    · rw [e29, e29, if_neg (fun x => z x.2), if_neg (fun x => z x.2)]
      exact b10 i j hij (by omega)
/-- bind -/
theorem sC_bind (h : NmR p w τ) {n : Nat} {s : Int} (h8 : n < 8) {Q : ZRes → CW → Prop} (hQ : Q (.inl (some (ai n))) (bdW p w n s)) : wpC p (d + 2) 25 [ar p, ai n, ai s] w Q := by
  obtain ⟨⟨⟨a1, a2, a3, a4⟩, a5, a6, a7, a8⟩, -⟩ := h
  refine wC_X0_bind (Nat.zero_le _) (fa ?_)
  rw [if_pos (by omega)]
  exact sC_needOk (by decide) ⟨⟨a1, by omega, by rw [a2]; omega⟩, fa (fa ⟨⟨a5, by omega, by show (n : Int) < ln w (fR w 16 p); rw [a6]; omega⟩, fa (fa hQ)⟩)⟩
theorem sC_bindNo {n : Nat} {s : Int} (h8 : n = 8) (hm : cz w + 1 ≤ mz w ∧ cu w + 8 ≤ mu w) {Q : ZRes → CW → Prop} (hQ : Q (.inr (cz w + 1)) (wrW w 9 (fI w 11 p))) : wpC p (d + 5) 25 [ar p, ai n, ai s] w Q := by
  refine wC_X0_bind (Nat.zero_le _) (fa ?_)
  rw [if_neg (by omega)]
  exact sC_needNo rfl hm hQ
/-- the reference's binds, without a fault -/
theorem sT_binds (h : NmR p w τ) (hf : tI τ 7 = 0) {n : Nat} {s : Int} (hn : (nmB τ (tI τ 4) = -4 ∧ n = nN τ) ∨ (nmB τ (tI τ 4) = n ∧ bit (tI τ 31) n = 0)) (h8 : n < 8) {Q : ZRes → TW → Prop} (hQ : Q (.inl (some (ai n))) (bdT τ n s)) : wpT (d + 2) 29 [ai s] τ Q := by
  obtain ⟨-, b1, b2, b3, b4, b5, b6, b7, b8, b9, b10⟩ := h
  have b1' : tI τ 27 = nR τ := b1
  have b3' : tA τ 28 (nR τ) = nN τ := b3
  have hbit : ∀ k : Nat, (i_and (i_shr (tI τ 31) (k : Int)) 1) = bit (tI τ 31) k := fun k => rfl
  refine wT_binds (Nat.zero_le _) (sT_nameOf b1 b2 b3 b4 ⟨fun z => ?_, fun z => ⟨fun _ => by rw [b1']; omega, fun y => ?_, fun y => ⟨fun _ => ⟨fun x => ?_, fun x => ?_⟩, fun x => absurd hf x⟩⟩⟩)
  · exfalso
    rcases hn with ⟨x1, x2⟩ | ⟨x1, x2⟩
    · exact z.1 (by rw [show nmB τ (tI τ 4) = -4 from x1]; decide)
    · have := z.2
      rw [show nmB τ (tI τ 4) = (n : Int) from x1, hbit, x2] at this
      cases this
  · exfalso
    rw [b1', b3'] at y
    rcases hn with ⟨x1, x2⟩ | ⟨x1, x2⟩
    · omega
    · have : nmB τ (tI τ 4) = (n : Int) := x1
      omega
  · rcases hn with ⟨x1, x2⟩ | ⟨x1, x2⟩
    · exfalso
      have : nmB τ (tI τ 4) = -4 := x1
      omega
    · have hne : n ≠ nN τ := by
        rcases nmB_spec τ (tI τ 4) with ⟨y1, y2⟩ | ⟨k, y1, y2, y3⟩
        · omega
        · omega
      rw [show nmB τ (tI τ 4) = (n : Int) from x1]
      unfold pT_binds_120
      rw [b1', w32_8 b2 (by omega)]
      refine ⟨by omega, fa (fa ?_)⟩
      have e1 : bdT τ n s = sI (sA τ 30 (8 * nR τ + n : Nat) s) 31 (i_or (tI τ 31) (i_shl 1 n)) := by unfold bdT; rw [if_neg hne]
      rw [e1] at hQ
      exact hQ
  · rcases hn with ⟨x1, x2⟩ | ⟨x1, x2⟩
    · rw [b1', b3']
      refine ⟨by omega, fa ⟨by omega, by omega, fa ?_⟩⟩
      have q27 : tI (sA τ 28 (nR τ) (w32 ((nN τ : Int) + 1))) 27 = nR τ := b1
      rw [q27, w32_8 b2 (by omega)]
      refine ⟨by omega, fa ?_⟩
      unfold pT_binds_120
      have q27' : tI (sA (sA τ 28 (nR τ) (w32 ((nN τ : Int) + 1))) 29 (8 * nR τ + nN τ : Nat) (tI (sA τ 28 (nR τ) (w32 ((nN τ : Int) + 1))) 4)) 27 = nR τ := b1
      rw [q27', w32_8 b2 (by omega)]
      refine ⟨by omega, fa (fa ?_)⟩
      have e1 : bdT τ n s = sI (sA (sA (sA τ 28 (nR τ) (nN τ + 1 : Nat)) 29 (8 * nR τ + n : Nat) (tI τ 4)) 30 (8 * nR τ + n : Nat) s) 31 (i_or (tI τ 31) (i_shl 1 n)) := by unfold bdT; rw [if_pos x2]
      rw [e1, x2] at hQ
      rw [w32_k (by omega)]
      exact hQ
    · exfalso
      have : nmB τ (tI τ 4) = (n : Int) := x1
      omega
end ZBind
