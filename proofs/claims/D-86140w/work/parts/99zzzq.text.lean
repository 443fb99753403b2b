/-! letters: both -/
section ZText
variable {p b e d : Nat} {w : CW} {τ : TW}
theorem i_and255 (y : Int) : i_and y 255 = y % 256 := by
  rw [i_and_def]
  unfold zi
  rw [← Int32.toInt_toBitVec, Int32.toBitVec_and, Int32.toBitVec_ofInt, Int32.toBitVec_ofInt]
  have e : (BitVec.ofInt 32 y &&& BitVec.ofInt 32 255).toNat = (y % 256).toNat := by
    rw [BitVec.toNat_and, BitVec.toNat_ofInt]
    have : (BitVec.ofInt 32 255).toNat = 2^8 - 1 := by decide
    rw [this, Nat.and_two_pow_sub_one_eq_mod]
    omega
  rw [BitVec.toInt_eq_toNat_of_lt (by rw [e]; omega), e]
  omega
theorem bT_i (x : Int) (j : Nat) : i_and (w32 (l_shr x (w32 (8 * (j : Int))))) 255 = bT x j := by
  unfold bT
  rw [l_and255, i_and255]
  generalize l_shr x (w32 (8 * (j : Int))) = y
  rw [w32_def, w32_s (a := y % 256) (by omega) (by omega)]
  omega
theorem or01 : i_or 0 0 = 0 ∧ i_or 0 1 = 1 ∧ i_or 1 0 = 1 ∧ i_or 1 1 = 1 := by
  rw [i_or_def, i_or_def, i_or_def, i_or_def]
  decide
theorem lc_run {x : Int} {Q : Int → CW → Prop} {I : Int → Int → CW → Prop} (hI : ∀ (x3 : Int) (x4 : Int) (w : CW), (
    (8 ≤ x4 →
      pC_X0_letters_64 p (wpC p (d + 1)) Q x w) ∧
    (¬ (8 ≤ x4) →
      ∀ x5_9 : Int, x5_9 = i_and (w32 (l_shr x (w32 (8 * x4)))) 255 →
      ∀ v10 : Int, v10 = (if x5_9 = 0 then 1 else 0) →
      ∀ x3_11 : Int, x3_11 = i_or x3 v10 →
      (x5_9 = 0 →
        pC_X0_letters_58 p (wpC p (d + 1)) Q I x x3_11 x4 w) ∧
      (¬ (x5_9 = 0) →
        (x3_11 = 0 →
          wpC p (d + 1) 7 [ai x5_9] w (zqI (fun v16 u15 =>
            (v16 = 0 →
              pC_X0_letters_56 p (wpC p (d + 1)) Q u15) ∧
            (¬ (v16 = 0) →
              pC_X0_letters_58 p (wpC p (d + 1)) Q I x x3_11 x4 u15)) zno)) ∧
        (¬ (x3_11 = 0) →
          pC_X0_letters_56 p (wpC p (d + 1)) Q w)))) → I x3 x4 w) (hg : okx x 8 → pC_X0_letters_64 p (wpC p (d + 1)) Q x w) (hb : ¬ okx x 8 → Q (-1) w) :
    ∀ m j : Nat, j + m = 8 → ((okx x m ↔ okx x 8) → I 0 j w) ∧ ((cn x m = 0 ↔ okx x 8) → I 1 j w) := by
  obtain ⟨o1, o2, o3, o4⟩ := or01
  intro m
  induction m with
  | zero =>
    intro j hj
    exact ⟨fun h => hI _ _ _ (br1 (by omega) (hg (h.mp trivial))), fun h => hI _ _ _ (br1 (by omega) (hg (h.mp rfl)))⟩
  | succ m ih =>
    intro j hj
    obtain ⟨i0, i1⟩ := ih (j + 1) (by omega)
    have ej : 7 - m = j := by omega
    have ec : cn x (m + 1) = cn x m + (if bT x j = 0 then 0 else 1) := by
      show cn x m + (if bT x (7 - m) = 0 then 0 else 1) = _
      rw [ej]
    have eo : okx x (m + 1) ↔ okx x m ∧ (smb (bT x j) ∨ (bT x j = 0 ∧ cn x m = 0)) := by
      show okx x m ∧ (smb (bT x (7 - m)) ∨ (bT x (7 - m) = 0 ∧ cn x m = 0)) ↔ _
      rw [ej]
    have nxt0 : I 0 ((j + 1 : Nat) : Int) w → pC_X0_letters_58 p (wpC p (d + 1)) Q I x 0 j w := fun h => by
      refine bC_X0_letters_58 (fa ?_)
      rw [w32_s (by omega) (by omega)]
      exact h
    have nxt1 : I 1 ((j + 1 : Nat) : Int) w → pC_X0_letters_58 p (wpC p (d + 1)) Q I x 1 j w := fun h => by
      refine bC_X0_letters_58 (fa ?_)
      rw [w32_s (by omega) (by omega)]
      exact h
    constructor
    · intro h
      refine hI _ _ _ (br0 (by omega) (fa (fa (fa ?_))))
      rw [bT_i]
      by_cases z : bT x j = 0
      · rw [if_pos z, o2]
        refine br1 z (nxt1 (i1 ⟨fun q => h.mp (eo.mpr ⟨cn_ok m q, Or.inr ⟨z, q⟩⟩), fun q => ?_⟩))
        rcases (eo.mp (h.mpr q)).2 with y | y
        · unfold smb at y
          omega
        · exact y.2
      · rw [if_neg z, o1]
        refine br0 z (br1 rfl (wC_X0_isSmall (Nat.zero_le _) (fa ?_)))
        by_cases y : smb (bT x j)
        · rw [if_pos (show ¬ (bT x j < 97) ∧ ¬ (122 < bT x j) from y)]
          refine br0 (by decide) (nxt0 (i0 ⟨fun q => h.mp (eo.mpr ⟨q, Or.inl y⟩), fun q => (eo.mp (h.mpr q)).1⟩))
        · rw [if_neg (show ¬ (¬ (bT x j < 97) ∧ ¬ (122 < bT x j)) from y)]
          refine br1 rfl (bC_X0_letters_56 (call := wpC p (d + 1)) (hb (fun q => ?_)))
          rcases (eo.mp (h.mpr q)).2 with u | u
          · exact y u
          · exact z u.1
    · intro h
      refine hI _ _ _ (br0 (by omega) (fa (fa (fa ?_))))
      rw [bT_i]
      by_cases z : bT x j = 0
      · rw [if_pos z] at ec
        rw [if_pos z, o4]
        refine br1 z (nxt1 (i1 ⟨fun q => h.mp (by omega), fun q => by have := h.mpr q; omega⟩))
      · rw [if_neg z] at ec
        rw [if_neg z, o3]
        refine br0 z (br0 (by decide) (bC_X0_letters_56 (hb (fun q => ?_))))
        have := h.mpr q
        omega
noncomputable def okI (x : Int) (m : Nat) : Int := @ite _ (okx x m) (Classical.propDecidable _) 1 0
theorem okI_1 {x : Int} {m : Nat} (h : okx x m) : okI x m = 1 := by unfold okI; rw [if_pos h]
theorem okI_0 {x : Int} {m : Nat} (h : ¬ okx x m) : okI x m = 0 := by unfold okI; rw [if_neg h]
theorem lt_run {x : Int} {Q : Int → TW → Prop} {I : Int → Int → Int → TW → Prop} (hI : ∀ (x3 : Int) (x4 : Int) (x5 : Int) (w : TW), (
    (x5 < 0 →
      pT_letters_76 (wpT d) Q x x3 x4 w) ∧
    (¬ (x5 < 0) →
      ∀ x6_5 : Int, x6_5 = w32 (l_and (l_shr x (w32 (8 * x5))) 255) →
      ∀ v10 : Int, v10 = (if ¬ (x4 = 0) ∧ (¬ ((ff_isSmall x6_5 w) = 0) ∨ ((x6_5 = 0) ∧ (x3 = 0))) then 1 else 0) →
      ∀ v11 : Int, v11 = (if ¬ (x6_5 = 0) then 1 else 0) →
      ∀ x3_12 : Int, x3_12 = w32 (x3 + v11) →
      ∀ x5_13 : Int, x5_13 = w32 (x5 + (-1)) →
      I x3_12 v10 x5_13 w)) → I x3 x4 x5 w) (hE : pT_letters_76 (wpT d) Q x (cn x 8) (okI x 8) τ) : ∀ k m : Nat, m + k = 8 → I (cn x m) (okI x m) (7 - (m : Int)) τ := by
  intro k
  induction k with
  | zero =>
    intro m hm
    have : m = 8 := by omega
    subst this
    exact hI _ _ _ _ (br1 (by decide) hE)
  | succ k ih =>
    intro m hm
    have e7 : (7 - (m : Int)) = ((7 - m : Nat) : Int) := by omega
    have l := cn_le (x := x) m
    refine hI _ _ _ _ (br0 (by omega) (fa (fa (fa (fa (fa ?_))))))
    rw [e7, show w32 (l_and (l_shr x (w32 (8 * ((7 - m : Nat) : Int)))) 255) = bT x (7 - m) from rfl]
    have e1 : w32 ((cn x m : Int) + (if ¬ (bT x (7 - m) = 0) then 1 else 0)) = (cn x (m + 1) : Nat) := by
      show _ = ((cn x m + (if bT x (7 - m) = 0 then 0 else 1) : Nat) : Int)
      by_cases z : bT x (7 - m) = 0
      · rw [if_neg (fun q => q z), if_pos z, w32_s (by omega) (by omega)]; omega
      · rw [if_pos z, if_neg z, w32_s (by omega) (by omega)]; omega
    have e2 : (if ¬ (okI x m = 0) ∧ (¬ (ff_isSmall (bT x (7 - m)) τ = 0) ∨ (bT x (7 - m) = 0 ∧ (cn x m : Int) = 0)) then (1 : Int) else 0) = okI x (m + 1) := by
      have es : ff_isSmall (bT x (7 - m)) τ = if ¬ (bT x (7 - m) < 97) ∧ ¬ (122 < bT x (7 - m)) then 1 else 0 := rfl
      have s1 : ¬ (ff_isSmall (bT x (7 - m)) τ = 0) ↔ smb (bT x (7 - m)) := by
        rw [es]
        unfold smb
        split
        · rename_i y; exact ⟨fun _ => y, fun _ => by decide⟩
        · rename_i y; exact ⟨fun q => absurd rfl q, fun q => absurd q y⟩
      have o1 : ¬ (okI x m = 0) ↔ okx x m := by
        by_cases y : okx x m
        · rw [okI_1 y]; exact ⟨fun _ => y, fun _ => by decide⟩
        · rw [okI_0 y]; exact ⟨fun q => absurd rfl q, fun q => absurd q y⟩
      by_cases y : okx x (m + 1)
      · rw [okI_1 y]
        refine if_pos ?_
        have : okx x m ∧ (smb (bT x (7 - m)) ∨ (bT x (7 - m) = 0 ∧ cn x m = 0)) := y
        exact ⟨o1.mpr this.1, this.2.imp s1.mpr (fun q => ⟨q.1, by omega⟩)⟩
      · rw [okI_0 y]
        refine if_neg (fun q => y ?_)
        exact ⟨o1.mp q.1, q.2.imp s1.mp (fun u => ⟨u.1, by omega⟩)⟩
    have e3 : w32 (((7 - m : Nat) : Int) + -1) = 7 - ((m + 1 : Nat) : Int) := by
      rw [w32_s (by omega) (by omega)]; omega
    rw [e1, e2, e3]
    exact ih (m + 1) (by omega)
theorem ovW_116 (W : WF p w) (t k : Nat) (n x : Int) : Fr [] w (pI (ovW w t k n) 116 (cz w + 1) x) ∧ PF [] p w (pI (ovW w t k n) 116 (cz w + 1) x) ∧ WF p (pI (ovW w t k n) 116 (cz w + 1) x) ∧ cz (pI (ovW w t k n) 116 (cz w + 1) x) = cz w + 1 ∧ cu (pI (ovW w t k n) 116 (cz w + 1) x) = cu w + k ∧ tg (pI (ovW w t k n) 116 (cz w + 1) x) (cz w + 1) = t ∧ fI (pI (ovW w t k n) 116 (cz w + 1) x) 113 (cz w + 1) = n ∧ fI (pI (ovW w t k n) 116 (cz w + 1) x) 114 (cz w + 1) = 1 := by
  obtain ⟨q1, q2, q3, q4, q5, q6, q7, q8⟩ := ovW_fr W t k n
  have hz := W.pz
  have h1 : cz w < cz w + 1 := Nat.lt_succ_self _
  have hne : p ≠ cz w + 1 := by omega
  refine ⟨q1.spI (Or.inr h1), q2.spI (Or.inr hne), q3.spI _ _ _, q4, q5, q6, ?_, ?_⟩
  · rw [fI_of _ _ _ _ (by decide)]; exact q7
  · rw [fI_of _ _ _ _ (by decide)]; exact q8
theorem api_letters {x : Int} (hx : -9223372036854775808 ≤ x ∧ x < 9223372036854775808) (W : WF p w) (hV : VAL p w τ) (hK : KA p w) (hm : cz w + 1 ≤ mz w ∧ cu w + 3 ≤ mu w) {K : Int → Int → CW → TW → Prop} (hb : K (-1) (-1) w τ) (h0 : K (-3) (-3) w τ) (h1 : ∀ v w' τ', ADV p w τ w' τ' → K v v w' τ') : wpC p (d + 3) 60 [ar p, al x] w (zqI (fun v w' => wpT (e + 3) 81 [al x] τ (zqI (fun v' τ' => K v v' w' τ') zno)) zno) := by
  have b1 : fI w 4 p = tI τ 109 := hV.2.1
  have b2 := hV.2.2.1
  have b3 := hV.2.2.2.1
  -- the reference
  have ref : ∀ Q : Int → TW → Prop, (¬ okx x 8 → Q (-1) τ) → (okx x 8 → tI τ 109 = 160 → Q (-3) τ) → (okx x 8 → tI τ 109 < 160 → Q (tI τ 109) (nvT τ 2 (cn x 8) x)) → wpT (e + 3) 81 [al x] τ (zqI Q zno) := by
    intro Q r1 r2 r3
    refine wT_letters (by omega) (bT_letters_0 (bT_letters_9 ?_))
    intro J hJ
    have := lt_run (τ := τ) hJ ?_ 8 0 (by omega)
    · rw [show okI x 0 = 1 from okI_1 trivial] at this
      exact this
    · by_cases y : okx x 8
      · rw [okI_1 y]
        exact bT_letters_76 (br0 (by decide) (sT_newValue (d := e + 1) b2 b3 (r2 y) (r3 y)))
      · rw [okI_0 y]
        exact bT_letters_76 (br1 rfl (bT_letters_92 (r1 y)))
  refine wC_X0_letters (Nat.zero_le _) (bC_X0_letters_0 (bC_X0_letters_5 ?_))
  intro I hI
  refine (lc_run (d := d + 1) hI (fun y => ?_) (fun y => ref _ (fun _ => hb) (fun q => absurd q y) (fun q => absurd q y)) 8 0 (by omega)).1 Iff.rfl
  refine bC_X0_letters_64 ?_
  by_cases z : tI τ 109 = 160
  · exact br1 (b1.trans z) (bC_X0_letters_95 (ref _ (fun q => absurd y q) (fun _ _ => h0) (fun _ q => by omega)))
  · refine br0 (by omega) ⟨hm, fa ?_⟩
    have e4 : fI (nO w 28 3) 4 p = tI τ 109 := by
      show (if p = cz w + 1 then 0 else fI w 4 p) = _
      rw [if_neg (by have := W.pz; omega)]; exact b1
    rw [e4]
    refine wC_X33_init (Nat.zero_le _) (bC_X33_init_0 ⟨by omega, sC_v30 rfl (by decide) ⟨?_, fa ?_⟩⟩)
    · show hP 116 (tg (nO w 28 3) (cz w + 1)) = true
      rw [tg_nO, if_pos rfl]; decide
    obtain ⟨q1, q2, q3, q4, q5, q6, q7, q8⟩ := ovW_116 (p := p) W 28 3 (tI τ 109) x
    obtain ⟨w2, hw2⟩ : ∃ w2, w2 = pI (ovW w 28 3 (tI τ 109)) 116 (cz w + 1) x := ⟨_, rfl⟩
    rw [← hw2] at q1 q2 q3 q4 q5 q6 q7 q8 ⊢
    have e5 : fI w2 4 p = tI τ 109 := (q2 4 (by decide)).1.trans b1
    have e116 : fI w2 116 (cz w + 1) = x := by rw [hw2, fI_at]
    obtain ⟨a1, a2, a3, a4, a5, a6⟩ := hV.add (w2 := w2) (k := 2) (n := cn x 8) (t := x) (by omega) W q1 q3 q4 q2 hK q7 q8 (Or.inr (Or.inr (Or.inl ⟨rfl, q6, e116, rfl, y, hx⟩)))
    refine sC_keep (r := cz w + 1) q4.symm q3 (hV.1.st W q1 q2) (by omega) (by omega) (by rw [q6]; decide) ?_
    show wpT (e + 3) 81 [al x] τ (zqI (fun v' τ' => K (fI w2 113 (cz w + 1)) v' (kpW w2 p) τ') zno)
    refine ref _ (fun q => absurd y q) (fun _ q => absurd q z) (fun _ _ => ?_)
    rw [q7]
    refine h1 _ _ _ ⟨a1, a2, a3, a4, a5, ?_, fun hT => hT.nv b2 (by decide), a6⟩
    have z1 : cz (kpW w2 p) = cz w + 1 := q4
    have z2 : cu (kpW w2 p) = cu w + 3 := q5
    unfold zm
    rw [z1, z2]
    omega
end ZText
