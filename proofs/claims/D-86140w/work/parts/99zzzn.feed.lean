/-! feed: both -/
section ZFeed
variable {p b e d : Nat} {w : CW} {τ : TW}
theorem i_b_v (a : Int) : i_b a = (a + 128) % 256 - 128 := by
  rw [i_b_def]
  unfold zi
  rw [Int8.toInt_toInt32, Int32.toInt_toInt8, Int32.toInt_ofInt]
  have h : ∀ n : Int, n.bmod (2^8) = (n + 128) % 256 - 128 := by
    intro n
    unfold Int.bmod
    simp only [show ((2:Nat)^8 : Nat) = 256 from rfl]
    split <;> omega
  have h2 : ∀ n : Int, n.bmod (2^32) = (n + 2147483648) % 4294967296 - 2147483648 := by
    intro n
    unfold Int.bmod
    simp only [show ((2:Nat)^32 : Nat) = 4294967296 from rfl]
    split <;> omega
  rw [h, h2]
  omega
theorem l_and255 (y : Int) : l_and y 255 = y % 256 := by
  rw [l_and_def]
  unfold zj
  rw [← Int64.toInt_toBitVec, Int64.toBitVec_and, Int64.toBitVec_ofInt, Int64.toBitVec_ofInt]
  have e : (BitVec.ofInt 64 y &&& BitVec.ofInt 64 255).toNat = (y % 256).toNat := by
    rw [BitVec.toNat_and, BitVec.toNat_ofInt]
    have : (BitVec.ofInt 64 255).toNat = 2^8 - 1 := by decide
    rw [this, Nat.and_two_pow_sub_one_eq_mod]
    omega
  rw [BitVec.toInt_eq_toNat_of_lt (by rw [e]; omega), e]
  omega

/-- the j-th byte of what is fed -/
noncomputable def bT (x : Int) (j : Nat) : Int := w32 (l_and (l_shr x (w32 (8 * (j : Int)))) 255)
theorem bT_rg (x : Int) (j : Nat) : 0 ≤ bT x j ∧ bT x j ≤ 255 := by
  unfold bT
  rw [l_and255, w32_s (by omega) (by omega)]
  omega
theorem bT_c (x : Int) (j : Nat) : i_b (i_b (w32 (l_shr x (w32 (8 * (j : Int)))))) = sg8 (bT x j) := by
  unfold bT
  rw [l_and255, i_b_v, i_b_v]
  generalize l_shr x (w32 (8 * (j : Int))) = y
  rw [w32_def, w32_s (a := y % 256) (by omega) (by omega)]
  unfold sg8
  split <;> omega
noncomputable def fdC (p : Nat) (x : Int) : Nat → CW → CW
  | 0, w => w
  | m + 1, w => fdC p x m (pI (qI w (fR w 7 p) (fI w 8 p) (sg8 (bT x m))) 8 p (fI w 8 p + 1))
noncomputable def fdT (x : Int) : Nat → TW → TW
  | 0, τ => τ
  | m + 1, τ => fdT x m (sI (sA τ 0 (tI τ 1) (bT x m)) 1 (tI τ 1 + 1))
theorem fdT_run (x : Int) {Q : Int → TW → Prop} {I : Int → TW → Prop} (hI : ∀ (x4 : Int) (w : TW), (
    (x4 < 0 →
      pT_feed_76 (wpT d) Q w) ∧
    (¬ (x4 < 0) →
      (0 ≤ (tI w 1) ∧ (tI w 1) < 1600) ∧
      ∀ u7 : TW, u7 = sA w 0 (tI w 1) (w32 (l_and (l_shr x (w32 (8 * x4))) 255)) →
      ∀ u9 : TW, u9 = sI u7 1 (w32 ((tI u7 1) + 1)) →
      ∀ x4_10 : Int, x4_10 = w32 (x4 + (-1)) →
      I x4_10 u9)) → I x4 w) : ∀ (m : Nat) (σ : TW), m ≤ 8 → 0 ≤ tI σ 1 → tI σ 1 + m ≤ 1600 → Q (tI (fdT x m σ) 1) (fdT x m σ) → I ((m : Int) - 1) σ := by
  intro m
  induction m with
  | zero => intro σ _ _ _ hQ; exact hI _ _ (br1 (by omega) hQ)
  | succ m ih =>
    intro σ h8 h0 h1 hQ
    refine hI _ _ (br0 (by omega) ⟨⟨h0, by omega⟩, fa (fa (fa ?_))⟩)
    rw [show (((m + 1 : Nat) : Int) - 1) = (m : Int) by omega, w32_s (a := (m : Int) + -1) (by omega) (by omega)]
    have e : w32 (tI (sA σ 0 (tI σ 1) (w32 (l_and (l_shr x (w32 (8 * (m : Int)))) 255))) 1 + 1) = tI σ 1 + 1 := by
      show w32 (tI σ 1 + 1) = _
      exact w32_s (by omega) (by omega)
    rw [e]
    have := ih (sI (sA σ 0 (tI σ 1) (bT x m)) 1 (tI σ 1 + 1)) (by omega) (by show 0 ≤ tI σ 1 + 1; omega) (by show tI σ 1 + 1 + (m : Int) ≤ 1600; omega) hQ
    exact this
theorem fdC_run (x : Int) {Q : Int → CW → Prop} {I : Int → CW → Prop} (hI : ∀ (x4 : Int) (w : CW), (
    (x4 < 0 →
      pC_X0_feed_73 p (wpC p d) Q w) ∧
    (¬ (x4 < 0) →
      ((tg w (fR w 7 p) = 101 ∨ tg w (fR w 7 p) = 104) ∧ 0 ≤ (fI w 8 p) ∧ (fI w 8 p) < ln w (fR w 7 p)) ∧
      ∀ u7 : CW, u7 = qI w (fR w 7 p) (fI w 8 p) (if tg w (fR w 7 p) = 104 then zb (i_b (w32 (l_shr x (w32 (8 * x4))))) else i_b (i_b (w32 (l_shr x (w32 (8 * x4)))))) →
      ∀ u9 : CW, u9 = pI u7 8 p (w32 ((fI u7 8 p) + 1)) →
      ∀ x4_10 : Int, x4_10 = w32 (x4 + (-1)) →
      I x4_10 u9)) → I x4 w) : ∀ (m : Nat) (u : CW), m ≤ 8 → (tg u (fR u 7 p) = 101 ∧ ln u (fR u 7 p) = 1600) → 0 ≤ fI u 8 p → fI u 8 p + m ≤ 1600 → Q (fI (fdC p x m u) 8 p) (fdC p x m u) → I ((m : Int) - 1) u := by
  intro m
  induction m with
  | zero => intro u _ _ _ _ hQ; exact hI _ _ (br1 (by omega) hQ)
  | succ m ih =>
    intro u h8 ht h0 h1 hQ
    refine hI _ _ (br0 (by omega) ⟨⟨Or.inl ht.1, h0, by rw [ht.2]; omega⟩, fa (fa (fa ?_))⟩)
    rw [show (((m + 1 : Nat) : Int) - 1) = (m : Int) by omega, w32_s (a := (m : Int) + -1) (by omega) (by omega), if_neg (by rw [ht.1]; decide), bT_c]
    have e : w32 (fI (qI u (fR u 7 p) (fI u 8 p) (sg8 (bT x m))) 8 p + 1) = fI u 8 p + 1 := by
      show w32 (fI u 8 p + 1) = _
      exact w32_s (by omega) (by omega)
    rw [e]
    have e8 : fI (pI (qI u (fR u 7 p) (fI u 8 p) (sg8 (bT x m))) 8 p (fI u 8 p + 1)) 8 p = fI u 8 p + 1 := fI_at _ _ _ _
    have := ih (pI (qI u (fR u 7 p) (fI u 8 p) (sg8 (bT x m))) 8 p (fI u 8 p + 1)) (by omega) ht (by rw [e8]; omega) (by rw [e8]; omega) hQ
    exact this
/-- what feeding leaves -/
theorem fd_rel (x : Int) : ∀ (m : Nat) (u : CW) (σ : TW), WF p u → tpT σ → tpC p u σ → p < fR u 7 p ∧ fR u 7 p ≤ cz u → tI σ 1 + m ≤ 1600 → (tpT (fdT x m σ) ∧ tpC p (fdC p x m u) (fdT x m σ)) ∧ (Fr [p, fR u 7 p] u (fdC p x m u) ∧ PF [8] p u (fdC p x m u) ∧ WF p (fdC p x m u) ∧ cz (fdC p x m u) = cz u ∧ cu (fdC p x m u) = cu u) ∧ FT [0, 1] σ (fdT x m σ) ∧ tI (fdT x m σ) 1 = tI σ 1 + m := by
  intro m
  induction m with
  | zero => intro u σ W T R _ _; exact ⟨⟨T, R⟩, ⟨Fr.refl _ _, PF.refl _ _ _, W, rfl, rfl⟩, FT.refl _ _, by show tI σ 1 = tI σ 1 + ((0 : Nat) : Int); omega⟩
  | succ m ih =>
    intro u σ W T R hp h1
    obtain ⟨u1, hu⟩ : ∃ u1, u1 = pI (qI u (fR u 7 p) (fI u 8 p) (sg8 (bT x m))) 8 p (fI u 8 p + 1) := ⟨_, rfl⟩
    obtain ⟨σ1, hσ⟩ : ∃ σ1, σ1 = sI (sA σ 0 (tI σ 1) (bT x m)) 1 (tI σ 1 + 1) := ⟨_, rfl⟩
    have eC : fdC p x (m + 1) u = fdC p x m u1 := by rw [hu]; rfl
    have eT : fdT x (m + 1) σ = fdT x m σ1 := by rw [hσ]; rfl
    rw [eC, eT]
    obtain ⟨r1, r2, r3, r4⟩ := R
    obtain ⟨y1, y2, y3⟩ := T
    have y1 : 0 ≤ tI σ 1 := y1
    have brg := bT_rg x m
    have e1 : tI σ1 1 = tI σ 1 + 1 := by rw [hσ]; rfl
    have a0 : ∀ k : Nat, tA σ1 0 k = if (k : Int) = tI σ 1 then bT x m else tA σ 0 k := fun k => by
      rw [hσ]
      show (if 0 = 0 ∧ (k : Int) = tI σ 1 then bT x m else tA σ 0 k) = _
      by_cases z : (k : Int) = tI σ 1
      · rw [if_pos ⟨rfl, z⟩, if_pos z]
      · rw [if_neg (fun q => z q.2), if_neg z]
    have W1 : WF p u1 := by rw [hu]; exact (W.sqI _ _ _).spI _ _ _
    have T1 : tpT σ1 := by
      refine ⟨by show 0 ≤ tI σ1 1; omega, by show tI σ1 1 ≤ 1600; omega, fun k hk => ?_⟩
      have hk : (k : Int) < tI σ1 1 := hk
      show 0 ≤ tA σ1 0 k ∧ tA σ1 0 k ≤ 255
      rw [a0]
      by_cases z : (k : Int) = tI σ 1
      · rw [if_pos z]; exact brg
      · rw [if_neg z]; exact y3 k (by show (k : Int) < tI σ 1; omega)
    have r3 : fI u 8 p = tI σ 1 := r3
    have R1 : tpC p u1 σ1 := by
      refine ⟨by rw [hu]; exact r1, by rw [hu]; exact r2, ?_, fun k hk => ?_⟩
      · show fI u1 8 p = tI σ1 1
        rw [hu, fI_at, e1, r3]
      · have hk : (k : Int) < tI σ1 1 := hk
        have e : aI u1 (fR u1 7 p) k = if (k : Int) = fI u 8 p then sg8 (bT x m) else aI u (fR u 7 p) k := by
          rw [hu]
          show (if fR u 7 p = fR u 7 p ∧ (k : Int) = fI u 8 p then _ else _) = _
          by_cases z : (k : Int) = fI u 8 p
          · rw [if_pos ⟨rfl, z⟩, if_pos z]
          · rw [if_neg (fun q => z q.2), if_neg z]; rfl
        show aI u1 (fR u1 7 p) k = sg8 (tA σ1 0 k)
        rw [e, a0, r3]
        by_cases z : (k : Int) = tI σ 1
        · rw [if_pos z, if_pos z]
        · rw [if_neg z, if_neg z]; exact r4 k (by show (k : Int) < tI σ 1; omega)
    have F1 : Fr [p, fR u 7 p] u u1 := by rw [hu]; exact ((Fr.refl _ u).sqI (Or.inl (by simp))).spI (Or.inl (by simp))
    have P1 : PF [8] p u u1 := by rw [hu]; exact ((PF.refl _ p u).sqI).spI (Or.inl (by decide))
    have Ft1 : FT [0, 1] σ σ1 := by rw [hσ]; exact ((FT.refl _ σ).ssA (by decide)).ssI (by decide)
    have e7 : fR u1 7 p = fR u 7 p := (P1 7 (by decide)).2
    have ez : cz u1 = cz u ∧ cu u1 = cu u := by rw [hu]; exact ⟨rfl, rfl⟩
    obtain ⟨q1, ⟨q2, q3, q4, q5, q6⟩, q7, q8⟩ := ih u1 σ1 W1 T1 R1 (by rw [e7, ez.1]; exact hp) (by rw [e1]; omega)
    rw [e7] at q2
    exact ⟨q1, ⟨F1.trans q2, P1.trans q3, q4, q5.trans ez.1, q6.trans ez.2⟩, Ft1.trans q7, by rw [q8, e1]; omega⟩
/-- feed: both answer alike -/
theorem api_feed {x n : Int} (W : WF p w) (T : tpT τ) (R : tpC p w τ) (h7 : p < fR w 7 p) {K : Int → Int → CW → TW → Prop} (h0 : K (-1) (-1) w τ) (h1 : K (-3) (-3) w τ) (h2 : ∀ m : Nat, n = m → 1 ≤ m → m ≤ 8 → tI τ 1 + m ≤ 1600 → K (tI τ 1 + m) (tI τ 1 + m) (fdC p x m w) (fdT x m τ)) : wpC p (d + 2) 0 [ar p, al x, ai n] w (zqI (fun v w' => wpT (e + 2) 0 [al x, ai n] τ (zqI (fun v' τ' => K v v' w' τ') zno)) zno) := by
  have r3 : fI w 8 p = tI τ 1 := R.2.2.1
  have y1 : 0 ≤ tI τ 1 := T.1
  have y2 : tI τ 1 ≤ 1600 := T.2.1
  have hff : ff_in n 1 8 τ = if ¬ (n < 1) ∧ ¬ (8 < n) then 1 else 0 := rfl
  refine wC_X0_feed (Nat.zero_le _) (wC_X0_isIn (Nat.zero_le _) (fa ?_))
  by_cases z : ¬ (n < 1) ∧ ¬ (8 < n)
  · rw [if_pos z]
    rw [if_pos z] at hff
    obtain ⟨m, hm⟩ : ∃ m : Nat, n = m := ⟨n.toNat, by omega⟩
    subst hm
    refine br0 (by decide) ?_
    have hz := R.1
    have hle : fR w 7 p ≤ cz w := W.le (by rw [show tg w (fR w 7 p) = 101 from hz]; decide)
    rw [r3, w32_s (a := tI τ 1 + (m : Int)) (by omega) (by omega)]
    by_cases y : tI τ 1 + (m : Int) ≤ 1600
    · refine br1 y (fa ?_)
      rw [w32_s (a := (m : Int) - 1) (by omega) (by omega)]
      intro I hI
      refine fdC_run x hI m w (by omega) ⟨R.1, R.2.1⟩ (by omega) (by omega) ?_
      refine wT_feed (by omega) (br0 (by rw [hff]; decide) ?_)
      rw [w32_s (a := tI τ 1 + (m : Int)) (by omega) (by omega)]
      refine br1 y (fa ?_)
      rw [w32_s (a := (m : Int) - 1) (by omega) (by omega)]
      intro J hJ
      refine fdT_run x hJ m τ (by omega) y1 y ?_
      obtain ⟨⟨q1, q2⟩, -, -, q8⟩ := fd_rel (p := p) x m w τ W T R ⟨h7, hle⟩ y
      have e3 : fI (fdC p x m w) 8 p = tI (fdT x m τ) 1 := q2.2.2.1
      rw [e3, q8]
      exact h2 m rfl (by omega) (by omega) y
    · refine br0 y ?_
      refine wT_feed (by omega) (br0 (by rw [hff]; decide) ?_)
      rw [w32_s (a := tI τ 1 + (m : Int)) (by omega) (by omega)]
      exact br0 y h1
  · rw [if_neg z]
    rw [if_neg z] at hff
    exact br1 rfl (wT_feed (by omega) (br1 hff h0))
end ZFeed
