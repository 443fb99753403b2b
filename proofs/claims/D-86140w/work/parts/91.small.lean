/-! small methods of both on tokens -/
section ZSmall
variable {p d : Nat} {w : CW} {τ : TW}
theorem sC_isSign {c : Int} {Q : ZRes → CW → Prop} (hQ : Q (.inl (some (ai (if fI w 10 p = 5 ∧ fI w 14 p = c then 1 else 0)))) w) : wpC p (d + 1) 16 [ar p, ai c] w Q :=
  wC_X0_isSign (Nat.zero_le _) (fa hQ)
/-- signs: the component's is the reference's -/
theorem RB.sign (h : RB p w τ) {c : Int} (hc : c ≠ 46 ∧ c ≠ 256) : (fI w 10 p = 5 ∧ fI w 14 p = c) ↔ (tI τ 3 = 5 ∧ tI τ 4 = c) := by
  obtain ⟨-, -, -, -, ⟨-, -, -, -, -, -, -, g8, -⟩, ⟨-, -, q3, -, -, q6⟩, -⟩ := h
  rw [q3]
  constructor
  · rintro ⟨a, b⟩
    refine ⟨a, ?_⟩
    rcases q6 a with ⟨x, y⟩ | ⟨x, y⟩
    · omega
    · rw [← y]; exact b
  · rintro ⟨a, b⟩
    refine ⟨a, ?_⟩
    rcases q6 a with ⟨x, y⟩ | ⟨x, y⟩
    · omega
    · rw [y]; exact b
theorem RB.dots (h : RB p w τ) : (fI w 10 p = 5 ∧ fI w 14 p = 46) ↔ (tI τ 3 = 5 ∧ tI τ 4 = 256) := by
  obtain ⟨-, -, -, -, ⟨-, -, -, -, -, -, -, g8, -⟩, ⟨-, -, q3, -, -, q6⟩, -⟩ := h
  rw [q3]
  constructor
  · rintro ⟨a, b⟩
    refine ⟨a, ?_⟩
    rcases q6 a with ⟨x, y⟩ | ⟨x, y⟩
    · exact x
    · unfold isSg at x; omega
  · rintro ⟨a, b⟩
    refine ⟨a, ?_⟩
    rcases q6 a with ⟨x, y⟩ | ⟨x, y⟩
    · exact y
    · unfold isSg at x; omega
theorem ite_iff {a b : Prop} [Decidable a] [Decidable b] (h : a ↔ b) : (if a then (1 : Int) else 0) = if b then 1 else 0 := by
  by_cases z : a
  · rw [if_pos z, if_pos (h.mp z)]
  · rw [if_neg z, if_neg (fun y => z (h.mpr y))]
theorem sR_isSign (h : RB p w τ) {c : Int} (hc : c ≠ 46 ∧ c ≠ 256) {Q : ZRes → CW → Prop} (hQ : Q (.inl (some (ai (ff_isSign c τ)))) w) : wpC p (d + 1) 16 [ar p, ai c] w Q := by
  refine sC_isSign ?_
  rw [ite_iff (h.sign hc)]
  exact hQ
theorem getD_mem (s : List Int) (j : Nat) (h : j < s.length) : s.getD j 0 ∈ s := by
  rw [List.getD_eq_getElem?_getD, List.getElem?_eq_getElem h]; exact List.getElem_mem h
/-- words: by number -/
theorem sR_isWord (h : RB p w τ) {r i : Nat} (hr : sto w r (wdL.getD i [])) (hi : i < 11) {Q : ZRes → CW → Prop} (hQ : Q (.inl (some (ai (ff_isWord i τ)))) w) : wpC p (d + 5) 12 [ar p, ar r] w Q := by
  obtain ⟨W, -, T, R, ⟨g1, g2, g3, g4, g5, g6, g7, g8, g9⟩, ⟨q1, q2, q3, q4, q5, q6⟩, -⟩ := h
  have h1600 := T.2.1
  have hwd : ∀ i : Fin 11, ascii' (wdL.getD i.val []) ∧ 1 ≤ (wdL.getD i.val []).length ∧ (wdL.getD i.val []).length ≤ 8 := by decide
  have hw := hwd ⟨i, hi⟩
  have hasc : ascii (wdL.getD i []) := ⟨hw.1.1, fun j hj => by
    have hm : (wdL.getD i []).getD j 0 ∈ wdL.getD i [] := getD_mem _ _ hj
    exact hw.1.2 _ hm⟩
  generalize hs : wdL.getD i [] = s at hr hasc hw
  have hl8 : s.length ≤ 8 := hw.2.2
  -- the loop, when it is out
  have out : ∀ (x3 : Int) (I : Int → Int → CW → Prop), (∀ (x2 : Int) (x3 : Int) (w : CW), (
    (x2 = 0 →
      pC_X0_isWord_76 p (wpC p (d + 4)) (fun v w => Q (.inl (some (ai v))) w) x2 w) ∧
    (¬ (x2 = 0) →
      (tg w r = 32 ∨ tg w r = 34) ∧
      wpC p (d + 4) 221 [ar r] w (zqI (fun v4 u3 =>
        (v4 ≤ x3 →
          pC_X0_isWord_76 p (wpC p (d + 4)) (fun v w => Q (.inl (some (ai v))) w) x2 u3) ∧
        (¬ (v4 ≤ x3) →
          ((tg u3 (fR u3 7 p) = 101 ∨ tg u3 (fR u3 7 p) = 104 ∨ tg u3 (fR u3 7 p) = 106) ∧ 0 ≤ (w32 ((fI u3 11 p) + x3)) ∧ (w32 ((fI u3 11 p) + x3)) < ln u3 (fR u3 7 p)) ∧
          (tg u3 r = 32 ∨ tg u3 r = 34) ∧
          wpC p (d + 4) 233 [ar r, ai x3] u3 (zqI (fun v8 u7 =>
            ∀ v9 : Int, v9 = (if (aN u3 (fR u3 7 p) (w32 ((fI u3 11 p) + x3))) = v8 then 1 else 0) →
            ∀ x3_10 : Int, x3_10 = w32 (x3 + 1) →
            I v9 x3_10 u7) zno))) zno))) → I x2 x3 w) → ff_isWord i τ = 0 → I 0 x3 w := by
    intro x3 I hI h0
    exact hI _ _ _ ⟨fun _ => ⟨Or.inl rfl, by rw [h0] at hQ; exact hQ⟩, fun e => absurd rfl e⟩
  refine wC_X0_isWord (Nat.zero_le _) ⟨fun h6 => ⟨hr.1, sJ_length hr hasc ?_⟩, fun h6 => ?_⟩
  · rw [q3] at h6
    obtain ⟨⟨k, n, y1, y2, y3, y4, y5, y6⟩, y7, y8⟩ := g9 h6
    have hmem : ∀ c ∈ sl (bt τ) k n, 1 ≤ c ∧ c ≤ 127 := by
      intro c hc
      obtain ⟨j, hj, rfl⟩ := List.mem_map.mp hc
      have := List.mem_range.mp hj
      have := y5 (k + j) (by omega) (by omega); omega
    have hiff : ff_isWord i τ = 1 ↔ sl (bt τ) k n = s := by
      have := wdOf_eq (sl (bt τ) k n) hmem i hi
      rw [hs] at this
      rw [← this, ← y6]
      unfold ff_isWord
      constructor
      · intro e
        by_cases z : tI τ 3 = 6 ∧ tI τ 4 = (i : Int)
        · exact z.2
        · rw [if_neg z] at e; cases e
      · intro e; rw [if_pos ⟨h6, e⟩]
    have hif : ff_isWord i τ = 1 ∨ ff_isWord i τ = 0 := by
      unfold ff_isWord; split
      · exact Or.inl rfl
      · exact Or.inr rfl
    have hln : w32 ((fI w 9 p) - (fI w 11 p)) = n := by
      rw [q1, q2, y1, y2, w32_s (by omega) (by omega)]; omega
    have hrd : ∀ j : Nat, j < n → aN w (fR w 7 p) (w32 ((fI w 11 p) + (j : Int))) = bt τ (k + j) ∧ (0 ≤ (w32 ((fI w 11 p) + (j : Int))) ∧ (w32 ((fI w 11 p) + (j : Int))) < ln w (fR w 7 p)) := by
      intro j hj
      have e : w32 ((fI w 11 p) + (j : Int)) = ((k + j : Nat) : Int) := by rw [q2, y1, w32_s (by omega) (by omega)]; omega
      rw [e]
      have hb := y5 (k + j) (by omega) (by omega)
      refine ⟨?_, by omega, by rw [R.2.1]; omega⟩
      unfold aN
      rw [if_neg (by rw [R.1]; decide), R.2.2.2 (k + j) (by omega), ← bt_lt (by omega)]
      exact sg8_id (by omega)
    refine ⟨fun hlen => ?_, fun hlen => ?_⟩
    · rw [hln] at hlen
      have hln' : n = s.length := by omega
      intro I hI
      have key : ∀ m j : Nat, n - j ≤ m → j ≤ n → (∀ q, q < j → bt τ (k + q) = s.getD q 0) → I 1 (j : Int) w := by
        intro m
        induction m with
        | zero =>
          intro j h1 h2 h3
          refine hI _ _ _ ⟨fun e => absurd e (by decide), fun _ => ⟨hr.1, sJ_length hr hasc ⟨fun _ => ⟨Or.inr rfl, ?_⟩, fun e => by omega⟩⟩⟩
          have : ff_isWord i τ = 1 := hiff.mpr (by
            apply List.ext_getElem
            · rw [sl_len]; exact hln'
            · intro q h4 h5
              have := h3 q (by omega)
              rw [List.getD_eq_getElem?_getD, List.getElem?_eq_getElem h5] at this
              simp only [Option.getD_some] at this
              rw [← this]
              simp [sl])
          rw [this] at hQ
          exact hQ
        | succ m ih =>
          intro j h1 h2 h3
          by_cases hjn : j = n
          · refine hI _ _ _ ⟨fun e => absurd e (by decide), fun _ => ⟨hr.1, sJ_length hr hasc ⟨fun _ => ⟨Or.inr rfl, ?_⟩, fun e => by omega⟩⟩⟩
            have : ff_isWord i τ = 1 := hiff.mpr (by
              apply List.ext_getElem
              · rw [sl_len]; exact hln'
              · intro q h4 h5
                have := h3 q (by omega)
                rw [List.getD_eq_getElem?_getD, List.getElem?_eq_getElem h5] at this
                simp only [Option.getD_some] at this
                rw [← this]
                simp [sl])
            rw [this] at hQ
            exact hQ
          · obtain ⟨r1, r2⟩ := hrd j (by omega)
            refine hI _ _ _ ⟨fun e => absurd e (by decide), fun _ => ⟨hr.1, sJ_length hr hasc ⟨fun e => by omega, fun _ => ⟨⟨Or.inl R.1, r2⟩, hr.1, sJ_charAt hr hasc (by omega) (by omega) (fa (fa ?_))⟩⟩⟩⟩
            rw [r1, Int.toNat_natCast, w32_k (by omega)]
            by_cases z : bt τ (k + j) = s.getD j 0
            · rw [if_pos z]
              exact ih (j + 1) (by omega) (by omega) (fun q hq => by
                rcases Nat.lt_or_ge q j with y | y
                · exact h3 q y
                · have : q = j := by omega
                  rw [this]; exact z)
            · rw [if_neg z]
              refine out _ I hI ?_
              rcases hif with y | y
              · exfalso
                have := hiff.mp y
                apply z
                rw [← this, sl_get _ _ _ (by omega)]
              · exact y
      exact key n 0 (by omega) (by omega) (fun q hq => by omega)
    · rw [hln] at hlen
      intro I hI
      refine out _ I hI ?_
      rcases hif with y | y
      · exfalso
        have := hiff.mp y
        apply hlen
        rw [← this, sl_len]
      · exact y
  · rw [q3] at h6
    intro I hI
    refine out _ I hI ?_
    unfold ff_isWord
    rw [if_neg (fun z => h6 z.1)]
/-- the reference's fault -/
theorem sT_fails {k pl : Int} : ∃ τ', (FT [7, 8] τ τ' ∧ (tI τ 7 = 0 → 1 ≤ k → Dd k pl τ') ∧ (tI τ 7 ≠ 0 → τ' = τ)) ∧ ∀ Q, Q (.inl none) τ' → wpT (d + 1) 13 [ai k, ai pl] τ Q := by
  by_cases h : tI τ 7 = 0
  · refine ⟨sI (sI τ 7 k) 8 pl, ⟨((FT.refl _ τ).ssI (by simp)).ssI (by simp), fun _ hk => Or.inl ⟨rfl, rfl, hk⟩, fun z => absurd h z⟩, fun Q hQ => wT_fails (Nat.zero_le _) ⟨fun _ => fa (fa hQ), fun z => absurd h z⟩⟩
  · exact ⟨τ, ⟨FT.refl _ _, fun z => absurd z h, fun _ => rfl⟩, fun Q hQ => wT_fails (Nat.zero_le _) ⟨fun z => absurd z h, fun _ => hQ⟩⟩
theorem sT_stop {k : Int} (hk : 1 ≤ k) : ∃ τ', (FT [7, 8] τ τ' ∧ (tI τ 7 = 0 → Dd (if tI τ 3 = 7 then 1 else k) (tI τ 5) τ' ∧ tI τ' 7 ≠ 0) ∧ (tI τ 7 ≠ 0 → τ' = τ)) ∧ ∀ Q, Q (.inl none) τ' → wpT (d + 2) 12 [ai k] τ Q := by
  obtain ⟨τ', ⟨h1, h2, h3⟩, run⟩ := sT_fails (d := d) (τ := τ) (k := if tI τ 3 = 7 then 1 else k) (pl := tI τ 5)
  have hk' : 1 ≤ (if tI τ 3 = 7 then 1 else k) := by split <;> omega
  refine ⟨τ', ⟨h1, fun z => ⟨h2 z hk', ?_⟩, h3⟩, fun Q hQ => wT_stop (Nat.zero_le _) (fa (run _ hQ))⟩
  have := h2 z hk'
  rcases this with ⟨a, b, c⟩ | ⟨a, b, c, e⟩
  · omega
  · exfalso
    have := (run (fun _ τ'' => tI τ'' 7 = 0) a)
    have h4 : wpT (d + 1) 13 [ai (if tI τ 3 = 7 then 1 else k), ai (tI τ 5)] τ (fun _ τ'' => tI τ'' 7 = 0) := this
    rw [uT_fails] at h4
    have := (h4.2.1 z) _ rfl _ rfl
    have e3 : (if tI τ 3 = 7 then 1 else k) = 0 := this
    omega
/-- dead: stop, takes, must, fails don't go on -/
theorem dd_stop {how pl k : Int} (D : Dd how pl τ) (hk : 1 ≤ k) : ∃ τ', (FT [7, 8] τ τ' ∧ Dd how pl τ' ∧ tI τ' 7 ≠ 0) ∧ ∀ Q, Q (.inl none) τ' → wpT (d + 2) 12 [ai k] τ Q := by
  obtain ⟨τ', ⟨h1, h2, h3⟩, run⟩ := sT_stop (d := d) (τ := τ) hk
  refine ⟨τ', ⟨h1, ?_⟩, run⟩
  rcases D with ⟨a, b, c⟩ | ⟨a, b, c, e, -⟩
  · have := h3 (by omega)
    rw [this]
    exact ⟨Or.inl ⟨a, b, c⟩, by omega⟩
  · have := h2 a
    rw [if_pos b, e, ← c] at this
    exact this
theorem dd_takes {how pl c : Int} (D : Dd how pl τ) : ∀ Q, Q (.inl (some (ai 0))) τ → wpT (d + 2) 17 [ai c] τ Q := by
  intro Q hQ
  have e : (if ((tI τ 7) = 0) ∧ (¬ ((ff_isSign c τ) = 0)) then (1 : Int) else 0) = 0 := by
    apply if_neg
    rintro ⟨z1, z2⟩
    rcases D with ⟨a, b, h⟩ | ⟨a, b, h, e⟩
    · have z1 : tI τ 7 = 0 := z1
      omega
    · apply z2
      unfold ff_isSign
      apply if_neg
      rintro ⟨y, -⟩
      have y : tI τ 3 = 5 := y
      omega
  refine wT_takes (by omega) (fa ?_)
  rw [e]
  exact ⟨fun _ => ⟨Or.inl rfl, hQ⟩, fun z => absurd rfl z⟩
theorem dd_must {how pl c : Int} (D : Dd how pl τ) : ∃ τ', (FT [7, 8] τ τ' ∧ Dd how pl τ' ∧ tI τ' 7 ≠ 0) ∧ ∀ Q, Q (.inl none) τ' → wpT (d + 4) 20 [ai c] τ Q := by
  by_cases h : tI τ 7 = 0
  · obtain ⟨τ', h1, run⟩ := dd_stop (d := d + 1) (k := 2) D (by decide)
    exact ⟨τ', h1, fun Q hQ => wT_must (Nat.zero_le _) ⟨fun _ => dd_takes D _ ⟨fun _ => run _ hQ, fun z => absurd rfl z⟩, fun z => absurd h z⟩⟩
  · exact ⟨τ, ⟨FT.refl _ _, D, h⟩, fun Q hQ => wT_must (Nat.zero_le _) ⟨fun z => absurd z h, fun _ => hQ⟩⟩
/-- takes, not dead -/
theorem sT_takesNo {c : Int} (h : ff_isSign c τ = 0) : ∀ Q, Q (.inl (some (ai 0))) τ → wpT (d + 2) 17 [ai c] τ Q := by
  intro Q hQ
  refine wT_takes (by omega) (fa ?_)
  rw [if_neg (fun z => z.2 h)]
  exact ⟨fun _ => ⟨Or.inl rfl, hQ⟩, fun z => absurd rfl z⟩
theorem sT_takesYes {c : Int} (h0 : tI τ 7 = 0) (h : ff_isSign c τ ≠ 0) {τ' : TW} (run : ∀ Q, Q (.inl none) τ' → wpT (d + 4) 4 [] τ Q) : ∀ Q, Q (.inl (some (ai 1))) τ' → wpT (d + 5) 17 [ai c] τ Q := by
  intro Q hQ
  refine wT_takes (by omega) (fa ?_)
  rw [if_pos ⟨h0, h⟩]
  exact ⟨fun z => absurd z (by decide), fun _ => run _ ⟨Or.inr rfl, hQ⟩⟩
end ZSmall
