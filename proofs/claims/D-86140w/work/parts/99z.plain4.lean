/-! a pattern of one token, both: by its token -/
section ZPlain4
variable {p b e d : Nat} {w : CW} {τ : TW}
theorem sC_isKind {x : Int} {Q : ZRes → CW → Prop} (hQ : Q (.inl (some (ai (if ¬ (x < 3) then 1 else 0)))) w) : wpC p (d + 1) 30 [ai x] w Q := wC_X0_isKind (Nat.zero_le _) (fa hQ)
/-- new objects of patterns -/
theorem new2 (W : WF p w) (t n f : Nat) (v : Int) (hf : f ≠ 68) {w' : CW} (hw : w' = pI (pI (nO w t n) 68 (cz w + 1) (-1)) f (cz w + 1) v) : Fr [] w w' ∧ WF p w' ∧ cz w' = cz w + 1 ∧ cu w' = cu w + n ∧ tg w' (cz w + 1) = t ∧ fI w' 68 (cz w + 1) = -1 ∧ fI w' f (cz w + 1) = v := by
  have hz := W.pz
  subst hw
  exact ⟨(((Fr.refl [] w).snO).spI (Or.inr (Nat.lt_succ_self _))).spI (Or.inr (Nat.lt_succ_self _)), ((W.snO t n).spI _ _ _).spI _ _ _, rfl, rfl, if_pos rfl, by rw [fI_of _ _ _ _ (Ne.symm hf), fI_at], fI_at _ _ _ _⟩
theorem sC_word {v : Int} {w' : CW} (hw : w' = pI (pI (nO w 10 2) 68 (cz w + 1) (-1)) 74 (cz w + 1) v) {Q : ZRes → CW → Prop} (hQ : Q (.inl none) w') : wpC p (d + 3) 111 [ar (cz w + 1), al v] (nO w 10 2) Q := by
  subst hw
  exact sC_iWord (by omega) (show tg (nO w 10 2) (cz w + 1) = 10 from if_pos rfl) hQ
theorem sC_same {v : Int} {w' : CW} (hv : v = 0 ∨ v = 1) (hw : w' = pI (pI (nO w 11 2) 68 (cz w + 1) (-1)) 75 (cz w + 1) v) {Q : ZRes → CW → Prop} (hQ : Q (.inl none) w') : wpC p (d + 3) 114 [ar (cz w + 1), ai v] (nO w 11 2) Q := by
  subst hw
  exact sC_iSame (by omega) (show tg (nO w 11 2) (cz w + 1) = 11 from if_pos rfl) hv hQ
theorem sC_none {w' : CW} (hw : w' = pI (nO w 12 1) 68 (cz w + 1) (-1)) {Q : ZRes → CW → Prop} (hQ : Q (.inl none) w') : wpC p (d + 3) 117 [ar (cz w + 1)] (nO w 12 1) Q := by
  subst hw
  exact sC_iNone (by omega) (show tg (nO w 12 1) (cz w + 1) = 12 from if_pos rfl) hQ
/-- behind the objects: 322 -/
abbrev c322 (p m : Nat) (w : CW) (much : Int) (r : Nat) (w2 : CW) (Q : Nat → CW → Prop) (X : Nat → CW → Prop) : Prop := pC_X0_plain_322 p (wpC p (m + 16)) (fun v w => zqR Q X (.inl (some (ar v))) w) (fun x w => zqR Q X (.inr x) w) much (fI w 11 p) r w2
theorem pl_text {m n o : Nat} {s much : Int} (h : PS p w τ o) (hb : b ≤ cz w) (h4 : tI τ 3 = 4) (hR : Rm 1000 w τ) : PLN p b e n (m + 17) w τ s much o := by
  obtain ⟨rb, hK, hN, e16, e5, e32, ho, hwi, hmu, hsl, hsq⟩ := id h
  have hnp : np τ < 1700 := by have := rb.rg; have : tI τ 5 = tI τ 5 := rfl; omega
  have hroom := Rm.room rb hR (k := 3) (n := 20) (by decide)
  have hr1 := Rm.room rb hR (k := 1) (n := 8) (by decide)
  have e11 : fI w 11 p = tI τ 5 := rb.pl
  have ty : fI w 10 p = 4 := rb.ty.trans h4
  have sg : ∀ c, (0 : Int) = 0 → ff_isSign c τ = 0 := fun c _ => fl_s (by omega) c
  have wd : ∀ c, ff_isWord c τ = 0 := fl_w (by omega)
  have z6 : b6 τ = 0 := b6_0 (by omega) (sg _ rfl)
  have z13 : b13 τ = 0 := b13_0 (wd _) (wd _)
  have z34 : b34 s τ ↔ s ≠ 2 := by
    unfold b34
    rw [z6, z13, wd 10, h4]
    simp
  have x26 : b26 τ := Or.inr (Or.inr (Or.inl h4))
  by_cases hs : s = 2
  · obtain ⟨w1, hw1⟩ : ∃ w1, w1 = pI (pI (nO w 10 2) 68 (cz w + 1) (-1)) 74 (cz w + 1) (fI w 12 p) := ⟨_, rfl⟩
    obtain ⟨f1, W1, z1, u1, t1, g1, g2⟩ := new2 rb.1 10 2 74 (fI w 12 p) (by decide) hw1
    have e12 : fI w 12 p = tI τ 4 := rb.wd (Or.inr (Or.inr h4))
    have e12n : fI (nO w 10 2) 12 p = fI w 12 p := if_neg (by have := rb.1.pz; omega)
    refine OUTb.go (OUTb.nw (A0 := 1) (B0 := 2) (k := 7) (w' := w1) hR rb f1 W1 z1 u1 (by decide) (cm' := c322 p m w much (cz w + 1) w1) (fun Q X hh => ?_) (fun rb1 c1 hR1 => ?_))
    · refine wC_X0_plain (Nat.zero_le _) (bC_X0_plain_0 (fa (br0 (by omega) ?_)))
      refine sR_isSign rb (by decide) (br1 (sg _ (by decide)) (br0 (by omega) ?_))
      refine sR_isSign rb (by decide) (br1 (sg _ (by decide)) (br0 (by omega) ?_))
      refine sR_isSign rb (by decide) (br1 (sg _ (by decide)) ?_)
      refine br1 ty (fa (sC_needOk (by rw [if_pos hs]; decide) ⟨⟨by omega, by omega⟩, fa ?_⟩))
      rw [e12n]
      exact sC_word hw1 hh
    · exact pl_322 h c1 rb1 (hR1.le (by decide)) hb (Nat.lt_succ_self _) g1 (by omega) (by omega) (by omega) x26 (fun y => (z34.mp y) hs) z6 rfl (A := 0) (by rw [wd, if_pos rfl]) (X := tI τ 4) (by rw [if_pos h4]) (Or.inr (Or.inr (Or.inl ⟨by rw [z6, z13, if_pos rfl, if_pos rfl, if_pos h4], t1, g2.trans e12, hs⟩)))
  · refine OUTb.go (OUTb.thr rb (fun Q X hh => ?_) (thW rb ⟨e16, hnp⟩ (by omega) x26 (z34.mpr hs)))
    refine wC_X0_plain (Nat.zero_le _) (bC_X0_plain_0 (fa (br0 (by omega) ?_)))
    refine sR_isSign rb (by decide) (br1 (sg _ (by decide)) (br0 (by omega) ?_))
    refine sR_isSign rb (by decide) (br1 (sg _ (by decide)) (br0 (by omega) ?_))
    refine sR_isSign rb (by decide) (br1 (sg _ (by decide)) ?_)
    exact br1 ty (fa (needNoP e11 (if_neg hs) hr1 hh))
theorem wd_ne {i j : Int} (h : ff_isWord i τ ≠ 0) (hij : j ≠ i) : ff_isWord j τ = 0 := ff_w0 (fun y => h (ff_w0 (fun z => by omega)))
theorem wd_1 {i : Int} (h : ff_isWord i τ ≠ 0) : ff_isWord i τ = 1 ∧ tI τ 3 = 6 ∧ tI τ 4 = i := by
  by_cases z : tI τ 3 = 6 ∧ tI τ 4 = i
  · exact ⟨ff_w1 z, z.1, z.2⟩
  · exact absurd (ff_w0 z) h
theorem pl_truth {m n o : Nat} {s much : Int} (h : PS p w τ o) (hb : b ≤ cz w) (h8 : ff_isWord 8 τ ≠ 0 ∨ ff_isWord 9 τ ≠ 0) (hR : Rm 1000 w τ) : PLN p b e n (m + 17) w τ s much o := by
  obtain ⟨rb, hK, hN, e16, e5, e32, ho, hwi, hmu, hsl, hsq⟩ := id h
  have hnp : np τ < 1700 := by have := rb.rg; have : tI τ 5 = tI τ 5 := rfl; omega
  have hroom := Rm.room rb hR (k := 3) (n := 20) (by decide)
  have hr1 := Rm.room rb hR (k := 1) (n := 8) (by decide)
  have e11 : fI w 11 p = tI τ 5 := rb.pl
  have h3 : tI τ 3 = 6 ∧ (tI τ 4 = 8 ∨ tI τ 4 = 9) := by
    rcases h8 with y | y
    · exact ⟨(wd_1 y).2.1, Or.inl (wd_1 y).2.2⟩
    · exact ⟨(wd_1 y).2.1, Or.inr (wd_1 y).2.2⟩
  have ty : fI w 10 p = 6 := rb.ty.trans h3.1
  have h33 := h3.1
  have sg : ∀ c, (0 : Int) = 0 → ff_isSign c τ = 0 := fun c _ => fl_s (by omega) c
  have w10 : ff_isWord 10 τ = 0 := ff_w0 (fun y => by omega)
  have z6 : b6 τ = 0 := b6_0 (by omega) (sg _ rfl)
  have z13 : b13 τ = 1 := b13_1 h8
  have z34 : b34 s τ ↔ s ≠ 1 := by
    unfold b34
    rw [z6, z13, w10, h33]
    simp
  have x26 : b26 τ := Or.inr (Or.inl (by rw [z13]; decide))
  have w01 := ff_w01 8 τ
  have g259 : ∀ {Q : ZRes → CW → Prop}, pC_X0_plain_259 p (wpC p (m + 16)) (fun v w => Q (.inl (some (ar v))) w) (fun x w => Q (.inr x) w) s much (fI w 11 p) w → wpC p (m + 17) 23 [ar p, ai s, ai much] w Q := by
    intro Q hh
    refine wC_X0_plain (Nat.zero_le _) (bC_X0_plain_0 (fa (br0 (by omega) ?_)))
    refine sR_isSign rb (by decide) (br1 (sg _ (by decide)) (br0 (by omega) ?_))
    refine sR_isSign rb (by decide) (br1 (sg _ (by decide)) (br0 (by omega) ?_))
    refine sR_isSign rb (by decide) (br1 (sg _ (by decide)) ?_)
    refine br0 (by omega) (rb.word 9 8 rfl (by decide) ⟨fun y => ?_, fun _ => hh⟩)
    exact rb.word 10 9 rfl (by decide) (br0 (by
      rcases h8 with z | z
      · exact absurd y z
      · exact z) hh)
  by_cases hs : s = 1
  · obtain ⟨w1, hw1⟩ : ∃ w1, w1 = pI (pI (nO w 11 2) 68 (cz w + 1) (-1)) 75 (cz w + 1) (ff_isWord 8 τ) := ⟨_, rfl⟩
    obtain ⟨f1, W1, z1, u1, t1, g1, g2⟩ := new2 rb.1 11 2 75 (ff_isWord 8 τ) (by decide) hw1
    have hRn : RB p (nO w 11 2) τ := (RB.new rb (A := 1) (B := 2) ((Fr.refl [] w).snO) (rb.1.snO 11 2) rfl rfl).1
    refine OUTb.go (OUTb.nw (A0 := 1) (B0 := 2) (k := 7) (w' := w1) hR rb f1 W1 z1 u1 (by decide) (cm' := c322 p m w much (cz w + 1) w1) (fun Q X hh => g259 ?_) (fun rb1 c1 hR1 => ?_))
    · exact bC_X0_plain_259 (fa (sC_needOk (by rw [if_pos hs]; decide) ⟨⟨by omega, by omega⟩, fa (hRn.word 9 8 rfl (by decide) (sC_same w01 hw1 hh))⟩))
    · refine pl_322 h c1 rb1 (hR1.le (by decide)) hb (Nat.lt_succ_self _) g1 (by omega) (by omega) (by omega) x26 (fun y => (z34.mp y) hs) z6 rfl (A := if (ff_isWord 8 τ) = 0 then 0 else 1) rfl (X := 0) (by rw [if_neg (by omega)]) (Or.inr (Or.inl ⟨by rw [z6, z13, if_pos rfl, if_neg (by decide)], t1, ?_, ?_, hs⟩))
      · rw [g2]
        rcases w01 with y | y <;> rw [y] <;> rfl
      · split
        · exact Or.inl rfl
        · exact Or.inr rfl
  · refine OUTb.go (OUTb.thr rb (fun Q X hh => g259 ?_) (thW rb ⟨e16, hnp⟩ (by omega) x26 (z34.mpr hs)))
    exact bC_X0_plain_259 (fa (needNoP e11 (if_neg hs) hr1 hh))
/-- none, or nothing that begins a pattern -/
theorem pl_none {m n o : Nat} {s much : Int} (h : PS p w τ o) (hb : b ≤ cz w) (n1 : tI τ 3 ≠ 1) (n2 : tI τ 3 ≠ 2) (n3 : tI τ 3 ≠ 3) (n4 : tI τ 3 ≠ 4) (s95 : ff_isSign 95 τ = 0) (s45 : ff_isSign 45 τ = 0) (s40 : ff_isSign 40 τ = 0) (w8 : ff_isWord 8 τ = 0) (w9 : ff_isWord 9 τ = 0) (hR : Rm 1000 w τ) : PLN p b e n (m + 17) w τ s much o := by
  obtain ⟨rb, hK, hN, e16, e5, e32, ho, hwi, hmu, hsl, hsq⟩ := id h
  have hnp : np τ < 1700 := by have := rb.rg; have : tI τ 5 = tI τ 5 := rfl; omega
  have hroom := Rm.room rb hR (k := 3) (n := 20) (by decide)
  have hr1 := Rm.room rb hR (k := 1) (n := 8) (by decide)
  have e11 : fI w 11 p = tI τ 5 := rb.pl
  have ty : fI w 10 p = tI τ 3 := rb.ty
  have sg : ∀ c : Int, (c = 95 ∨ c = 45 ∨ c = 40) → ff_isSign c τ = 0 := fun c hc => by
    rcases hc with y | y | y
    · rw [y]; exact s95
    · rw [y]; exact s45
    · rw [y]; exact s40
  have z6 : b6 τ = 0 := b6_0 n3 s45
  have z13 : b13 τ = 0 := b13_0 w8 w9
  have go : ∀ {Q : ZRes → CW → Prop}, wpC p (m + 16) 14 [ar p, ai (ff_isWord 10 τ)] w (zqV (fun u65 =>
                                  wpC p (m + 16) 30 [ai s] u65 (zqI (fun v68 u67 =>
                                    wpC p (m + 16) 10 [ar p, ai v68, ai 5, ai (fI w 11 p)] u67 (zqV (fun u69 =>
                                      (cz u69 + 1 ≤ mz u69 ∧ cu u69 + 1 ≤ mu u69) ∧
                                      ∀ u71 : CW, u71 = nO u69 12 1 →
                                      wpC p (m + 16) 117 [ar (cz u69 + 1)] u71 (zqV (fun u73 =>
                                        pC_X0_plain_322 p (wpC p (m + 16)) (fun v w => Q (.inl (some (ar v))) w) (fun x w => Q (.inr x) w) much (fI w 11 p) (cz u69 + 1) u73) zno)) (fun x75 u76 =>
                                      Q (.inr x75) u76))) zno)) (fun x77 u78 =>
                                  Q (.inr x77) u78)) → wpC p (m + 17) 23 [ar p, ai s, ai much] w Q := by
    intro Q hh
    refine wC_X0_plain (Nat.zero_le _) (bC_X0_plain_0 (fa (br0 (by omega) ?_)))
    refine sR_isSign rb (by decide) (br1 (sg _ (by decide)) (br0 (by omega) ?_))
    refine sR_isSign rb (by decide) (br1 (sg _ (by decide)) (br0 (by omega) ?_))
    refine sR_isSign rb (by decide) (br1 (sg _ (by decide)) ?_)
    refine br0 (by omega) (rb.word 9 8 rfl (by decide) (br1 w8 (rb.word 10 9 rfl (by decide) (br1 w9 (rb.word 11 10 rfl (by decide) hh)))))
  by_cases hw : ff_isWord 10 τ = 0
  · have x26 : ¬ b26 τ := by
      unfold b26
      rw [z6, z13, s95, s40, hw]
      omega
    refine OUTb.go (OUTb.thr rb (fun Q X hh => go ?_) (thX rb x26))
    rw [hw]
    exact rb.wantNo rfl hr1 hh
  · obtain ⟨v1, v2, v3⟩ := wd_1 hw
    have z34 : b34 s τ ↔ ¬ 3 ≤ s := by
      unfold b34
      rw [z6, z13, v1, v2]
      simp
    have x26 : b26 τ := Or.inr (Or.inr (Or.inr (Or.inr (Or.inr (Or.inr (Or.inr hw))))))
    by_cases hs : s < 3
    · refine OUTb.go (OUTb.thr rb (fun Q X hh => go ?_) (thW rb ⟨e16, hnp⟩ n2 x26 (z34.mpr (by omega))))
      rw [v1]
      exact sC_want (by decide) (sC_isKind (needNoP e11 (if_neg (fun y => y hs)) hr1 hh))
    · obtain ⟨w1, hw1⟩ : ∃ w1, w1 = pI (nO w 12 1) 68 (cz w + 1) (-1) := ⟨_, rfl⟩
      obtain ⟨f1, W1, z1, u1, t1, g1⟩ := new1 rb.1 12 1 68 (-1) hw1
      refine OUTb.go (OUTb.nw (A0 := 1) (B0 := 1) (k := 6) (w' := w1) hR rb f1 W1 z1 u1 (by decide) (cm' := c322 p m w much (cz w + 1) w1) (fun Q X hh => go ?_) (fun rb1 c1 hR1 => ?_))
      · rw [v1]
        exact sC_want (by decide) (sC_isKind (sC_needOk (by rw [if_pos hs]; decide) ⟨⟨by omega, by omega⟩, fa (sC_none hw1 hh)⟩))
      · refine pl_322 h c1 rb1 (hR1.le (by decide)) hb (Nat.lt_succ_self _) g1 n1 n2 (by omega) x26 (fun y => (z34.mp y) (by omega)) z6 rfl (A := 0) (by rw [w8, if_pos rfl]) (X := 0) (by rw [if_neg (by omega)]) (Or.inr (Or.inr (Or.inr ⟨by rw [z6, z13, if_pos rfl, if_pos rfl, if_neg n4, if_neg n2, if_pos s40, if_neg hw], t1, by omega⟩)))
end ZPlain4
