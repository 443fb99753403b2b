/-! whole, truth, nothing: both -/
section ZPlain
variable {p b e d : Nat} {w : CW} {τ : TW}
/-- a new value's object -/
def ovW (w : CW) (t k : Nat) (n : Int) : CW := pI (pI (nO w t k) 113 (cz w + 1) n) 114 (cz w + 1) 1
theorem ovW_fr (W : WF p w) (t k : Nat) (n : Int) : Fr [] w (ovW w t k n) ∧ PF [] p w (ovW w t k n) ∧ WF p (ovW w t k n) ∧ cz (ovW w t k n) = cz w + 1 ∧ cu (ovW w t k n) = cu w + k ∧ tg (ovW w t k n) (cz w + 1) = t ∧ fI (ovW w t k n) 113 (cz w + 1) = n ∧ fI (ovW w t k n) 114 (cz w + 1) = 1 := by
  have hz := W.pz
  have h1 : cz w < cz w + 1 := Nat.lt_succ_self _
  have hne : p ≠ cz w + 1 := by omega
  unfold ovW
  refine ⟨((Fr.refl [] w).snO.spI (Or.inr h1)).spI (Or.inr h1), (((PF.refl [] p w).snO hz).spI (Or.inr hne)).spI (Or.inr hne), ((W.snO t k).spI _ _ _).spI _ _ _, rfl, rfl, if_pos rfl, ?_, fI_at _ _ _ _⟩
  rw [fI_of _ _ _ _ (by decide), fI_at]
theorem ovW_115 (W : WF p w) (t k : Nat) (n x : Int) : Fr [] w (pI (ovW w t k n) 115 (cz w + 1) x) ∧ PF [] p w (pI (ovW w t k n) 115 (cz w + 1) x) ∧ WF p (pI (ovW w t k n) 115 (cz w + 1) x) ∧ cz (pI (ovW w t k n) 115 (cz w + 1) x) = cz w + 1 ∧ cu (pI (ovW w t k n) 115 (cz w + 1) x) = cu w + k ∧ tg (pI (ovW w t k n) 115 (cz w + 1) x) (cz w + 1) = t ∧ fI (pI (ovW w t k n) 115 (cz w + 1) x) 113 (cz w + 1) = n ∧ fI (pI (ovW w t k n) 115 (cz w + 1) x) 114 (cz w + 1) = 1 := by
  obtain ⟨q1, q2, q3, q4, q5, q6, q7, q8⟩ := ovW_fr W t k n
  have hz := W.pz
  have h1 : cz w < cz w + 1 := Nat.lt_succ_self _
  have hne : p ≠ cz w + 1 := by omega
  refine ⟨q1.spI (Or.inr h1), q2.spI (Or.inr hne), q3.spI _ _ _, q4, q5, q6, ?_, ?_⟩
  · rw [fI_of _ _ _ _ (by decide)]; exact q7
  · rw [fI_of _ _ _ _ (by decide)]; exact q8
/-- what an added value leaves, both -/
def ADV (p : Nat) (w : CW) (τ : TW) (w' : CW) (τ' : TW) : Prop := VAL p w' τ' ∧ Fr [p, fR w 3 p] w w' ∧ PF [4] p w w' ∧ WF p w' ∧ FT [109, 110, 111, 112, 113] τ τ' ∧ zm w' ≤ zm w + 8 ∧ (VT τ → VT τ') ∧ VSm p w τ w' τ'
theorem sC_v30 {x : Nat} {n : Int} {t k : Nat} (hx : x = cz w + 1) (ht : 26 ≤ t ∧ t ≤ 30) {Q : ZRes → CW → Prop} (hQ : Q (.inl none) (ovW w t k n)) : wpC p (d + 1) 183 [ar x, ai n, ai 1] (nO w t k) Q := by
  subst hx
  have e : hP 113 (tg (nO w t k) (cz w + 1)) = true ∧ hP 114 (tg (nO w t k) (cz w + 1)) = true := by
    rw [tg_nO, if_pos rfl]
    have : t = 26 ∨ t = 27 ∨ t = 28 ∨ t = 29 ∨ t = 30 := by omega
    rcases this with h | h | h | h | h <;> rw [h] <;> decide
  exact wC_X30_init (Nat.zero_le _) (bC_X30_init_0 ⟨by omega, e.1, fa ⟨e.2, fa hQ⟩⟩)
theorem sC_v31 {n x : Int} {t k : Nat} (ht : t = 26 ∨ t = 27) {Q : ZRes → CW → Prop} (hQ : Q (.inl none) (pI (ovW w t k n) 115 (cz w + 1) x)) : wpC p (d + 2) 186 [ar (cz w + 1), ai n, ai x] (nO w t k) Q := by
  refine wC_X31_init (Nat.zero_le _) (bC_X31_init_0 ⟨by omega, sC_v30 rfl (by omega) ⟨?_, fa hQ⟩⟩)
  show hP 115 (tg (nO w t k) (cz w + 1)) = true
  rw [tg_nO, if_pos rfl]
  rcases ht with h | h <;> rw [h] <;> decide
theorem api_whole {x : Int} (W : WF p w) (hV : VAL p w τ) (hK : KA p w) (hm : cz w + 1 ≤ mz w ∧ cu w + 3 ≤ mu w) {K : Int → Int → CW → TW → Prop} (h0 : K (-3) (-3) w τ) (h1 : ∀ v w' τ', ADV p w τ w' τ' → K v v w' τ') : wpC p (d + 3) 57 [ar p, ai x] w (zqI (fun v w' => wpT (e + 2) 78 [ai x] τ (zqI (fun v' τ' => K v v' w' τ') zno)) zno) := by
  have b1 : fI w 4 p = tI τ 109 := hV.2.1
  have b2 := hV.2.2.1
  have b3 := hV.2.2.2.1
  refine wC_X0_whole (Nat.zero_le _) (bC_X0_whole_0 ?_)
  by_cases z : tI τ 109 = 160
  · refine br1 (b1.trans z) (bC_X0_whole_31 (wT_whole (by omega) (bT_whole_0 (sT_newValue b2 b3 (fun _ => h0) (fun y => by omega)))))
  · refine br0 (by omega) ⟨hm, fa ?_⟩
    have e4 : fI (nO w 26 3) 4 p = tI τ 109 := by
      show (if p = cz w + 1 then 0 else fI w 4 p) = _
      rw [if_neg (by have := W.pz; omega)]; exact b1
    rw [e4]
    refine sC_v31 (Or.inl rfl) ?_
    obtain ⟨q1, q2, q3, q4, q5, q6, q7, q8⟩ := ovW_115 (p := p) W 26 3 (tI τ 109) x
    obtain ⟨w2, hw2⟩ : ∃ w2, w2 = pI (ovW w 26 3 (tI τ 109)) 115 (cz w + 1) x := ⟨_, rfl⟩
    rw [← hw2] at q1 q2 q3 q4 q5 q6 q7 q8 ⊢
    have e5 : fI w2 4 p = tI τ 109 := (q2 4 (by decide)).1.trans b1
    have e115 : fI w2 115 (cz w + 1) = x := by rw [hw2, fI_at]
    obtain ⟨a1, a2, a3, a4, a5, a6⟩ := hV.add (w2 := w2) (k := 0) (n := x) (t := 0) (by omega) W q1 q3 q4 q2 hK q7 q8 (Or.inl ⟨rfl, q6, e115, rfl⟩)
    have hA2 : VA p w2 := by
      have l := W.le (r := fR w 3 p) (by rw [hV.1.1]; decide)
      have t3 := q1.2.2.2.1 _ l
      unfold VA
      rw [(q2 3 (by decide)).2]
      exact ⟨t3.1.trans hV.1.1, t3.2.trans hV.1.2.1, hV.1.2.2.1, hV.1.2.2.2⟩
    refine sC_keep (r := cz w + 1) q4.symm q3 hA2 (by omega) (by omega) (by rw [q6]; decide) ?_
    show wpT (e + 2) 78 [ai x] τ (zqI (fun v' τ' => K (fI w2 113 (cz w + 1)) v' (kpW w2 p) τ') zno)
    refine wT_whole (by omega) (bT_whole_0 (sT_newValue b2 b3 (fun y => absurd y z) (fun _ => ?_)))
    rw [q7]
    refine h1 _ _ _ ⟨a1, a2, a3, a4, a5, ?_, fun hT => hT.nv b2 (by decide), a6⟩
    have z1 : cz (kpW w2 p) = cz w + 1 := q4
    have z2 : cu (kpW w2 p) = cu w + 3 := q5
    unfold zm
    rw [z1, z2]
    omega
theorem VA.st {w2 : CW} (h : VA p w) (W : WF p w) (F : Fr [] w w2) (P : PF [] p w w2) : VA p w2 := by
  have l := W.le (r := fR w 3 p) (by rw [h.1]; decide)
  have t3 := F.2.2.2.1 _ l
  unfold VA
  rw [(P 3 (by decide)).2]
  exact ⟨t3.1.trans h.1, t3.2.trans h.2.1, h.2.2.1, h.2.2.2⟩
theorem api_truth {x : Int} (W : WF p w) (hV : VAL p w τ) (hK : KA p w) (hm : cz w + 1 ≤ mz w ∧ cu w + 3 ≤ mu w) {K : Int → Int → CW → TW → Prop} (h0 : K (-3) (-3) w τ) (h1 : ∀ v w' τ', ADV p w τ w' τ' → K v v w' τ') : wpC p (d + 4) 59 [ar p, ai x] w (zqI (fun v w' => wpT (e + 2) 80 [ai x] τ (zqI (fun v' τ' => K v v' w' τ') zno)) zno) := by
  have b1 : fI w 4 p = tI τ 109 := hV.2.1
  have b2 := hV.2.2.1
  have b3 := hV.2.2.2.1
  obtain ⟨y, hy⟩ : ∃ y : Int, y = (if ¬ (x = 0) then 1 else 0) := ⟨_, rfl⟩
  have hy01 : y = 0 ∨ y = 1 := by rw [hy]; split <;> simp
  have hyy : (if ¬ (y = 0) then (1 : Int) else 0) = y := by rcases hy01 with h | h <;> rw [h] <;> decide
  refine wC_X0_truth (Nat.zero_le _) (bC_X0_truth_0 ?_)
  by_cases z : tI τ 109 = 160
  · refine br1 (b1.trans z) (bC_X0_truth_39 (wT_truth (by omega) (bT_truth_0 (fa (sT_newValue b2 b3 (fun _ => h0) (fun y => by omega))))))
  · refine br0 (by omega) ⟨hm, fa (fa ?_)⟩
    have e4 : fI (nO w 27 3) 4 p = tI τ 109 := by
      show (if p = cz w + 1 then 0 else fI w 4 p) = _
      rw [if_neg (by have := W.pz; omega)]; exact b1
    rw [e4, ← hy]
    refine wC_X32_init (Nat.zero_le _) (bC_X32_init_0 (fa ⟨by omega, ?_⟩))
    rw [hyy]
    refine sC_v31 (Or.inr rfl) ?_
    obtain ⟨q1, q2, q3, q4, q5, q6, q7, q8⟩ := ovW_115 (p := p) W 27 3 (tI τ 109) y
    obtain ⟨w2, hw2⟩ : ∃ w2, w2 = pI (ovW w 27 3 (tI τ 109)) 115 (cz w + 1) y := ⟨_, rfl⟩
    rw [← hw2] at q1 q2 q3 q4 q5 q6 q7 q8 ⊢
    have e5 : fI w2 4 p = tI τ 109 := (q2 4 (by decide)).1.trans b1
    have e115 : fI w2 115 (cz w + 1) = y := by rw [hw2, fI_at]
    obtain ⟨a1, a2, a3, a4, a5, a6⟩ := hV.add (w2 := w2) (k := 1) (n := y) (t := 0) (by omega) W q1 q3 q4 q2 hK q7 q8 (Or.inr (Or.inl ⟨rfl, q6, e115, hy01, rfl⟩))
    refine sC_keep (r := cz w + 1) q4.symm q3 (hV.1.st W q1 q2) (by omega) (by omega) (by rw [q6]; decide) ?_
    show wpT (e + 2) 80 [ai x] τ (zqI (fun v' τ' => K (fI w2 113 (cz w + 1)) v' (kpW w2 p) τ') zno)
    refine wT_truth (by omega) (bT_truth_0 (fa (sT_newValue b2 b3 (fun y => absurd y z) (fun _ => ?_))))
    rw [q7, ← hy]
    refine h1 _ _ _ ⟨a1, a2, a3, a4, a5, ?_, fun hT => hT.nv b2 (by decide), a6⟩
    have z1 : cz (kpW w2 p) = cz w + 1 := q4
    have z2 : cu (kpW w2 p) = cu w + 3 := q5
    unfold zm
    rw [z1, z2]
    omega
theorem api_nothing (W : WF p w) (hV : VAL p w τ) (hK : KA p w) (hm : cz w + 1 ≤ mz w ∧ cu w + 2 ≤ mu w) {K : Int → Int → CW → TW → Prop} (h0 : K (-3) (-3) w τ) (h1 : ∀ v w' τ', ADV p w τ w' τ' → K v v w' τ') : wpC p (d + 3) 61 [ar p] w (zqI (fun v w' => wpT (e + 2) 82 [] τ (zqI (fun v' τ' => K v v' w' τ') zno)) zno) := by
  have b1 : fI w 4 p = tI τ 109 := hV.2.1
  have b2 := hV.2.2.1
  have b3 := hV.2.2.2.1
  refine wC_X0_nothing (Nat.zero_le _) (bC_X0_nothing_0 ?_)
  by_cases z : tI τ 109 = 160
  · refine br1 (b1.trans z) (bC_X0_nothing_31 (wT_nothing (by omega) (bT_nothing_0 (sT_newValue b2 b3 (fun _ => h0) (fun y => by omega)))))
  · refine br0 (by omega) ⟨hm, fa ?_⟩
    have e4 : fI (nO w 29 2) 4 p = tI τ 109 := by
      show (if p = cz w + 1 then 0 else fI w 4 p) = _
      rw [if_neg (by have := W.pz; omega)]; exact b1
    rw [e4]
    refine wC_X34_init (Nat.zero_le _) (bC_X34_init_0 ⟨by omega, sC_v30 rfl (by decide) ?_⟩)
    obtain ⟨q1, q2, q3, q4, q5, q6, q7, q8⟩ := ovW_fr (p := p) W 29 2 (tI τ 109)
    obtain ⟨w2, hw2⟩ : ∃ w2, w2 = ovW w 29 2 (tI τ 109) := ⟨_, rfl⟩
    rw [← hw2] at q1 q2 q3 q4 q5 q6 q7 q8 ⊢
    have e5 : fI w2 4 p = tI τ 109 := (q2 4 (by decide)).1.trans b1
    obtain ⟨a1, a2, a3, a4, a5, a6⟩ := hV.add (w2 := w2) (k := 3) (n := -4) (t := 0) (by omega) W q1 q3 q4 q2 hK q7 q8 (Or.inr (Or.inr (Or.inr ⟨rfl, q6, rfl, rfl⟩)))
    refine sC_keep (r := cz w + 1) q4.symm q3 (hV.1.st W q1 q2) (by omega) (by omega) (by rw [q6]; decide) ?_
    show wpT (e + 2) 82 [] τ (zqI (fun v' τ' => K (fI w2 113 (cz w + 1)) v' (kpW w2 p) τ') zno)
    refine wT_nothing (by omega) (bT_nothing_0 (sT_newValue b2 b3 (fun y => absurd y z) (fun _ => ?_)))
    rw [q7]
    refine h1 _ _ _ ⟨a1, a2, a3, a4, a5, ?_, fun hT => hT.nv b2 (by decide), a6⟩
    have z1 : cz (kpW w2 p) = cz w + 1 := q4
    have z2 : cu (kpW w2 p) = cu w + 2 := q5
    unfold zm
    rw [z1, z2]
    omega
/-- the fault of the last text -/
theorem api_fault (h : fI w 21 p = tI τ 7) {K : Int → Int → CW → TW → Prop} (h1 : K (tI τ 7) (tI τ 7) w τ) : wpC p (d + 1) 45 [ar p] w (zqI (fun v w' => wpT (e + 1) 64 [] τ (zqI (fun v' τ' => K v v' w' τ') zno)) zno) := by
  refine wC_X0_fault (Nat.zero_le _) (bC_X0_fault_0 ?_)
  rw [h]
  exact wT_fault (Nat.zero_le _) h1
end ZPlain
