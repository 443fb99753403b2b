/-! the component's tokens: names -/
section ZLexN
variable {p d : Nat} {w : CW} {τ : TW}
theorem sg8_if {b : Int} (h : -1 ≤ b ∧ b ≤ 255) : (isSm (sg8 b) ↔ isSm b) ∧ (isFg (sg8 b) ↔ isFg b) := ⟨sg8_sm h (by decide) (by decide), sg8_sm h (by decide) (by decide)⟩
/-- the literals of the program -/
def litL : List (List Int) := [[124], wdS, [59,44,40,41,123,125,58,124,95,60,61,62,43,45,42,47,37,46], [107,105,110,100], [117,110,100,101,114], [119,104,111,108,101], [116,114,117,116,104], [116,101,120,116], [115,111,114,116], [116,114,117,101], [102,97,108,115,101], [110,111,110,101], [97,115], [105,102], [43,45,42,47,37]]
abbrev ascii' (s : List Int) : Prop := s.length ≤ 100 ∧ ∀ c ∈ s, 0 ≤ c ∧ c ≤ 127
def Lit (p : Nat) (w : CW) : Prop := ∀ (k : Nat) (s : List Int), litL[k]? = some s → sto w (sr w k) s ∧ sr w k < p ∧ fR w 123 (sr w k) < p
theorem litL_ascii : ∀ (k : Nat) (s : List Int), litL[k]? = some s → ascii s := by
  have h : ((List.range litL.length).all fun k => decide (ascii' (litL.getD k []))) = true := by decide
  intro k s hs
  have hk := (List.getElem?_eq_some_iff.mp hs).1
  have h2 := of_decide_eq_true (List.all_eq_true.mp h k (List.mem_range.mpr hk))
  rw [List.getD_eq_getElem?_getD, hs] at h2
  exact ⟨h2.1, fun i hi => by
    have := h2.2 (s.getD i 0) (by rw [List.getD_eq_getElem?_getD, List.getElem?_eq_getElem hi]; exact List.getElem_mem hi)
    exact this⟩
theorem Lit.fr {T : List Nat} {w' : CW} (h : Lit p w) (hf : Fr T w w') (hT : ∀ r, r ∈ T → p ≤ r) (hp : p ≤ cz w) : Lit p w' := by
  intro k s hs
  obtain ⟨h1, h2, h3⟩ := h k s hs
  have e := hf.esr k
  have o1 := hf.2.2.2.2 (sr w k) (by omega) (fun q => by have := hT _ q; omega)
  have o2 := hf.2.2.2.2 (fR w 123 (sr w k)) (by omega) (fun q => by have := hT _ q; omega)
  rw [e]
  exact ⟨h1.st o1 o2, h2, by rw [ob.efR o1]; exact h3⟩
/-- appending the tape's letters -/
theorem sC_appends (T : tpT τ) {k e x : Nat} (hke : k ≤ e) (he8 : e ≤ k + 8) (hen : (e : Int) ≤ tI τ 1) (hb : ∀ j, k ≤ j → j < e → 1 ≤ bt τ j ∧ bt τ j ≤ 123) : ∀ m j (u : CW), e - j ≤ m → k ≤ j → j ≤ e → WF p u → tpC p u τ → fI u 9 p = e → p < x → p < fR u 119 x → fR u 7 p ≠ x → fR u 7 p ≠ fR u 119 x → sbo u x ([124] ++ sl (bt τ) k (j - k)) →
    ∃ uf, (Fr [x, fR u 119 x] u uf ∧ WF p uf ∧ sbo uf x ([124] ++ sl (bt τ) k (e - k)) ∧ cz uf = cz u ∧ cu uf = cu u ∧ fR uf 119 x = fR u 119 x) ∧ ∀ (Q : CW → Prop) (X : Nat → CW → Prop) (I : Int → CW → Prop), (∀ (x4 : Int) (w : CW), (
    ((fI w 9 p) ≤ x4 →
      pC_X0_readLetters_157 p (wpC p (d + 3)) Q X x w) ∧
    (¬ ((fI w 9 p) ≤ x4) →
      ((tg w (fR w 7 p) = 101 ∨ tg w (fR w 7 p) = 104 ∨ tg w (fR w 7 p) = 106) ∧ 0 ≤ x4 ∧ x4 < ln w (fR w 7 p)) ∧
      (tg w x = 31) ∧
      wpC p (d + 3) 218 [ar x, ai (i_c (aN w (fR w 7 p) x4))] w (zqR (fun v48 u47 =>
        ∀ x4_49 : Int, x4_49 = w32 (x4 + 1) →
        I x4_49 u47) zno))) → I x4 w) → pC_X0_readLetters_157 p (wpC p (d + 3)) Q X x uf → I (j : Int) u := by
  have h1600 := T.2.1
  intro m
  induction m with
  | zero =>
    intro j u hj hkj hje W R ha hpx hpv htx htv hs
    have : j = e := by omega
    subst this
    refine ⟨u, ⟨Fr.refl _ _, W, hs, rfl, rfl, rfl⟩, fun Q X I hI hQ => hI _ _ ⟨fun _ => hQ, fun h => ?_⟩⟩
    rw [ha] at h; omega
  | succ m ih =>
    intro j u hj hkj hje W R ha hpx hpv htx htv hs
    by_cases hjl : j = e
    · subst hjl
      refine ⟨u, ⟨Fr.refl _ _, W, hs, rfl, rfl, rfl⟩, fun Q X I hI hQ => hI _ _ ⟨fun _ => hQ, fun h => ?_⟩⟩
      rw [ha] at h; omega
    · have hbj := hb j hkj (by omega)
      have ev : aN u (fR u 7 p) (j : Int) = bt τ j := by
        unfold aN
        rw [if_neg (by rw [R.1]; decide), R.2.2.2 j (by omega), bt_lt (by omega)]
        rw [bt_lt (by omega)] at hbj
        exact sg8_id (by omega)
      have hsl : ([124] ++ sl (bt τ) k (j - k)).length = 1 + (j - k) := by simp [sl_len]; omega
      obtain ⟨u1, ⟨f1, W1, s1, c1, c2, c3⟩, run1⟩ := sJ_append (d := d) (c := bt τ j) W hs (by rw [hsl]; omega) (by omega)
      have hps : p ∉ [x, fR u 119 x] := by simp; omega
      have hpz := W.pz
      have o1 := f1.2.2.2.2 p hpz hps
      have hxz : x ≤ cz u := W.le (by rw [hs.1]; decide)
      have htz : fR u 7 p ≤ cz u := W.le (by rw [R.1]; decide)
      have o2 := f1.2.2.2.2 (fR u 7 p) htz (by simp; exact ⟨htx, htv⟩)
      have R1 : tpC p u1 τ := ⟨by rw [ob.efR o1, ob.etg o2]; exact R.1, by rw [ob.efR o1, ob.eln o2]; exact R.2.1, by rw [ob.efI o1]; exact R.2.2.1, fun q hq => by rw [ob.efR o1, ob.eaI o2]; exact R.2.2.2 q hq⟩
      have e2 : ([124] ++ sl (bt τ) k (j - k)) ++ [bt τ j] = [124] ++ sl (bt τ) k (j + 1 - k) := by
        rw [show j + 1 - k = (j - k) + 1 by omega, sl_succ, show k + (j - k) = j by omega, List.append_assoc]
      rw [e2] at s1
      obtain ⟨uf, ⟨f2, W2, s2, g1, g2, g3⟩, run2⟩ := ih (j + 1) u1 (by omega) (by omega) (by omega) W1 R1 (by rw [ob.efI o1]; exact ha) hpx (by rw [c3]; exact hpv) (by rw [ob.efR o1]; exact htx) (by rw [ob.efR o1, c3]; exact htv) s1
      refine ⟨uf, ⟨f1.trans (by rw [c3] at f2; exact f2), W2, s2, g1.trans c1, g2.trans c2, g3.trans c3⟩, fun Q X I hI hQ => hI _ _ ⟨fun h => ?_, fun _ => ⟨⟨Or.inl R.1, by omega, by rw [R.2.1]; omega⟩, hs.1, ?_⟩⟩⟩
      · rw [ha] at h; omega
      · rw [ev, ic_id (by omega) (by omega)]
        refine run1 _ (fa ?_)
        rw [w32_k (by omega)]
        exact run2 Q X I hI hQ
/-- names behind their letters: which type -/
noncomputable def nmT (b : Nat → Int) (k n : Nat) : Int := if isSm (b k) then (if wdOf (pk b k n) < 0 then 1 else 6) else 2
theorem sC_nameType (T : tpT τ) (L : Lit p w) (W : WF p w) (R : tpC p w τ) {k e : Nat} (hke : k < e) (he8 : e ≤ k + 8) (hen : (e : Int) ≤ tI τ 1) (h0 : isSm (bt τ k) ∨ isUp (bt τ k)) (hb : ∀ j, k + 1 ≤ j → j < e → isNc (bt τ j)) (ha : fI w 9 p = e) (hpl : fI w 11 p = k) (hm : cz w + 4 ≤ mz w ∧ cu w + 60 ≤ mu w) :
    ∃ w', (St p [] [10] 4 60 w w' ∧ fI w' 10 p = nmT (bt τ) k (e - k)) ∧ ∀ (Q : CW → Prop) (X : Nat → CW → Prop), Q w' → pC_X0_readLetters_96 p (wpC p (d + 9)) Q X (if isSm (bt τ k) then 1 else 0) w := by
  have hpz := W.pz
  by_cases hs : isSm (bt τ k)
  · -- a name: it may be a word
    have hbb : ∀ j, k ≤ j → j < e → 1 ≤ bt τ j ∧ bt τ j ≤ 123 := by
      intro j h1 h2
      rcases Nat.lt_or_ge k j with z | z
      · have := hb j (by omega) h2; unfold isNc isSm isFg at this; omega
      · have : j = k := by omega
        rw [this]; unfold isSm at hs; omega
    rw [if_pos hs]
    have W1 : WF p (nO (pI w 10 p 1) 31 4) := (W.spI 10 p 1).snO 31 4
    have F1 : Fr [p] w (nO (pI w 10 p 1) 31 4) := ((Fr.refl _ w).spI (Or.inl (by simp))).snO
    have P1 : PF [10] p w (nO (pI w 10 p 1) 31 4) := ((PF.refl _ p w).spI (Or.inl (by simp))).snO hpz
    have L1 : Lit p (nO (pI w 10 p 1) 31 4) := L.fr F1 (fun r hr => by simp at hr; omega) hpz
    have t1 : tg (nO (pI w 10 p 1) 31 4) (cz w + 1) = 31 := by rw [tg_nO]; exact if_pos rfl
    have c1 : fI (nO (pI w 10 p 1) 31 4) 122 (cz w + 1) = 0 := by rw [fI_nO]; exact if_pos rfl
    obtain ⟨l1, l2, l3⟩ := L1 0 [124] rfl
    obtain ⟨u1, ⟨f2, W2, s2, v2, z2, y2⟩, run2⟩ := sJ_sbinit (d := d + 1) W1 t1 c1 l1 (by
      show cz w + 1 + 1 ≤ mz w ∧ cu w + 4 + 17 ≤ mu w; omega)
    have z2' : cz u1 = cz w + 2 := z2
    have y2' : cu u1 = cu w + 21 := y2
    have v2' : fR u1 119 (cz w + 1) = cz w + 2 := v2
    have hpx : p ∉ [cz w + 1] := by simp; omega
    have F2 : Fr [p] w u1 := F1.trans' f2 (fun r hr => by simp at hr; right; omega)
    have P2 : PF [10] p w u1 := P1.trans (PF.of f2 (by show p ≤ cz w + 1; omega) hpx)
    have R2 : tpC p u1 τ := R.st W (T := []) (S := [10]) (A := 9) (B := 99) ⟨F2, P2, W2, by omega, by omega⟩ (by decide) (by decide) (by simp)
    have a2 : fI u1 9 p = e := (P2 9 (by decide)).1.trans ha
    have b2 : fI u1 11 p = k := (P2 11 (by decide)).1.trans hpl
    have htz : fR u1 7 p ≤ cz w := by
      rw [(P2 7 (by decide)).2]
      exact W.le (by rw [R.1]; decide)
    obtain ⟨u2, ⟨f3, W3, s3, z3, y3, v3⟩, run3⟩ := sC_appends (d := d + 6) T (x := cz w + 1) (Nat.le_of_lt hke) he8 hen hbb (e - k) k u1 (Nat.le_refl _) (Nat.le_refl _) (Nat.le_of_lt hke) W2 R2 a2 (by omega) (by omega) (by omega) (by omega) (by rw [Nat.sub_self]; exact s2)
    have hsl : ([124] ++ sl (bt τ) k (e - k)).length = 1 + (e - k) := by simp [sl_len]; omega
    obtain ⟨u3, ⟨f4, W4, s4, z4, y4, v4⟩, run4⟩ := sJ_append (d := d + 6) (c := 124) W3 s3 (by rw [hsl]; omega) (by decide)
    have hsl2 : ([124] ++ sl (bt τ) k (e - k) ++ [124]).length = 2 + (e - k) := by simp [sl_len]; omega
    have hsg : ∀ i, i < e - k → 1 ≤ (sl (bt τ) k (e - k)).getD i 0 ∧ (sl (bt τ) k (e - k)).getD i 0 ≤ 123 := fun i hi => by
      rw [sl_get _ _ _ hi]; exact hbb _ (by omega) (by omega)
    have hmem : ∀ c ∈ sl (bt τ) k (e - k), 1 ≤ c ∧ c ≤ 123 := by
      intro c hc
      unfold sl at hc
      obtain ⟨i, hi, rfl⟩ := List.mem_map.mp hc
      have := List.mem_range.mp hi
      exact hbb _ (by omega) (by omega)
    have hasc : ascii ([124] ++ sl (bt τ) k (e - k) ++ [124]) := by
      refine ⟨by omega, fun i hi => ?_⟩
      have hm : ([124] ++ sl (bt τ) k (e - k) ++ [124]).getD i 0 ∈ ([124] ++ sl (bt τ) k (e - k) ++ [124]) := by
        rw [List.getD_eq_getElem?_getD, List.getElem?_eq_getElem hi]; exact List.getElem_mem hi
      rcases List.mem_append.mp hm with h | h
      · rcases List.mem_append.mp h with h | h
        · have := List.mem_singleton.mp h; omega
        · have := hmem _ h; omega
      · have := List.mem_singleton.mp h; omega
    have m3 : mz u3 = mz w ∧ mu u3 = mu w := by
      refine ⟨?_, ?_⟩
      · rw [f4.emz, f3.emz, f2.emz]; rfl
      · rw [f4.emu, f3.emu, f2.emu]; rfl
    obtain ⟨u4, r, ⟨f5, W5, s5, z5, y5⟩, run5⟩ := sJ_toString (d := d + 3) W4 s4 (by rw [hsl2]; omega) hasc (by rw [m3.1, m3.2]; omega)
    have F3 : Fr [p] w u2 := F2.trans' f3 (fun r hr => by simp at hr; right; omega)
    have F4 : Fr [p] w u3 := F3.trans' f4 (fun r hr => by simp at hr; right; omega)
    have F5 : Fr [p] w u4 := F4.trans' f5 (fun r hr => by simp at hr)
    have P3 : PF [10] p w u2 := P2.trans (PF.of f3 (by omega) (by simp; omega))
    have P4 : PF [10] p w u3 := P3.trans (PF.of f4 (by omega) (by simp; omega))
    have P5 : PF [10] p w u4 := P4.trans (PF.of f5 (by omega) (by simp))
    have L5 : Lit p u4 := L.fr F5 (fun r hr => by simp at hr; omega) hpz
    obtain ⟨k1, k2, k3⟩ := L5 1 wdS rfl
    have hcon := wdS_sub (sl (bt τ) k (e - k)) hmem (by rw [sl_len]; omega) (by rw [sl_len]; omega)
    have hpk := (pkv_eq (bt τ) k (e - k) (by omega) (fun i hi => by have := hbb (k + i) (by omega) (by omega); omega)).1
    have hsw : sr u2 1 = sr u4 1 := by rw [f5.esr, f4.esr]
    refine ⟨pI u4 10 p (nmT (bt τ) k (e - k)), ⟨⟨F5.spI (Or.inl (by simp)), P5.spI (Or.inl (by simp)), W5, by show cz u4 ≤ _; omega, by show cu u4 ≤ _; omega⟩, fI_at _ _ _ _⟩, fun Q X hQ => ?_⟩
    have e1 : (if ¬ ((1 : Int) = 0) then (1 : Int) else 2) = 1 := by decide
    refine fa ?_
    rw [e1]
    refine fa ⟨fun e => absurd e (by decide), fun _ => ⟨by show cz w + 1 ≤ mz w ∧ cu w + 4 ≤ mu w; omega, fa ?_⟩⟩
    have hw56 : wdS.length = 56 := by decide
    refine run2 _ ?_
    refine fa ?_
    rw [b2]
    intro I hI
    refine run3 Q X I hI ⟨s3.1, run4 _ ⟨s4.1, run5 _ ⟨?_, ?_⟩⟩⟩
    · rw [hsw]; exact k1.1
    · rw [hsw]
      refine sJ_contains k1 s5 (litL_ascii 1 _ rfl) hasc (by omega) (by rw [hsl2, hw56]; omega) (fun v hv hv1 => ?_)
      refine fa (fa ?_)
      have e9 : (if v = 0 then (1 : Int) else 6) = nmT (bt τ) k (e - k) := by
        unfold nmT
        rw [if_pos hs, hpk]
        rcases hv with rfl | rfl
        · rw [if_pos rfl, if_pos]
          rcases Int.lt_or_le (wdOf (pkL (sl (bt τ) k (e - k)))) 0 with z | z
          · exact z
          · exact absurd (hv1.mpr (hcon.mpr z)) (by decide)
        · rw [if_neg (by decide), if_neg]
          have := hcon.mp (hv1.mp rfl); omega
      rw [e9]
      exact hQ
  · rw [if_neg hs]
    have e9 : nmT (bt τ) k (e - k) = 2 := by unfold nmT; rw [if_neg hs]
    refine ⟨pI w 10 p 2, ⟨⟨(Fr.refl _ w).spI (Or.inl (by simp)), (PF.refl _ p w).spI (Or.inl (by simp)), W, Nat.le_add_right _ _, Nat.le_add_right _ _⟩, by rw [e9]; exact fI_at _ _ _ _⟩, fun Q X hQ => ?_⟩
    have e1 : (if ¬ ((0 : Int) = 0) then (1 : Int) else 2) = 2 := by decide
    refine fa ?_
    rw [e1]
    exact fa ⟨fun _ => hQ, fun h => absurd rfl h⟩
/-- readLetters: a name of at most 8 letters, or it throws -/
theorem sC_readLetters (T : tpT τ) (L : Lit p w) (W : WF p w) (R : tpC p w τ) {k e : Nat} (he : Run isNc (bt τ) (k + 1) e) (h0 : isSm (bt τ k) ∨ isUp (bt τ k)) (ha : fI w 9 p = k) (hpl : fI w 11 p = k) (hm : cz w + 5 ≤ mz w ∧ cu w + 70 ≤ mu w) :
    ∃ w', St p [] [9, 10, 12] 5 70 w w' ∧ ((8 < e - k ∧ ∃ x, Wr w' x 1 k ∧ ∀ Q, Q (.inr x) w' → wpC p (d + 10) 8 [ar p, ai (if isSm (bt τ k) then 1 else 0)] w Q) ∨
      (e - k ≤ 8 ∧ fI w' 9 p = e ∧ fI w' 12 p = pk (bt τ) k (e - k) ∧ fI w' 10 p = nmT (bt τ) k (e - k) ∧ ∀ Q, Q (.inl none) w' → wpC p (d + 10) 8 [ar p, ai (if isSm (bt τ k) then 1 else 0)] w Q)) := by
  have h1600 := T.2.1
  have hpz := W.pz
  have hb := bt_rg T
  have hk1 := bt_nn T (k := k) (fun z => by rcases h0 with h | h <;> (obtain ⟨h1, h2⟩ := h; omega))
  have hen := Run.le T he (fun c h => by unfold isNc isSm isFg at h; omega) (by omega)
  have hke := he.1
  -- the state behind n letters
  have hX : ∀ n, tpC p (pI (pI w 12 p (pk (bt τ) k n)) 9 p ((k + n : Nat) : Int)) τ := fun n => (R.spI (by decide)).spI (by decide)
  have hX9 : ∀ n, fI (pI (pI w 12 p (pk (bt τ) k n)) 9 p ((k + n : Nat) : Int)) 9 p = ((k + n : Nat) : Int) := fun n => fI_at _ _ _ _
  have hX12 : ∀ n, fI (pI (pI w 12 p (pk (bt τ) k n)) 9 p ((k + n : Nat) : Int)) 12 p = pk (bt τ) k n := fun n => (fI_of _ _ _ _ (by decide)).trans (fI_at _ _ _ _)
  have hX11 : ∀ n, fI (pI (pI w 12 p (pk (bt τ) k n)) 9 p ((k + n : Nat) : Int)) 11 p = k := fun n => (fI_of _ _ _ _ (by decide)).trans ((fI_of _ _ _ _ (by decide)).trans hpl)
  have hXs : ∀ n, St p [] [9, 10, 12] 0 0 w (pI (pI w 12 p (pk (bt τ) k n)) 9 p ((k + n : Nat) : Int)) := fun n => ⟨((Fr.refl _ w).spI (Or.inl (by simp))).spI (Or.inl (by simp)), ((PF.refl _ p w).spI (Or.inl (by simp))).spI (Or.inl (by simp)), W, Nat.le_refl _, Nat.le_refl _⟩
  have loop : ∀ (x1 : Int) (Q : CW → Prop) (X : Nat → CW → Prop), (e - k ≤ 8 → pC_X0_readLetters_96 p (wpC p (d + 9)) Q X x1 (pI (pI w 12 p (pk (bt τ) k (e - k))) 9 p ((k + (e - k) : Nat) : Int))) → (8 < e - k → X (cz w + 1) (wrW (pI (pI w 12 p (pk (bt τ) k 8)) 9 p ((k + 8 : Nat) : Int)) 1 k)) → pC_X0_readLetters_7 p (wpC p (d + 9)) Q X x1 0 (pI w 12 p 0) := by
    intro x1 Q X hexit hthrow I hI
    have key : ∀ m n : Nat, e - k - n ≤ m → n ≤ e - k → n ≤ 8 → I (n : Int) (pI (pI w 12 p (pk (bt τ) k n)) 9 p ((k + n : Nat) : Int)) := by
      intro m
      induction m with
      | zero =>
        intro n h1 h2 h3
        have hn : n = e - k := by omega
        have hnc : ¬ isNc (bt τ (k + n)) := by rw [show k + n = e by omega]; exact he.2.2
        have hn0 : n ≠ 0 := by omega
        apply hI
        refine sC_unit T (hX n) (hX9 n) (sC_isSmall ⟨fun _ => sC_unit T (hX n) (hX9 n) (sC_isFigure ⟨fun h => ?_, fun _ => ?_⟩), fun h => ?_⟩)
        · exfalso
          rcases h with h | h
          · by_cases z : isFg (sg8 (bt τ (k + n)))
            · exact hnc (Or.inr ((sg8_if (hb _)).2.mp z))
            · rw [if_neg z] at h; exact h rfl
          · omega
        · rw [hn]; exact hexit (by omega)
        · exfalso
          by_cases z : isSm (sg8 (bt τ (k + n)))
          · exact hnc (Or.inl ((sg8_if (hb _)).1.mp z))
          · rw [if_neg z] at h; exact h rfl
      | succ m ih =>
        intro n h1 h2 h3
        -- one letter more
        have step : n < e - k → pC_X0_readLetters_39 p (wpC p (d + 9)) Q X I x1 (n : Int) (pI (pI w 12 p (pk (bt τ) k n)) 9 p ((k + n : Nat) : Int)) := by
          intro hlt
          refine fa ?_
          rw [hX11 n]
          by_cases h8 : n < 8
          · rw [if_pos (by omega)]
            refine sC_needOk (by decide) (sC_unit T (hX n) (hX9 n) (fa (fa (fa ?_))))
            have hbn : bt τ (k + n) ≤ 127 := by
              rcases Nat.eq_zero_or_pos n with z | z
              · subst z; rcases h0 with h | h <;> (obtain ⟨h1, h2⟩ := h; simp only [Nat.add_zero]; omega)
              · have := he.2.1 (k + n) (by omega) (by omega); unfold isNc isSm isFg at this; omega
            have hr := ih (n + 1) (by omega) (by omega) (by omega)
            have e1 : pI (pI (pI (pI w 12 p (pk (bt τ) k n)) 9 p ((k + n : Nat) : Int)) 12 p (l_or (l_shl (fI (pI (pI w 12 p (pk (bt τ) k n)) 9 p ((k + n : Nat) : Int)) 12 p) 8) (sg8 (bt τ (k + n))))) 9 p (w32 ((fI (pI (pI (pI w 12 p (pk (bt τ) k n)) 9 p ((k + n : Nat) : Int)) 12 p (l_or (l_shl (fI (pI (pI w 12 p (pk (bt τ) k n)) 9 p ((k + n : Nat) : Int)) 12 p) 8) (sg8 (bt τ (k + n))))) 9 p) + 1)) = pI (pI w 12 p (pk (bt τ) k (n + 1))) 9 p ((k + (n + 1) : Nat) : Int) := by
              rw [hX12 n, sg8_id hbn, fI_of (f := 12) (g := 9) _ p p _ (by decide), hX9 n, w32_k (by omega), pI_comm (pI w 12 p (pk (bt τ) k n)) (Or.inl (by decide)), pI_pI, pI_pI]
              rfl
            rw [w32_k (by omega), e1]
            exact hr
          · rw [if_neg (by omega)]
            have hn8 : n = 8 := by omega
            subst hn8
            exact sC_needNo rfl (by show cz w + 1 ≤ mz w ∧ cu w + 8 ≤ mu w; omega) (hthrow (by omega))
        apply hI
        refine sC_unit T (hX n) (hX9 n) (sC_isSmall ⟨fun h5 => sC_unit T (hX n) (hX9 n) (sC_isFigure ⟨fun h => ?_, fun h => ?_⟩), fun h => ?_⟩)
        · by_cases hlt : n < e - k
          · exact step hlt
          · exfalso
            have hnc : ¬ isNc (bt τ (k + n)) := by rw [show k + n = e by omega]; exact he.2.2
            rcases h with h | h
            · by_cases z : isFg (sg8 (bt τ (k + n)))
              · exact hnc (Or.inr ((sg8_if (hb _)).2.mp z))
              · rw [if_neg z] at h; exact h rfl
            · omega
        · by_cases hlt : n < e - k
          · exfalso
            have hn0 : n ≠ 0 := fun z => h (Or.inr (by rw [z]; rfl))
            have := he.2.1 (k + n) (by omega) (by omega)
            rcases this with z | z
            · rw [if_pos ((sg8_if (hb _)).1.mpr z)] at h5; cases h5
            · exact h (Or.inl (by rw [if_pos ((sg8_if (hb _)).2.mpr z)]; decide))
          · have hn : n = e - k := by omega
            rw [hn]; exact hexit (by omega)
        · by_cases hlt : n < e - k
          · exact step hlt
          · exfalso
            have hnc : ¬ isNc (bt τ (k + n)) := by rw [show k + n = e by omega]; exact he.2.2
            by_cases z : isSm (sg8 (bt τ (k + n)))
            · exact hnc (Or.inl ((sg8_if (hb _)).1.mp z))
            · rw [if_neg z] at h; exact h rfl
    have := key (e - k) 0 (by omega) (by omega) (by omega)
    have e0 : pI (pI w 12 p (pk (bt τ) k 0)) 9 p ((k + 0 : Nat) : Int) = pI w 12 p 0 := pI_id ((fI_of (f := 12) (g := 9) _ p p _ (by decide)).trans ha)
    rw [e0] at this
    exact this
  by_cases h8 : 8 < e - k
  · refine ⟨wrW (pI (pI w 12 p (pk (bt τ) k 8)) 9 p ((k + 8 : Nat) : Int)) 1 k, (hXs 8).trans (wrW_st (hXs 8).2.2.1 [] _ 1 k) (by decide) (by decide), Or.inl ⟨h8, cz w + 1, wrW_wr _ _ _, fun Q hQ => wC_X0_readLetters (Nat.zero_le _) (fa (loop _ _ _ (fun h => by omega) (fun _ => hQ)))⟩⟩
  · obtain ⟨w', ⟨s1, s2⟩, run⟩ := sC_nameType (d := d) (w := pI (pI w 12 p (pk (bt τ) k (e - k))) 9 p ((k + (e - k) : Nat) : Int)) T (L.fr (hXs (e - k)).1 (fun r hr => by simp at hr; omega) hpz) W (hX _) (k := k) (e := e) (by omega) (by omega) hen h0 (fun j h1 h2 => he.2.1 j h1 h2) ((hX9 _).trans (by rw [show k + (e - k) = e by omega])) (hX11 _) (by show cz w + 4 ≤ mz w ∧ cu w + 60 ≤ mu w; omega)
    refine ⟨w', (hXs (e - k)).trans (s1.mono (fun r hr => by cases hr) (fun f hf => by simp at hf; subst hf; decide) (Nat.le_refl _) (Nat.le_refl _)) (by decide) (by decide), Or.inr ⟨by omega, ?_, ?_, s2, fun Q hQ => wC_X0_readLetters (Nat.zero_le _) (fa (loop _ _ _ (fun _ => run _ _ hQ) (fun h => absurd h h8)))⟩⟩
    · rw [(s1.2.1 9 (by decide)).1, hX9, show k + (e - k) = e by omega]
    · rw [(s1.2.1 12 (by decide)).1, hX12]
end ZLexN
