/-! a pattern that is a name, both -/
section ZPlain1
variable {p b e d : Nat} {w : CW} {τ : TW}
theorem fl_s (h : tI τ 3 ≠ 5) (c : Int) : ff_isSign c τ = 0 := ff_s0 (fun y => h y.1)
theorem fl_w (h : tI τ 3 ≠ 6) (c : Int) : ff_isWord c τ = 0 := ff_w0 (fun y => h y.1)
theorem b6_0 (h3 : tI τ 3 ≠ 3) (h : ff_isSign 45 τ = 0) : b6 τ = 0 := by
  unfold b6
  rw [if_neg]
  rw [h]
  omega
theorem b6_1 (h3 : tI τ 3 = 3 ∨ ff_isSign 45 τ ≠ 0) : b6 τ = 1 := by
  unfold b6
  rw [if_pos h3]
theorem b13_0 (h : ff_isWord 8 τ = 0) (h' : ff_isWord 9 τ = 0) : b13 τ = 0 := by
  unfold b13
  rw [if_neg]
  rw [h, h']
  omega
theorem b13_1 (h : ff_isWord 8 τ ≠ 0 ∨ ff_isWord 9 τ ≠ 0) : b13 τ = 1 := by
  unfold b13
  rw [if_pos h]
/-- a new object with one number -/
theorem new1 (W : WF p w) (t n f : Nat) (v : Int) {w' : CW} (hw : w' = pI (nO w t n) f (cz w + 1) v) : Fr [] w w' ∧ WF p w' ∧ cz w' = cz w + 1 ∧ cu w' = cu w + n ∧ tg w' (cz w + 1) = t ∧ fI w' f (cz w + 1) = v := by
  have hz := W.pz
  subst hw
  exact ⟨((Fr.refl [] w).snO).spI (Or.inr (Nat.lt_succ_self _)), (W.snO t n).spI _ _ _, rfl, rfl, if_pos rfl, fI_at _ _ _ _⟩
theorem sC_any {w' : CW} (hw : w' = pI (nO w 6 1) 68 (cz w + 1) (-1)) {Q : ZRes → CW → Prop} (hQ : Q (.inl none) w') : wpC p (d + 2) 95 [ar (cz w + 1)] (nO w 6 1) Q := by
  subst hw
  exact sC_iAny (by omega) (show tg (nO w 6 1) (cz w + 1) = 6 from if_pos rfl) hQ
abbrev SPC : List Nat := [9, 10, 11, 12, 13, 14, 17, 18, 19, 20]
/-- a pattern without its as, both -/
abbrev PLN (p b e n M : Nat) (w : CW) (τ : TW) (s much : Int) (o : Nat) : Prop := OUT p [fR w 15 p, fR w 16 p] SPC SPT (-5700) 300 (fun r v w' τ' => much = 0 ∧ PN p b n τ s o r v w' τ') (fun Q X => wpC p M 23 [ar p, ai s, ai much] w (zqR Q X)) (tmJ e gI (fun I _ => wpT (e + 8) 25 [ai s, ai much] τ (zqI (fun v u => I v o u) zno))) w τ
theorem bgN0 {s much : Int} {Q : ZRes → TW → Prop} (h : RB p w τ) (hN : NmR p w τ) (hn : tI τ 16 = np τ ∧ np τ < 1700) (h1 : tI τ 3 = 1)
    (hQ : ((¬ (nmB τ (tI τ 4) < 0) ∧ bit (tI τ 31) (nmB τ (tI τ 4)).toNat = 1) → wpT (e + 7) 13 [ai 3, ai (tI τ 5)] (nwT τ 0 s) (zqV (fun u => pT_begins_409 (wpT (e + 7)) (fun v w => Q (.inl (some (ai v))) w) s much (tI τ 5) 0 (-4) (np τ) u) zno)) ∧ (¬ (¬ (nmB τ (tI τ 4) < 0) ∧ bit (tI τ 31) (nmB τ (tI τ 4)).toNat = 1) → pT_begins_409 (wpT (e + 7)) (fun v w => Q (.inl (some (ai v))) w) s much (tI τ 5) 0 (-4) (np τ) (nwT τ 0 s))) : wpT (e + 8) 25 [ai s, ai much] τ Q := by
  have z6 : b6 τ = 0 := b6_0 (by omega) (fl_s (by omega) _)
  have z13 : b13 τ = 0 := b13_0 (fl_w (by omega) _) (fl_w (by omega) _)
  have n34 : ¬ b34 s τ := by
    unfold b34
    rw [z6, z13, fl_w (by omega)]
    simp
    omega
  have F := nwT_ft τ 0 s
  have N1 := (hN.ft F (by decide)).1
  have eB := (hN.ft F (by decide)).2.2.2
  refine bg0 (Or.inr (Or.inr (Or.inr (Or.inl h1)))) (fun v34 hv => br0 (by omega) (bT_begins_209 (br0 (by omega) (bT_begins_235 (br1 (hv.mpr n34) (br0 (by omega) (bT_begins_283 (fa ?_)))))))) 
  rw [z6, z13, if_pos rfl, if_pos rfl, if_neg (by omega), if_neg (by omega), fl_s (by omega), if_pos rfl, fl_w (by omega), if_pos rfl]
  refine sT_new (d := e + 6) hn.1 hn.2 (br1 ⟨(F 3 (by decide)).1.trans h1, (F 7 (by decide)).1.trans h.f0⟩ ?_)
  rw [(F 4 (by decide)).1]
  refine sT_nameOf (d := e + 6) N1.2.1 N1.2.2.1 N1.2.2.2.1 N1.2.2.2.2.1 ?_
  have eB' := eB (tI τ 4)
  have e31 := (F 31 (by decide)).1
  rw [eB']
  refine ⟨fun y => hQ.1 ⟨y.1, ?_⟩, fun y => hQ.2 (fun q => y ⟨q.1, ?_⟩)⟩
  · obtain ⟨k, hk⟩ : ∃ k : Nat, nmB τ (tI τ 4) = k := ⟨(nmB τ (tI τ 4)).toNat, by have := y.1; omega⟩
    have y2 := y.2
    rw [hk, e31] at y2
    rw [hk]
    exact y2
  · obtain ⟨k, hk⟩ : ∃ k : Nat, nmB τ (tI τ 4) = k := ⟨(nmB τ (tI τ 4)).toNat, by have := q.1; omega⟩
    have q2 := q.2
    rw [hk] at q2
    rw [hk, e31]
    exact q2
theorem dd420 {x1 x3 x4 x8 x9 : Int} {Q : Int → TW → Prop} (hf : tI τ 7 ≠ 0) (hQ : Q (-4) τ) : pT_begins_420 (wpT (e + 7)) Q x1 x3 x4 x8 x9 τ := bT_begins_420 (br0 hf hQ)
theorem dd409 {x1 x2 x3 x4 x8 x9 : Int} {Q : Int → TW → Prop} (hf : tI τ 7 ≠ 0) (hQ : Q (-4) τ) : pT_begins_409 (wpT (e + 7)) Q x1 x2 x3 x4 x8 x9 τ := by
  refine bT_begins_409 ⟨fun _ => dd420 hf hQ, fun _ => ?_⟩
  obtain ⟨τ', ⟨_, _, c⟩, run⟩ := sT_fails (d := e + 6) (τ := τ) (k := 9) (pl := x3)
  have := c hf
  subst this
  exact run _ (dd420 hf hQ)
theorem sC_bind' {n : Nat} {s : Int} {w' : CW} (h : NmR p w τ) (h8 : n < 8) (hw : w' = bdW p w n s) {Q : ZRes → CW → Prop} (hQ : Q (.inl (some (ai n))) w') : wpC p (d + 2) 25 [ar p, ai n, ai s] w Q := by
  subst hw
  exact sC_bind h h8 hQ
theorem sT_binds' {n : Nat} {s : Int} {τ' : TW} (h : NmR p w τ) (hf : tI τ 7 = 0) (hn : (nmB τ (tI τ 4) = -4 ∧ n = nN τ) ∨ (nmB τ (tI τ 4) = n ∧ bit (tI τ 31) n = 0)) (h8 : n < 8) (hw : τ' = bdT τ n s) {Q : ZRes → TW → Prop} (hQ : Q (.inl (some (ai n))) τ') : wpT (d + 2) 29 [ai s] τ Q := by
  subst hw
  exact sT_binds h hf hn h8 hQ
theorem pl_name {m n o : Nat} {s much : Int} (h : PS p w τ o) (hb : b ≤ cz w) (h1 : tI τ 3 = 1) (hR : Rm 1000 w τ) : PLN p b e n (m + 17) w τ s much o := by
  obtain ⟨rb, hK, hN, e16, e5, e32, ho, hwi, hmu, hsl, hsq⟩ := id h
  have hnp : np τ < 1700 := by have := rb.rg; have : tI τ 5 = tI τ 5 := rfl; omega
  obtain ⟨w1, hw1⟩ : ∃ w1, w1 = pI (nO w 6 1) 68 (cz w + 1) (-1) := ⟨_, rfl⟩
  obtain ⟨f1, W1, z1, u1, t1, g1⟩ := new1 rb.1 6 1 68 (-1) hw1
  have hroom := Rm.room rb hR (k := 3) (n := 20) (by decide)
  have F1 := nwT_ft τ 0 s
  obtain ⟨σ1, hσ1⟩ : ∃ σ1, σ1 = nwT τ 0 s := ⟨_, rfl⟩
  refine OUTb.go (OUTb.nw (A0 := 1) (B0 := 1) (k := 6) (w' := w1) hR rb f1 W1 z1 u1 (by decide) (fun Q X hh => wC_X0_plain (Nat.zero_le _) (bC_X0_plain_0 (fa (br1 (rb.ty.trans h1) ⟨⟨by omega, by omega⟩, fa (sC_any hw1 hh)⟩)))) (fun rb1 c1 hR1 => ?_))
  have N1 := hN.on rb.1 c1
  have ew : fI w1 12 p = tI τ 4 := rb1.wd (Or.inl h1)
  have hr1 := Rm.room rb1 hR1 (k := 1) (n := 8) (by decide)
  have e11 : fI w 11 p = tI τ 5 := rb.pl
  have rbs : RB p w1 σ1 := by rw [hσ1]; exact rb1.ft F1 (by decide)
  have Ns : NmR p w1 σ1 := by rw [hσ1]; exact (N1.ft F1 (by decide)).1
  have eBs : nmB σ1 (tI σ1 4) = nmB τ (tI τ 4) := by rw [hσ1, (F1 4 (by decide)).1]; exact (N1.ft F1 (by decide)).2.2.2 _
  have s5 : tI σ1 5 = tI τ 5 := by rw [hσ1]; exact (F1 5 (by decide)).1
  have s31 : tI σ1 31 = tI τ 31 := by rw [hσ1]; exact (F1 31 (by decide)).1
  have s3 : tI σ1 3 = 1 := by rw [hσ1]; exact (F1 3 (by decide)).1.trans h1
  rw [← hσ1] at F1
  have bgn : ∀ {Q : ZRes → TW → Prop}, (((¬ (nmB τ (tI τ 4) < 0) ∧ bit (tI τ 31) (nmB τ (tI τ 4)).toNat = 1) → wpT (e + 7) 13 [ai 3, ai (tI τ 5)] σ1 (zqV (fun u => pT_begins_409 (wpT (e + 7)) (fun v w => Q (.inl (some (ai v))) w) s much (tI τ 5) 0 (-4) (np τ) u) zno)) ∧ (¬ (¬ (nmB τ (tI τ 4) < 0) ∧ bit (tI τ 31) (nmB τ (tI τ 4)).toNat = 1) → pT_begins_409 (wpT (e + 7)) (fun v w => Q (.inl (some (ai v))) w) s much (tI τ 5) 0 (-4) (np τ) σ1)) → wpT (e + 8) 25 [ai s, ai much] τ Q := fun hQ => by
    rw [hσ1] at hQ
    exact bgN0 rb hN ⟨e16, hnp⟩ h1 hQ
  rcases nm_cases hN (tI τ 4) with ⟨n0, a1, a2, a3⟩ | hX
  · -- it is bound
    obtain ⟨σ2, ⟨q1, q2, q3⟩, run⟩ := RB.fails (e := e + 6) (pl := tI τ 5) rbs (k := 3) (by decide)
    refine OUTb.thr rb1 (fun Q X hh => sC_nameAt N1 n0 (Or.inr (by rw [ew]; exact a2)) (rb1.needNo (if_neg (by
      rintro (y | y)
      · omega
      · have a3' : bit (tI τ 31) n0 = 1 := a3
        omega)) hr1 hh)) (DD.jP (σ := σ2) (S1 := [7, 8, 16, 17, 18, 19, 20, 21, 22, 23, 24, 25, 26]) (F' := fun I _ => I (-4) o σ2) ((F1.mono (by decide)).trans (q1.mono (by decide))) (fun I QF cl k => bgn (br1 ⟨by omega, by rw [a2]; exact a3⟩ (run _ (dd409 q3 k)))) (DD.jF (x := -4) (y := o) q2 q3 (fun I QF cl k => k)))
  have hno : ¬ (¬ (nmB τ (tI τ 4) < 0) ∧ bit (tI τ 31) (nmB τ (tI τ 4)).toNat = 1) := by
    rintro ⟨y1, y2⟩
    rcases hX with ⟨x1, x2⟩ | ⟨n0, a1, a2, a3, a4⟩
    · omega
    · rcases a3 with ⟨a3, _⟩ | a3
      · omega
      · rw [a3] at y2
        have y2' : bit (tI τ 31) n0 = 1 := y2
        omega
  obtain ⟨n0, hn0, hn0'⟩ : ∃ n0, ((nmB τ (tI τ 4) = -4 ∧ n0 = nN τ) ∨ nmB τ (tI τ 4) = (n0 : Nat)) ∧ ((n0 = 8 ∧ nmB τ (tI τ 4) = -4 ∧ nN τ = 8) ∨ (n0 < 8 ∧ bit (tI τ 31) n0 = 0)) := by
    rcases hX with ⟨x1, x2⟩ | ⟨n0, a1, a2, a3, a4⟩
    · exact ⟨8, Or.inl ⟨x1, x2.symm⟩, Or.inl ⟨rfl, x1, x2⟩⟩
    · exact ⟨n0, a3, Or.inr ⟨a1, a4⟩⟩
  have hn0w : (nmB τ (fI w1 12 p) = -4 ∧ n0 = nN τ) ∨ nmB τ (fI w1 12 p) = (n0 : Nat) := by rw [ew]; exact hn0
  have hok : (if (n0 : Int) = nN τ ∨ bit (tI τ 31) n0 = 0 then (1 : Int) else 0) ≠ 0 := by
    rw [if_pos]
    · decide
    · rcases hn0' with ⟨x1, x2, x3⟩ | ⟨x1, x2⟩
      · left; omega
      · exact Or.inr x2
  by_cases hmu2 : much = 0
  · subst hmu2
    rcases hn0' with ⟨x1, x2, x3⟩ | ⟨h8, hbit⟩
    · -- no room for it
      obtain ⟨σ2, q1, q2, q3, run⟩ := sT_bindsX9 (d := e + 5) (s := s) rbs Ns ⟨eBs.trans x2, by rw [nN_ft F1 (by decide) (by decide)]; exact x3⟩
      rw [s5] at q2
      refine OUTb.thr rb1 (fun Q X hh => sC_nameAt N1 n0 hn0w (sC_needOk hok (fa (sC_needOk (by decide) (sC_bindNo x1 hr1 (by rw [show fI w1 11 p = tI τ 5 from rb1.pl]; exact hh)))))) (DD.jP (σ := σ2) (S1 := [7, 8, 16, 17, 18, 19, 20, 21, 22, 23, 24, 25, 26]) ((F1.mono (by decide)).trans (q1.mono (by decide))) (fun I QF cl k => bgn (br0 hno (bT_begins_409 (br1 rfl (bT_begins_420 (br1 rbs.f0 (br1 s3 (run _ ⟨by omega, k⟩)))))))) ?_)
      refine DD.jW q2 (sA σ2 24 (np τ) (-4)) ((FT.refl _ _).ssA (S := [24]) (by decide)) (fun I QF k => k) (fun u1 hu1 D1 G1 => ?_)
      refine DD.jW D1 (sA u1 19 (np τ) (if (tI u1 3) = 2 then -4 else (if (ff_isWord 8 u1) = 0 then 0 else 1))) ((FT.refl _ _).ssA (S := [19]) (by decide)) (fun I QF k => bT_begins_450 (fa ⟨by omega, k⟩)) (fun u2 hu2 D2 G2 => ?_)
      refine DD.jW D2 (sA u2 21 (np τ) (if (tI u2 3) = 4 then tI u2 4 else 0)) ((FT.refl _ _).ssA (S := [21]) (by decide)) (fun I QF k => fa ⟨by omega, k⟩) (fun u3 hu3 D3 G3 => ?_)
      have hf3 : tI u3 7 ≠ 0 := by rw [(G3 7 (by decide)).1, (G2 7 (by decide)).1, (G1 7 (by decide)).1]; exact q3
      exact DD.jF (x := -4) (y := o) D3 hf3 (fun I QF cl k => br0 hf3 k)
    · -- it is bound now
      have ewS : fI w1 12 p = tI σ1 4 := by rw [ew, (F1 4 (by decide)).1]
      have eN1 := nN_ft F1 (by decide) (by decide)
      have eR1 := nR_ft F1 (by decide)
      have eP1 : np σ1 = np τ + 1 := by rw [hσ1]; exact (nwT_np τ 0 s).2
      have hnB : (nmB σ1 (tI σ1 4) = -4 ∧ n0 = nN σ1) ∨ nmB σ1 (tI σ1 4) = n0 := by rw [eN1, show nmB σ1 (tI σ1 4) = _ from eBs]; exact hn0
      have hnB' : (nmB σ1 (tI σ1 4) = -4 ∧ n0 = nN σ1) ∨ (nmB σ1 (tI σ1 4) = n0 ∧ bit (tI σ1 31) n0 = 0) := by
        rcases hnB with y | y
        · exact Or.inl y
        · exact Or.inr ⟨y, by rw [show tI σ1 31 = _ from s31]; exact hbit⟩
      obtain ⟨w2, hw2⟩ : ∃ w2, w2 = bdW p w1 n0 s := ⟨_, rfl⟩
      obtain ⟨σ2, hσ2⟩ : ∃ σ2, σ2 = bdT σ1 n0 s := ⟨_, rfl⟩
      obtain ⟨bF, bP, bW, bz, bu⟩ := bdW_fr rb1.1 n0 s
      obtain ⟨N2, eR2, eN2⟩ := Ns.bind (s := s) hnB h8 ewS
      obtain ⟨B1, B2, B3⟩ := BN.bind (s := s) Ns hnB h8 (by rw [s31]; exact hbit) ewS o
      have bT := bdT_ft σ1 n0 s
      rw [← hw2] at bF bP bW bz bu N2
      rw [← hσ2] at N2 eR2 eN2 B1 B2 B3 bT
      have f15 : fR w1 15 p = fR w 15 p ∧ fR w1 16 p = fR w 16 p := ⟨(c1.2.1 15 (by simp)).2, (c1.2.1 16 (by simp)).2⟩
      have F12 : FT [16, 17, 18, 19, 20, 21, 22, 23, 24, 25, 26, 28, 29, 30, 31] τ σ2 := (F1.mono (by decide)).trans (bT.mono (by decide))
      refine OUTb.jM (τ' := σ2) hR1 rb1 F12 (fun I QF cl k => bgn (br0 hno (bT_begins_409 (br1 rfl (bT_begins_420 (br1 rbs.f0 (br1 s3 (sT_binds' (d := e + 5) Ns rbs.f0 hnB' h8 hσ2 ⟨by omega, k⟩)))))))) (fun rb2 hR2 => ?_)
      refine OUTb.jW (S1 := [24]) hR2 rb2 (sA σ2 24 (np τ) n0) ((FT.refl _ _).ssA (by decide)) (fun I QF k => k) (fun σ3 e3 rb3 G3 hR3 => ?_)
      have s33 : tI σ3 3 = 1 := by rw [(G3 3 (by decide)).1, (F12 3 (by decide)).1]; exact h1
      refine OUTb.jW (S1 := [19]) hR3 rb3 (sA σ3 19 (np τ) 0) ((FT.refl _ _).ssA (by decide)) (fun I QF k => bT_begins_450 (fa ⟨by omega, fun u hu => k u (by rw [hu, if_neg (by omega), fl_w (by omega), if_pos rfl])⟩)) (fun σ4 e4 rb4 G4 hR4 => ?_)
      have s43 : tI σ4 3 = 1 := (G4 3 (by decide)).1.trans s33
      refine OUTb.jW (S1 := [21]) hR4 rb4 (sA σ4 21 (np τ) 0) ((FT.refl _ _).ssA (by decide)) (fun I QF k => fa ⟨by omega, fun u hu => k u (by rw [hu, if_neg (by omega)])⟩) (fun σ5 e5' rb5 G5 hR5 => ?_)
      have s53 : tI σ5 3 = 1 := (G5 3 (by decide)).1.trans s43
      have nA := N1.1
      refine OUTb.cM (T1 := [fR w1 15 p, fR w1 16 p]) (S1 := [17, 18]) (k := 0) (w' := w2) hR5 rb5 bF bP bW (by unfold zm; rw [bz, bu]; omega) (by decide) (fun Q X hh => sC_nameAt N1 n0 hn0w (sC_needOk hok (fa (sC_needOk (by decide) (sC_bind' N1 h8 hw2 hh))))) (fun r hr => ?_) (fun rb6 c6 hR6 => ?_)
      · have z15 := rb1.1.le (r := fR w1 15 p) (by rw [nA.1.1]; decide)
        have z16 := rb1.1.le (r := fR w1 16 p) (by rw [nA.2.1]; decide)
        rw [← f15.1, ← f15.2]
        refine ⟨Or.inl hr, ?_⟩
        simp only [List.mem_cons, List.not_mem_nil, or_false] at hr
        rcases hr with y | y
        · rw [y]; exact ⟨Nat.le_of_lt nA.1.2.2.1, Or.inr ⟨by rw [nA.1.1]; decide, z15⟩⟩
        · rw [y]; exact ⟨Nat.le_of_lt nA.2.2.2.1, Or.inr ⟨by rw [nA.2.1]; decide, z16⟩⟩
      have z1' : cz w + 1 ≤ cz w1 := by omega
      have hpz := rb.1.pz
      have nin : ∀ r, r = cz w + 1 → r ∉ p :: [fR w1 15 p, fR w1 16 p] := by
        intro r hr y
        have kz := hK.1.2.2.2.2
        simp only [List.mem_cons, List.not_mem_nil, or_false] at y
        have g1 := nA.1.2.2.2
        have g2 := nA.2.2.2.2
        omega
      have o2 := c6.1.2.2.2.2 (cz w + 1) z1' (nin _ rfl)
      have t2 : tg w2 (cz w + 1) = 6 := by rw [ob.etg o2]; exact t1
      refine OUTb.wo (r := cz w + 1) hR6 rb6 (pI w2 68 (cz w + 1) n0) ((Fr.refl _ _).spI (Or.inl (by simp))) ((PF.refl _ _ _).spI (Or.inr (by omega))) (rb6.1.spI _ _ _) ⟨rfl, rfl⟩ (fun Q X hh => ⟨by rw [t2]; decide, hh⟩) ⟨by omega, by rw [t2]; decide, by rw [t2]; decide⟩ (Or.inr (Nat.lt_succ_self _)) (fun w3 ew3 rb7 c7 hR7 => ?_)
      have FA : FT [16, 17, 18, 19, 20, 21, 22, 23, 24, 25, 26, 28, 29, 30, 31] τ σ5 := ((F12.trans (G3.mono (by decide))).trans (G4.mono (by decide))).trans (G5.mono (by decide))
      have nd : ∀ f x : Nat, (f ≠ 24 ∧ f ≠ 19 ∧ f ≠ 21 ∧ f ≠ 28 ∧ f ≠ 29 ∧ f ≠ 30 ∧ f ≠ 31) → tA σ5 f x = tA σ1 f x := fun f x hf => by
        rw [e5', tA_sA, if_neg (fun y => hf.2.2.1 y.1), e4, tA_sA, if_neg (fun y => hf.2.1 y.1), e3, tA_sA, if_neg (fun y => hf.1 y.1), (bT f (by simp only [List.mem_cons, List.not_mem_nil, or_false]; omega)).2]
      obtain ⟨k17, k18, k19, k20, k21, k22, k23, k24, k25, k26⟩ := nwT_new τ 0 s
      rw [← hσ1] at k17 k18 k19 k20 k21 k22 k23 k24 k25 k26
      have U1 : UT τ σ1 o := by rw [hσ1]; exact UT.new 0 s o
      have U5 : UT τ σ5 o := (((U1.trans B3 (by omega) eR1).wr (by decide) e3).wr (by decide) e4).wr (by decide) e5'
      have d17 : tA σ5 17 (np τ) = 0 := (nd 17 _ (by decide)).trans k17
      have qr : (0 : Int) ≤ np τ ∧ (np τ : Int) < 1700 := by omega
      refine OUTb.jBV hR7 (OUT.nx1 (d := m + 4) (e := e + 3) rb7 (by rw [s53]; decide) (hR7.le (by decide))) (fun Q X hh => hh) (fun I QF cl k => br1 rb7.f0 (br1 rfl k)) (fun _ _ w4 σ6 rb8 hfr c8 hR8 => ?_) (fun h pl σ D F => ?_)
      · have z17 : tA σ6 17 (np τ) = 0 := ((c8.2.2.2.1 17 (by decide)).2 _).trans d17
        have z32 : tI σ6 32 = o := by rw [(c8.2.2.2.1 32 (by decide)).1, (FA 32 (by decide)).1]; exact e32
        refine OUTb.jT (F' := fun I _ => I (np τ) o σ6) (fun I QF cl k => ⟨qr, br0 (fun y => by rw [z17] at y; exact absurd y.1 (by decide)) (bT_begins_600 ⟨qr, br0 (by rw [z17]; decide) (bT_begins_619 k)⟩)⟩) (OUTb.jR (v := cz w + 1) (q := np τ) rb8 ?_ (fun Q X hh => hh) (fun I QF cl k => by
          have k' : I (np τ) (tI σ6 32) σ6 := k
          rw [z32] at k'
          exact k'))
        have cA : CF p [] [] [16, 17, 18, 19, 20, 21, 22, 23, 24, 25, 26, 28, 29, 30, 31] w1 τ w1 σ5 := ⟨Fr.refl _ _, PF.refl _ _ _, rb1.1, FA, by rw [show tI σ5 5 = tI τ 5 from (FA 5 (by decide)).1]; exact Int.le_refl _, (FA 1 (by decide)).1⟩
        have ct : CF p [fR w 15 p, fR w 16 p] [9, 10, 11, 12, 13, 14, 17, 18] [2, 3, 4, 5, 6, 16, 17, 18, 19, 20, 21, 22, 23, 24, 25, 26, 28, 29, 30, 31] w τ w4 σ6 := ((((c1.mono rb.1 (fun r hr => by cases hr) (fun f hf => by cases hf) (fun f hf => by cases hf)).trans cA (fun r hr => by cases hr) (fun f hf => by cases hf) (by decide)).trans c6 (fun r hr => by rw [f15.1, f15.2] at hr; exact Or.inl hr) (by decide) (fun f hf => by cases hf)).trans c7 (fun r hr => by rw [List.mem_singleton.mp hr]; exact Or.inr (Nat.lt_succ_self _)) (fun f hf => by cases hf) (fun f hf => by cases hf)).trans c8 (fun r hr => by cases hr) (by decide) (by decide)
        have kz := hK.1.2.2.2.2
        have N6 : NmR p w4 σ6 := ((((N2.ft G3 (by decide)).1.ft G4 (by decide)).1.ft G5 (by decide)).1.on rb6.1 c7 (fun r hr => by rw [List.mem_singleton.mp hr]; omega)).on rb7.1 c8
        have U6 : UT τ σ6 o := U5.trans (UT.ft c8.2.2.2.1 (by decide) o) (by rw [np_ft G5 (by decide), np_ft G4 (by decide), np_ft G3 (by decide), np_ft bT (by decide), eP1]; omega) (by rw [nR_ft G5 (by decide), nR_ft G4 (by decide), nR_ft G3 (by decide), eR2, eR1])
        have eP6 : np σ6 = np τ + 1 := by rw [np_ft c8.2.2.2.1 (by decide), np_ft G5 (by decide), np_ft G4 (by decide), np_ft G3 (by decide), np_ft bT (by decide), eP1]
        have eR6 : nR σ6 = nR τ := by rw [nR_ft c8.2.2.2.1 (by decide), nR_ft FA (by decide)]
        have e166 : tI σ6 16 = np σ6 := by
          rw [eP6, (c8.2.2.2.1 16 (by decide)).1, (G5 16 (by decide)).1, (G4 16 (by decide)).1, (G3 16 (by decide)).1, (bT 16 (by decide)).1, hσ1]
          exact (nwT_np τ 0 s).1
        have e5f : (np σ6 : Int) ≤ tI σ6 5 := by
          rw [eP6]
          have e55 : tI σ5 5 = tI τ 5 := (FA 5 (by decide)).1
          omega
        have hfin : PS p w4 σ6 o := h.on ct rb8 N6 (fun r hr => by simpa using hr) e166 ⟨by omega, e5f⟩ (by rw [z32]; exact e32.symm) U6
        have m24 : tA σ6 24 (np τ) = n0 := by rw [(c8.2.2.2.1 24 (by decide)).2, (G5 24 (by decide)).2, (G4 24 (by decide)).2, e3, tA_sA, if_pos ⟨rfl, rfl⟩]
        have m18 : tA σ6 18 (np τ) = s := by rw [(c8.2.2.2.1 18 (by decide)).2, nd 18 _ (by decide)]; exact k18
        have m23 : tA σ6 23 (np τ) = -4 := by rw [(c8.2.2.2.1 23 (by decide)).2, nd 23 _ (by decide)]; exact k23
        have m25 : tA σ6 25 (np τ) = -4 := by rw [(c8.2.2.2.1 25 (by decide)).2, nd 25 _ (by decide)]; exact k25
        have m26 : tA σ6 26 (np τ) = 1 := by rw [(c8.2.2.2.1 26 (by decide)).2, nd 26 _ (by decide)]; exact k26
        have ow : ∀ k, own σ6 (np τ) k ↔ k = n0 := by
          intro k
          unfold own
          rw [show tA σ6 24 (np τ) = n0 from m24, show tA σ6 25 (np τ) = -4 from m25]
          omega
        have o4 := c8.1.2.2.2.2 (cz w + 1) (rb7.1.le (by rw [ew3]; show tg w2 (cz w + 1) ≠ 0; rw [t2]; decide)) (by simp; omega)
        have x68 : fI w4 68 (cz w + 1) = n0 := by rw [ob.efI o4, ew3, fI_at]
        have xtg : tg w4 (cz w + 1) = 6 := by rw [ob.etg o4, ew3]; exact t2
        have S6 : SnR σ6 n0 = s := by
          unfold SnR at B2 ⊢
          rw [eR6, (c8.2.2.2.1 30 (by decide)).2, (G5 30 (by decide)).2, (G4 30 (by decide)).2, (G3 30 (by decide)).2]
          rw [eR2, eR1] at B2
          exact B2
        refine ⟨rfl, rfl, hfin, by omega, m18, m23, m25, U6, eR6, fun k => k = n0, ⟨Or.inr ⟨by rw [show tA σ6 24 (np τ) = n0 from m24]; omega, by rw [show tA σ6 24 (np τ) = n0 from m24]; omega⟩, Or.inl m25, Or.inl ⟨Or.inr m25, ?_⟩⟩, B1.st (S := [16, 17, 18, 19, 20, 21, 22, 23, 24, 25, 26]) (S2 := [24, 19, 21, 2, 3, 4, 5, 6]) F1 ((((G3.mono (by decide)).trans (G4.mono (by decide))).trans (G5.mono (by decide))).trans (c8.2.2.2.1.mono (by decide)))⟩
        rw [show tA σ6 24 (np τ) = n0 from m24, if_neg (by omega)]
        exact ⟨by omega, by omega, x68, fun k hk => by rw [(ow k).mp hk, S6]; exact m18.symm, Or.inl ⟨z17, xtg, m26, fun k => (ow k).symm⟩⟩
      · have z17 : tA σ 17 (np τ) = 0 := ((F 17 (by decide)).2 _).trans d17
        refine DD.jT (F' := fun I _ => I (np τ) o σ) (fun I QF cl k => ⟨qr, br0 (fun y => by rw [z17] at y; exact absurd y.1 (by decide)) (bT_begins_600 ⟨qr, br0 (by rw [z17]; decide) (bT_begins_619 k)⟩)⟩) ?_
        have U6 : UT τ σ o := U5.trans (UT.ft F (by decide) o) (by rw [np_ft G5 (by decide), np_ft G4 (by decide), np_ft G3 (by decide), np_ft bT (by decide), eP1]; omega) (by rw [nR_ft G5 (by decide), nR_ft G4 (by decide), nR_ft G3 (by decide), eR2, eR1])
        exact DD.jS (dI15 (R := nR τ) D (by rw [(F 27 (by decide)).1, (FA 27 (by decide)).1]; exact hN.2.1) hN.2.2.1 (by rw [(F 32 (by decide)).1, (FA 32 (by decide)).1]; exact e32) (by omega) (fun k hk => (hsl k (by omega)).on (by omega) U6 (hsq k (by omega))) (fun _ => qr) (by omega))
  · -- one too many
    obtain ⟨σ2, ⟨q1, q2, q3⟩, run⟩ := RB.fails (e := e + 6) (pl := tI τ 5) rbs (k := 9) (by decide)
    refine OUTb.thr rb1 (fun Q X hh => sC_nameAt N1 n0 hn0w (sC_needOk hok (fa (needNoP e11 (if_neg hmu2) hr1 hh)))) (DD.jP (σ := σ2) (S1 := [7, 8, 16, 17, 18, 19, 20, 21, 22, 23, 24, 25, 26]) (F' := fun I _ => I (-4) o σ2) ((F1.mono (by decide)).trans (q1.mono (by decide))) (fun I QF cl k => bgn (br0 hno (bT_begins_409 (br0 hmu2 (run _ (dd420 q3 k)))))) (DD.jF (x := -4) (y := o) q2 q3 (fun I QF cl k => k)))
end ZPlain1
