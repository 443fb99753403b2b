/-! make: both -/
section ZMake3
variable {p b e d : Nat} {w : CW} {τ : TW}
/-- a letter more -/
theorem VAL.letter {w2 : CW} {k m : Nat} {g : Nat → Int} {x1 : Int} (h : VAL p w τ) (hK : KR p w τ) (G : mkG τ x1 g k m) (h60 : mkZ τ g m ≤ 60) (hlt : tI τ 109 < 160) (W : WF p w) (F : Fr [] w w2) (W2 : WF p w2) (hz : cz w < cz w2) (P : PF [] p w w2) (r1 : fI w2 113 (cz w2) = tI τ 109) (r2 : fI w2 114 (cz w2) = mkZ τ g m) (rt : tg w2 (cz w2) = 30) (r117 : fR w2 117 (cz w2) = kd w p k) (r118 : tg w2 (fR w2 118 (cz w2)) = 119 ∧ ln w2 (fR w2 118 (cz w2)) = m ∧ p + 8 < fR w2 118 (cz w2) ∧ fR w2 118 (cz w2) < cz w2 ∧ cz w < fR w2 118 (cz w2)) (rA : ∀ i : Nat, i < m → aR w2 (fR w2 118 (cz w2)) i = vr w p (g i).toNat) :
    VAL p (kpW w2 p) (lvT τ k m g) ∧ Fr [p, fR w 3 p] w (kpW w2 p) ∧ PF [4] p w (kpW w2 p) ∧ WF p (kpW w2 p) ∧ FT [109, 110, 111, 112, 113, 114] τ (lvT τ k m g) ∧ VSm p w τ (kpW w2 p) (lvT τ k m g) := by
  obtain ⟨⟨a1, a2, a3, a4⟩, b1, b2, b3, b4⟩ := id h
  have l3 := W.le (r := fR w 3 p) (by rw [a1]; decide)
  have p3 : fR w2 3 p = fR w 3 p := (P 3 (by decide)).2
  have p4 : fI w2 4 p = tI τ 109 := (P 4 (by decide)).1.trans b1
  have pz := W.pz
  obtain ⟨c1, c2, c3, c4, c5⟩ := hK.1
  have c4' : fR w 0 p ≤ p + 8 := c4
  have hn : tI τ 109 = (nV τ : Int) := by unfold nV; omega
  have F2 : Fr [p, fR w 3 p] w (kpW w2 p) := by
    have : Fr [p, fR w 3 p] w w2 := F.mono (fun r hr => by cases hr)
    unfold kpW
    exact (this.sqR (Or.inl (by rw [p3]; simp))).spI (Or.inl (by simp))
  have P2 : PF [4] p w (kpW w2 p) := by
    unfold kpW
    exact ((P.mono (by decide)).sqR).spI (Or.inl (by decide))
  have W3 : WF p (kpW w2 p) := (W2.sqR _ _ _).spI _ _ _
  obtain ⟨τ0, ht0⟩ : ∃ τ0, τ0 = sA (nvT τ 4 k 0) 113 (tI τ 109) (mkZ τ g m) := ⟨_, rfl⟩
  have el : lvT τ k m g = ptT τ0 (nV τ) g m := by rw [ht0]; rfl
  have F0 : FT [109, 110, 111, 112, 113] τ τ0 := by
    rw [ht0]
    unfold nvT
    exact ((((((FT.refl _ τ).ssA (by decide)).ssA (by decide)).ssA (by decide)).ssA (by decide)).ssI (by decide)).ssA (by decide)
  have F1 := ptT_ft (τ := τ0) (nV τ) g m
  have Ft : FT [109, 110, 111, 112, 113, 114] τ (lvT τ k m g) := by
    rw [el]
    exact (F0.mono (by decide)).trans (F1.mono (by decide))
  have eo : ∀ f i, f ≠ 114 → tA (lvT τ k m g) f i = tA τ0 f i := fun f i hf => by
    rw [el]; exact (F1 f (fun y => hf (List.mem_singleton.mp y))).2 i
  have eA : ∀ u : Nat, vr (kpW w2 p) p u = if u = nV τ then cz w2 else vr w p u := fun u => by
    unfold vr
    rw [(P2 3 (by decide)).2]
    show (if fR w 3 p = fR w2 3 p ∧ (u : Int) = fI w2 4 p then cz w2 else aR w2 (fR w 3 p) u) = _
    rw [p3, p4]
    by_cases z : u = nV τ
    · rw [if_pos ⟨rfl, by omega⟩, if_pos z]
    · rw [if_neg (by omega), if_neg z]
      exact ob.eaR (F.2.2.2.2 _ l3 (fun y => by cases y)) u
  have e0 : ((nV τ : Nat) : Int) = tI τ 109 := hn.symm
  have eT : ∀ f (v : Nat), (f = 110 ∨ f = 111 ∨ f = 112 ∨ f = 113) → v ≠ nV τ → tA (lvT τ k m g) f v = tA τ f v := fun f v hf hv => by
    rw [eo f v (by omega), ht0]
    unfold nvT
    show (if f = 113 ∧ (v : Int) = tI τ 109 then _ else if f = 113 ∧ (v : Int) = tI τ 109 then _ else if f = 112 ∧ (v : Int) = tI τ 109 then _ else if f = 111 ∧ (v : Int) = tI τ 109 then _ else if f = 110 ∧ (v : Int) = tI τ 109 then _ else tA τ f v) = _
    rw [if_neg (by omega), if_neg (by omega), if_neg (by omega), if_neg (by omega), if_neg (by omega)]
  have nT : tA (lvT τ k m g) 110 (nV τ) = 4 ∧ tA (lvT τ k m g) 111 (nV τ) = k ∧ tA (lvT τ k m g) 112 (nV τ) = 0 ∧ tA (lvT τ k m g) 113 (nV τ) = mkZ τ g m := by
    rw [eo _ _ (by decide), eo _ _ (by decide), eo _ _ (by decide), eo _ _ (by decide), ht0]
    unfold nvT
    refine ⟨?_, ?_, ?_, ?_⟩ <;> simp only [tA_sA, tA_sI, e0] <;> simp
  have e114 : ∀ i : Nat, tA (lvT τ k m g) 114 i = if 4 * nV τ ≤ i ∧ i < 4 * nV τ + m then g (i - 4 * nV τ) else tA τ 114 i := fun i => by
    rw [el, ptT_at]
    have : tA τ0 114 i = tA τ 114 i := (F0 114 (by decide)).2 i
    rw [this]
  have e109 : tI (lvT τ k m g) 109 = tI τ 109 + 1 := by rw [el, (F1 109 (by decide)).1, ht0]; rfl
  have en : nV (lvT τ k m g) = nV τ + 1 := by
    have e1 : tI (lvT τ k m g) 109 = tI τ 109 + 1 := by
      rw [el, (F1 109 (by decide)).1, ht0]; rfl
    unfold nV
    rw [e1]
    omega
  have ho : ∀ r, r ≤ cz w → p + 8 < r → ob (kpW w2 p) r = ob w r := fun r h1 h2 => F2.2.2.2.2 r h1 (fun y => by
    rcases List.mem_cons.mp y with z | z
    · omega
    · have := List.mem_singleton.mp z
      omega)
  have hkd : ∀ j, kd (kpW w2 p) p j = kd w p j := fun j => by
    unfold kd
    rw [show fR (kpW w2 p) 0 p = fR w 0 p from (P2 0 (by decide)).2]
    have t0 : tg w (fR w 0 p) = 112 := c1
    exact ob.eaR (F2.2.2.2.2 _ (W.le (r := fR w 0 p) (by rw [t0]; decide)) (fun y => by
      have c3' : p < fR w 0 p := c3
      rcases List.mem_cons.mp y with z | z
      · omega
      · have := List.mem_singleton.mp z
        rw [this, a1] at t0
        cases t0)) j
  have hnk : nK (lvT τ k m g) = nK τ := by unfold nK; rw [(Ft 10 (by decide)).1]
  refine ⟨⟨?_, ?_, ?_, ?_, fun v hv => ?_⟩, F2, P2, W3, Ft, by omega, fun v hv => by rw [eA, if_neg (by omega)]⟩
  · have t3 := F2.2.2.2.1 _ l3
    unfold VA
    rw [(P2 3 (by decide)).2]
    exact ⟨t3.1.trans a1, t3.2.trans a2, a3, a4⟩
  · rw [e109]
    unfold kpW
    rw [fI_at, p4]
  · rw [e109]
    omega
  · rw [e109]
    omega
  · rw [eA]
    by_cases z : v = nV τ
    · subst z
      rw [if_pos rfl]
      have t' : ∀ r, tg (kpW w2 p) r = tg w2 r := fun _ => rfl
      have l' : ∀ r, ln (kpW w2 p) r = ln w2 r := fun _ => rfl
      have f' : ∀ f r, f ≠ 4 → fI (kpW w2 p) f r = fI w2 f r := fun f r hf => by
        show (if f = 4 ∧ r = p then _ else fI w2 f r) = _
        rw [if_neg (by omega)]
      have r' : ∀ f r, fR (kpW w2 p) f r = fR w2 f r := fun _ _ => rfl
      have a' : ∀ i : Nat, aR (kpW w2 p) (fR w2 118 (cz w2)) i = aR w2 (fR w2 118 (cz w2)) i := fun i => by
        show (if fR w2 118 (cz w2) = fR w2 3 p ∧ _ then _ else aR w2 (fR w2 118 (cz w2)) i) = _
        rw [if_neg (by omega)]
      have h8 : p + 8 ≤ cz w := c5
      obtain ⟨g1, g2, g3, g4, g5, g6⟩ := G
      have zr := mkZ_rg h (k := k) (g := g) m g5 g6
      unfold VR
      rw [nT.1, nT.2.1, nT.2.2.1, nT.2.2.2, t', f' 113 _ (by decide), f' 114 _ (by decide), r', r', t', l']
      refine ⟨⟨by omega, r1.trans hn, r2, by omega, h60⟩, Or.inr (Or.inr (Or.inr (Or.inr ⟨rfl, rt, rfl, k, m, rfl, by omega, by rw [hkd, r117], (Ft 14 (by decide)).2 _ |>.trans g4, g5, ⟨r118.1, r118.2.1, r118.2.2.1⟩, fun i hi => ⟨(g i).toNat, ?_, ?_, ?_⟩⟩)))⟩
      · have := (g6 i hi).1
        omega
      · rw [e114, if_pos (by omega), show 4 * nV τ + i - 4 * nV τ = i by omega]
        have := (g6 i hi).1
        omega
      · rw [a', rA i hi, eA, if_neg (by have := (g6 i hi).1; omega)]
    · rw [if_neg z]
      refine (b4 v (by omega)).fr W (fun r h1 h2 _ => ho r h1 h2) (fun u hu => by rw [eA, if_neg (by omega)]) (fun f hf => eT f v hf z) (fun i hi => by rw [e114, if_neg (by omega)]) ⟨by rw [hnk]; exact Nat.le_refl _, fun j _ => ⟨hkd j, (Ft 14 (by decide)).2 _⟩⟩
theorem VT.letter {x1 : Int} {g : Nat → Int} {k m : Nat} (h : VT τ) (hV : VAL p w τ) (G : mkG τ x1 g k m) (hlt : tI τ 109 < 160) : VT (lvT τ k m g) := by
  have h0 := hV.2.2.1
  have hn : tI τ 109 = (nV τ : Int) := by unfold nV; omega
  have e0 : ((nV τ : Nat) : Int) = tI τ 109 := hn.symm
  obtain ⟨τ0, ht0⟩ : ∃ τ0, τ0 = sA (nvT τ 4 k 0) 113 (tI τ 109) (mkZ τ g m) := ⟨_, rfl⟩
  have el : lvT τ k m g = ptT τ0 (nV τ) g m := by rw [ht0]; rfl
  have F0 : FT [109, 110, 111, 112, 113] τ τ0 := by
    rw [ht0]
    unfold nvT
    exact ((((((FT.refl _ τ).ssA (by decide)).ssA (by decide)).ssA (by decide)).ssA (by decide)).ssI (by decide)).ssA (by decide)
  have F1 := ptT_ft (τ := τ0) (nV τ) g m
  have Ft : FT [109, 110, 111, 112, 113, 114] τ (lvT τ k m g) := by
    rw [el]
    exact (F0.mono (by decide)).trans (F1.mono (by decide))
  have eo : ∀ f i, f ≠ 114 → tA (lvT τ k m g) f i = tA τ0 f i := fun f i hf => by
    rw [el]; exact (F1 f (fun y => hf (List.mem_singleton.mp y))).2 i
  have eT : ∀ f (v : Nat), (f = 110 ∨ f = 111 ∨ f = 113) → v < nV τ → tA (lvT τ k m g) f v = tA τ f v := fun f v hf hv => by
    rw [eo f v (by omega), ht0]
    unfold nvT
    show (if f = 113 ∧ (v : Int) = tI τ 109 then _ else if f = 113 ∧ (v : Int) = tI τ 109 then _ else if f = 112 ∧ (v : Int) = tI τ 109 then _ else if f = 111 ∧ (v : Int) = tI τ 109 then _ else if f = 110 ∧ (v : Int) = tI τ 109 then _ else tA τ f v) = _
    rw [if_neg (by omega), if_neg (by omega), if_neg (by omega), if_neg (by omega), if_neg (by omega)]
  have nT : tA (lvT τ k m g) 111 (nV τ) = k ∧ tA (lvT τ k m g) 113 (nV τ) = mkZ τ g m := by
    rw [eo _ _ (by decide), eo _ _ (by decide), ht0]
    unfold nvT
    refine ⟨?_, ?_⟩ <;> simp only [tA_sA, tA_sI, e0] <;> simp
  have e114 : ∀ i : Nat, tA (lvT τ k m g) 114 i = if 4 * nV τ ≤ i ∧ i < 4 * nV τ + m then g (i - 4 * nV τ) else tA τ 114 i := fun i => by
    rw [el, ptT_at]
    have : tA τ0 114 i = tA τ 114 i := (F0 114 (by decide)).2 i
    rw [this]
  have en : nV (lvT τ k m g) = nV τ + 1 := by
    have e1 : tI (lvT τ k m g) 109 = tI τ 109 + 1 := by rw [el, (F1 109 (by decide)).1, ht0]; rfl
    unfold nV
    rw [e1]
    omega
  have hnk : nK (lvT τ k m g) = nK τ := by unfold nK; rw [(Ft 10 (by decide)).1]
  intro v hv
  by_cases z : v = nV τ
  · subst z
    intro _
    obtain ⟨g1, g2, g3, g4, g5, g6⟩ := G
    refine ⟨k, m, nT.1, by omega, ((Ft 14 (by decide)).2 _).trans g4, g5, ?_, fun j hj => ?_⟩
    · rw [nT.2]
      refine (mkZ_c m (fun j hj => ⟨?_, ?_⟩)).symm
      · rw [e114, if_pos (by omega), show 4 * nV τ + j - 4 * nV τ = j by omega]
      · have a := (g6 j hj).1
        obtain ⟨u, hu⟩ : ∃ u : Nat, g j = u := ⟨(g j).toNat, by omega⟩
        rw [hu]
        exact eT 113 u (by decide) (by omega)
    · have a := (g6 j hj).1
      have o := (g6 j hj).2
      obtain ⟨u, hu⟩ : ∃ u : Nat, g j = u := ⟨(g j).toNat, by omega⟩
      rw [hu, Int.toNat_natCast] at o
      refine ⟨u, by omega, ?_, ?_⟩
      · rw [e114, if_pos (by omega), show 4 * nV τ + j - 4 * nV τ = j by omega, hu]
      · rw [(Ft 15 (by decide)).2]
        have q0 := eT 110 u (by decide) (by omega)
        have q1 := eT 111 u (by decide) (by omega)
        unfold ofS
        rw [q0, q1]
        rcases o with o | ⟨o1, o | o⟩
        · exact Or.inl o
        · exact Or.inr ⟨o1, Or.inl o⟩
        · exact Or.inr ⟨o1, Or.inr ⟨o.1, ofT_c (fun i => (Ft 13 (by decide)).2 i) o.2⟩⟩
  · exact h.keep eT (fun i hi => by rw [e114, if_neg (by omega)]) ⟨by omega, fun j _ => ⟨(Ft 14 (by decide)).2 _, fun i _ => (Ft 15 (by decide)).2 _, fun o q => ofT_c (fun i => (Ft 13 (by decide)).2 i) q⟩⟩ (by omega)
/-- what an added letter leaves, both -/
def ADVL (p : Nat) (w : CW) (τ : TW) (w' : CW) (τ' : TW) : Prop := VAL p w' τ' ∧ Fr [p, fR w 3 p] w w' ∧ PF [4] p w w' ∧ WF p w' ∧ FT [109, 110, 111, 112, 113, 114] τ τ' ∧ zm w' ≤ zm w + 50 ∧ (VT τ → VT τ') ∧ VSm p w τ w' τ'
theorem MKN.adv {w' : CW} (h : MKN p w w') (hV : VAL p w τ) (W : WF p w) (hK : KR p w τ) : ADVL p w τ w' τ :=
  ⟨hV.new0 W hK h.1 h.2.1, h.1.mono (fun r hr => by cases hr), h.2.1.mono (fun r hr => by cases hr), h.2.2.1, FT.refl _ _, by have := h.2.2.2; omega, fun hT => hT, Nat.le_refl _, fun v _ => by
    unfold vr
    rw [(h.2.1 3 (by simp)).2]
    exact ob.eaR (h.1.2.2.2.2 _ (W.le (by rw [hV.1.1]; decide)) (by simp)) _⟩
theorem mkG_un {x1 : Int} {g : Nat → Int} {k m k2 m2 : Nat} (h : mkG τ x1 g k m) (h2 : mkG τ x1 g k2 m2) : k2 = k ∧ m2 = m := by
  have e1 : k2 = k := by have := h2.1; have := h.1; omega
  subst e1
  exact ⟨rfl, by have := h2.2.2.2.1; have := h.2.2.2.1; omega⟩
theorem api_make {x1 x2 x3 x4 x5 : Int} (W : WF p w) (hV : VAL p w τ) (hK : KR p w τ) (hm : cz w + 3 ≤ mz w ∧ cu w + 12 ≤ mu w) {K : Int → Int → CW → TW → Prop} (h1 : ∀ v w' τ', ADVL p w τ w' τ' → K v v w' τ') : wpC p (d + 4) 62 [ar p, ai x1, ai x2, ai x3, ai x4, ai x5] w (zqI (fun v w' => wpT (e + 3) 83 [ai x1, ai x2, ai x3, ai x4, ai x5] τ (zqI (fun v' τ' => K v v' w' τ') zno)) zno) := by
  have b1 : fI w 4 p = tI τ 109 := hV.2.1
  have b2 := hV.2.2.1
  have b3 := hV.2.2.2.1
  refine sC_make W hV hK hm (fun no w' h => ?_) (fun k m G full w' h => ?_) (fun k m G lt le => ?_)
  · exact sT_make hV hK (fun _ => h1 _ _ _ (h.adv hV W hK)) (fun k m G => absurd G (no k m)) (fun k m G => absurd G (no k m))
  · exact sT_make hV hK (fun no => absurd G (no k m)) (fun _ _ _ _ => h1 _ _ _ (h.adv hV W hK)) (fun k2 m2 G2 lt le => by
      obtain ⟨e1, e2⟩ := mkG_un G G2
      subst e1; subst e2
      rcases full with q | q <;> omega)
  · have l3 := W.le (r := fR w 3 p) (by rw [hV.1.1]; decide)
    have l0 := W.le (r := fR w 0 p) (by rw [hK.1.1]; decide)
    have kl := hK.2.2.2.2.1 k G.2.1
    have h8 : p + 8 ≤ cz w := hK.1.2.2.2.2
    have hz := W.pz
    obtain ⟨q1, q2, q3⟩ := mkB_fr W m x2 x3 x4 x5
    obtain ⟨F, P, W1⟩ := mkP_fr (g := mkR w p (ag x2 x3 x4 x5)) (a := cz w + 2) q1 q2 q3 (by omega) m
    obtain ⟨s1, s2, s3, s4, s5, s6, s7, s8, s9⟩ := mkP_st (u := mkB w m x2 x3 x4 x5) (a := cz w + 2) (g := mkR w p (ag x2 x3 x4 x5)) m
    obtain ⟨c1, c2, c3, c4, c5⟩ := mkB_at w m x2 x3 x4 x5
    have aR1 := mkP_aR (u := mkB w m x2 x3 x4 x5) (a := cz w + 2) (g := mkR w p (ag x2 x3 x4 x5)) m
    have eW : mkW w p m x2 x3 x4 x5 = mkP (mkB w m x2 x3 x4 x5) (cz w + 2) (mkR w p (ag x2 x3 x4 x5)) m := rfl
    rw [← eW] at F P W1 s1 s2 s3 s4 s5 s6 s7 s8 s9 aR1
    obtain ⟨u, hu⟩ : ∃ u, u = mkW w p m x2 x3 x4 x5 := ⟨_, rfl⟩
    rw [← hu] at F P W1 s1 s2 s3 s4 s5 s6 s7 s8 s9 aR1 ⊢
    have zu : cz u = cz w + 2 := s6
    have uu : cu u = cu w + 4 + m := s7
    have mz1 : mz u = mz w := s8
    have mu1 : mu u = mu w := s9
    have m4 := G.2.2.2.2.1
    refine bC_X0_make_160 (br0 ?_ ⟨by omega, fa ?_⟩)
    · rw [(P 4 (by decide)).1, b1]
      omega
    · obtain ⟨n, hn⟩ : ∃ n, n = tI τ 109 := ⟨_, rfl⟩
      have e4 : fI (nO u 30 4) 4 p = n := by
        show (if p = cz u + 1 then 0 else fI u 4 p) = _
        rw [if_neg (by omega), (P 4 (by decide)).1, b1, hn]
      have t30 : tg (nO u 30 4) (cz u + 1) = 30 := if_pos rfl
      rw [e4]
      obtain ⟨z, hz1⟩ : ∃ z, z = mkZ τ (ag x2 x3 x4 x5) m := ⟨_, rfl⟩
      rw [← hz1]
      refine wC_X35_init (Nat.zero_le _) (bC_X35_init_0 ⟨by omega, wC_X34_init (Nat.zero_le _) (bC_X34_init_0 ⟨by omega, wC_X30_init (Nat.zero_le _) (bC_X30_init_0 ⟨by omega, by rw [t30]; decide, fa ⟨by show hP 114 (tg (nO u 30 4) (cz u + 1)) = true; rw [t30]; decide, fa ?_⟩⟩)⟩)⟩)
      refine ⟨by show hP 117 (tg (nO u 30 4) (cz u + 1)) = true; rw [t30]; decide, fa ⟨by show hP 118 (tg (nO u 30 4) (cz u + 1)) = true; rw [t30]; decide, fa ?_⟩⟩
      obtain ⟨w2, hw2⟩ : ∃ w2, w2 = pR (pR (pI (pI (nO u 30 4) 113 (cz u + 1) n) 114 (cz u + 1) z) 117 (cz u + 1) (kd w p k)) 118 (cz u + 1) (cz w + 2) := ⟨_, rfl⟩
      rw [← hw2]
      have hn1 : cz w < cz u + 1 := by omega
      have hne : p ≠ cz u + 1 := by omega
      have F2 : Fr [] w w2 := by rw [hw2]; exact ((((F.snO).spI (Or.inr hn1)).spI (Or.inr hn1)).spR (Or.inr hn1)).spR (Or.inr hn1)
      have P2 : PF [] p w w2 := by rw [hw2]; exact ((((P.snO (by omega)).spI (Or.inr hne)).spI (Or.inr hne)).spR (Or.inr hne)).spR (Or.inr hne)
      have W2 : WF p w2 := by rw [hw2]; exact ((((W1.snO 30 4).spI _ _ _).spI _ _ _).spR _ _ _).spR _ _ _
      have z2 : cz w2 = cz u + 1 := by rw [hw2]; rfl
      have zc : cu w2 = cu u + 4 := by rw [hw2]; rfl
      have f113 : fI w2 113 (cz w2) = n := by
        rw [z2, hw2]
        simp [fI_pI, fI_pR, fR_pI, fR_pR]
      have f114 : fI w2 114 (cz w2) = z := by
        rw [z2, hw2]
        simp [fI_pI, fI_pR, fR_pI, fR_pR]
      have f117 : fR w2 117 (cz w2) = kd w p k := by
        rw [z2, hw2]
        simp [fI_pI, fI_pR, fR_pI, fR_pR]
      have f118 : fR w2 118 (cz w2) = cz w + 2 := by
        rw [z2, hw2]
        simp [fI_pI, fI_pR, fR_pI, fR_pR]
      have t2 : ∀ r, tg w2 r = if r = cz u + 1 then 30 else tg u r := fun r => by rw [hw2]; rfl
      have l2 : ∀ r, ln w2 r = ln u r := fun r => by rw [hw2]; rfl
      have A2 : ∀ r i, aR w2 r i = aR u r i := fun r i => by rw [hw2]; rfl
      have t2' : tg w2 (cz w2) = 30 := by rw [t2, z2, if_pos rfl]
      obtain ⟨a1, a2, a3, a4, a5, a6⟩ := hV.letter hK G le lt W F2 W2 (by omega) P2 (f113.trans hn) (f114.trans hz1) t2' f117 (by
        rw [f118, t2, if_neg (by omega), l2, s1, s2]
        exact ⟨c3, c4, by omega, by omega, by omega⟩) (fun i hi => by
        rw [f118, A2, aR1, if_pos (by omega), Int.toNat_natCast]
        rfl)
      refine sC_keep (r := cz u + 1) z2.symm W2 (hV.1.st W F2 P2) (by rw [(P2 4 (by decide)).1]; omega) (by rw [(P2 4 (by decide)).1]; omega) (by rw [← z2, t2']; decide) ?_
      rw [← z2, f113]
      show wpT (e + 3) 83 [ai x1, ai x2, ai x3, ai x4, ai x5] τ (zqI (fun v' τ' => K n v' (kpW w2 p) τ') zno)
      refine sT_make hV hK (fun no => absurd G (no k m)) (fun k2 m2 G2 full => ?_) (fun k2 m2 G2 lt le => ?_)
      · obtain ⟨e1, e2⟩ := mkG_un G G2
        subst e1; subst e2
        rcases full with q | q <;> omega
      · obtain ⟨e1, e2⟩ := mkG_un G G2
        subst e1; subst e2
        rw [← hn]
        refine h1 _ _ _ ⟨a1, a2, a3, a4, a5, ?_, fun hT => hT.letter hV G lt, a6⟩
        have y1 : cz (kpW w2 p) = cz w2 := rfl
        have y2 : cu (kpW w2 p) = cu w2 := rfl
        unfold zm
        rw [y1, y2]
        omega
end ZMake3
