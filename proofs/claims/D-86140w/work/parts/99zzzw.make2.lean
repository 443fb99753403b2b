/-! make: the component's half -/
section ZMake2
variable {p b e d : Nat} {w : CW} {τ : TW}
theorem KRs.new0 {w' : CW} (W : WF p w) (hK : KR p w τ) (F : Fr [] w w') (P : PF [] p w w') : KR p w' τ :=
  KR.fr (T := []) (S := []) (S' := []) W hK (F.mono (fun r hr => by cases hr)) P (fun r hr => by cases hr) (by decide) (by decide) (FT.refl [] τ) (fun f hf => by cases hf)
theorem VAL.new0 {w' : CW} (h : VAL p w τ) (W : WF p w) (hK : KR p w τ) (F : Fr [] w w') (P : PF [] p w w') : VAL p w' τ := by
  have l3 := W.le (r := fR w 3 p) (by rw [h.1.1]; decide)
  have l0 := W.le (r := fR w 0 p) (by rw [hK.1.1]; decide)
  refine h.fr W (fun r h1 _ _ => F.2.2.2.2 r h1 (fun y => by cases y)) (fun r hr => F.2.2.2.1 r hr) ⟨(P 3 (by decide)).2, (P 4 (by decide)).1⟩ (fun i => ob.eaR (F.2.2.2.2 _ l3 (fun y => by cases y)) i) (fun f _ => ⟨rfl, fun _ => rfl⟩) ⟨Nat.le_refl _, fun k _ => ⟨?_, rfl⟩⟩
  unfold kd
  rw [(P 0 (by decide)).2]
  exact ob.eaR (F.2.2.2.2 _ l0 (fun y => by cases y)) k
/-- what was told, as an array; an array for the parts -/
def mkA (w : CW) (x2 x3 x4 x5 : Int) : CW := qI (qI (qI (qI (nA w 102 4) (cz w + 1) 0 x2) (cz w + 1) 1 x3) (cz w + 1) 2 x4) (cz w + 1) 3 x5
def mkB (w : CW) (m : Nat) (x2 x3 x4 x5 : Int) : CW := nA (mkA w x2 x3 x4 x5) 119 m
def mkP (u : CW) (a : Nat) (g : Nat → Nat) : Nat → CW
  | 0 => u
  | j + 1 => qR (mkP u a g j) a j (g j)
theorem mkA_at (w : CW) (x2 x3 x4 x5 : Int) (j : Nat) (hj : j < 4) : aI (mkA w x2 x3 x4 x5) (cz w + 1) j = ag x2 x3 x4 x5 j := by
  have : j = 0 ∨ j = 1 ∨ j = 2 ∨ j = 3 := by omega
  rcases this with h | h | h | h <;> subst h <;> simp [mkA, aI_qI, ag]
theorem mkP_st {a : Nat} {g : Nat → Nat} {u : CW} : ∀ j, tg (mkP u a g j) = tg u ∧ ln (mkP u a g j) = ln u ∧ fI (mkP u a g j) = fI u ∧ fR (mkP u a g j) = fR u ∧ aI (mkP u a g j) = aI u ∧ cz (mkP u a g j) = cz u ∧ cu (mkP u a g j) = cu u ∧ mz (mkP u a g j) = mz u ∧ mu (mkP u a g j) = mu u := by
  intro j
  induction j with
  | zero => exact ⟨rfl, rfl, rfl, rfl, rfl, rfl, rfl, rfl, rfl⟩
  | succ j ih => exact ih
theorem mkP_aR {a : Nat} {g : Nat → Nat} {u : CW} : ∀ (j : Nat) (q : Nat) (i : Int), aR (mkP u a g j) q i = if q = a ∧ 0 ≤ i ∧ i < j then g i.toNat else aR u q i := by
  intro j
  induction j with
  | zero => intro q i; rw [if_neg (by omega)]; rfl
  | succ j ih =>
    intro q i
    show (if q = a ∧ i = (j : Int) then g j else aR (mkP u a g j) q i) = _
    by_cases z : q = a ∧ i = (j : Int)
    · rw [if_pos z, if_pos (by omega), z.2, Int.toNat_natCast]
    · rw [if_neg z, ih]
      by_cases y : q = a ∧ 0 ≤ i ∧ i < j
      · rw [if_pos y, if_pos (by omega)]
      · rw [if_neg y, if_neg (by omega)]
theorem mkB_at (w : CW) (m : Nat) (x2 x3 x4 x5 : Int) : tg (mkB w m x2 x3 x4 x5) (cz w + 1) = 102 ∧ ln (mkB w m x2 x3 x4 x5) (cz w + 1) = 4 ∧ tg (mkB w m x2 x3 x4 x5) (cz w + 2) = 119 ∧ ln (mkB w m x2 x3 x4 x5) (cz w + 2) = m ∧ ∀ j : Nat, j < 4 → aI (mkB w m x2 x3 x4 x5) (cz w + 1) j = ag x2 x3 x4 x5 j := by
  refine ⟨?_, ?_, if_pos rfl, if_pos rfl, fun j hj => ?_⟩
  · show (if cz w + 1 = cz w + 1 + 1 then 119 else if cz w + 1 = cz w + 1 then 102 else tg w (cz w + 1)) = 102
    rw [if_neg (by omega), if_pos rfl]
  · show (if cz w + 1 = cz w + 1 + 1 then m else if cz w + 1 = cz w + 1 then 4 else ln w (cz w + 1)) = 4
    rw [if_neg (by omega), if_pos rfl]
  · show (if cz w + 1 = cz w + 1 + 1 then 0 else aI (mkA w x2 x3 x4 x5) (cz w + 1) j) = _
    rw [if_neg (by omega)]
    exact mkA_at w x2 x3 x4 x5 j hj
theorem mkP_fr {a : Nat} {g : Nat → Nat} {u : CW} (F : Fr [] w u) (P : PF [] p w u) (W : WF p u) (ha : cz w < a) : ∀ j, Fr [] w (mkP u a g j) ∧ PF [] p w (mkP u a g j) ∧ WF p (mkP u a g j) := by
  intro j
  induction j with
  | zero => exact ⟨F, P, W⟩
  | succ j ih => exact ⟨ih.1.sqR (Or.inr ha), ih.2.1.sqR, ih.2.2.sqR _ _ _⟩
theorem mkB_fr (W : WF p w) (m : Nat) (x2 x3 x4 x5 : Int) : Fr [] w (mkB w m x2 x3 x4 x5) ∧ PF [] p w (mkB w m x2 x3 x4 x5) ∧ WF p (mkB w m x2 x3 x4 x5) := by
  have h1 : cz w < cz w + 1 := Nat.lt_succ_self _
  unfold mkB mkA
  exact ⟨((((((Fr.refl [] w).snA).sqI (Or.inr h1)).sqI (Or.inr h1)).sqI (Or.inr h1)).sqI (Or.inr h1)).snA, ((((((PF.refl [] p w).snA).sqI).sqI).sqI).sqI).snA, (((((W.snA 102 4).sqI _ _ _).sqI _ _ _).sqI _ _ _).sqI _ _ _).snA _ _⟩
/-- what a try to make leaves: new arrays alone -/
def MKN (p : Nat) (w w' : CW) : Prop := Fr [] w w' ∧ PF [] p w w' ∧ WF p w' ∧ zm w' ≤ zm w + 24
/-- the parts' objects -/
def mkR (w : CW) (p : Nat) (g : Nat → Int) (j : Nat) : Nat := vr w p (g j).toNat
def mkW (w : CW) (p m : Nat) (x2 x3 x4 x5 : Int) : CW := mkP (mkB w m x2 x3 x4 x5) (cz w + 2) (mkR w p (ag x2 x3 x4 x5)) m
theorem zst_val {t : Nat} (ht : 26 ≤ t ∧ t ≤ 30) : zst 119 t = true := by
  have : t = 26 ∨ t = 27 ∨ t = 28 ∨ t = 29 ∨ t = 30 := by omega
  rcases this with h | h | h | h | h <;> rw [h] <;> decide
theorem VR.t5 {v r : Nat} (h : VR p w τ v r) : 26 ≤ tg w r ∧ tg w r ≤ 30 := by
  rcases h.2 with h | h | h | h | h <;> omega
theorem sC_make (W : WF p w) (hV : VAL p w τ) (hK : KR p w τ) {x1 x2 x3 x4 x5 : Int} (hm : cz w + 3 ≤ mz w ∧ cu w + 12 ≤ mu w) {Q : Int → CW → Prop}
    (hb : (∀ k m, ¬ mkG τ x1 (ag x2 x3 x4 x5) k m) → ∀ w', MKN p w w' → Q (-1) w')
    (hf : ∀ k m, mkG τ x1 (ag x2 x3 x4 x5) k m → (tI τ 109 = 160 ∨ ¬ (mkZ τ (ag x2 x3 x4 x5) m ≤ 60)) → ∀ w', MKN p w w' → Q (-3) w')
    (hg : ∀ k m, mkG τ x1 (ag x2 x3 x4 x5) k m → tI τ 109 < 160 → mkZ τ (ag x2 x3 x4 x5) m ≤ 60 → pC_X0_make_160 p (wpC p (d + 3)) Q (kd w p k) (cz w + 2) (mkZ τ (ag x2 x3 x4 x5) m) (mkW w p m x2 x3 x4 x5)) : wpC p (d + 4) 62 [ar p, ai x1, ai x2, ai x3, ai x4, ai x5] w (zqI Q zno) := by
  have b1 : fI w 4 p = tI τ 109 := hV.2.1
  have b2 := hV.2.2.1
  have b3 := hV.2.2.2.1
  have k1 : fI w 1 p = tI τ 10 := hK.2.1
  have k0 : 0 ≤ tI τ 10 := hK.2.2.1
  have k24 : tI τ 10 ≤ 24 := hK.2.2.2.1
  have M0 : MKN p w w := ⟨Fr.refl _ _, PF.refl _ _ _, W, by omega⟩
  refine wC_X0_make (Nat.zero_le _) (bC_X0_make_0 (wC_X0_isIn (Nat.zero_le _) (fa ?_)))
  rw [k1, w32_s (by omega) (by omega)]
  by_cases z : ¬ (x1 < 0) ∧ ¬ (tI τ 10 - 1 < x1)
  · rw [if_pos (by omega)]
    obtain ⟨k, hk⟩ : ∃ k : Nat, x1 = k := ⟨x1.toNat, by omega⟩
    subst hk
    have hkn : k < nK τ := by
      have : nK τ = (tI τ 10).toNat := rfl
      omega
    have kl := hK.2.2.2.2.1 k hkn
    have kA := hK.1
    have ek : aR w (fR w 0 p) (k : Int) = kd w p k := rfl
    have e40 : fI w 40 (kd w p k) = slN τ k (nK τ) := hK.2.2.2.2.2.2.1 k hkn
    refine ⟨fun _ => ⟨⟨by rw [kA.1]; decide, by omega, by rw [kA.2.1]; omega⟩, by rw [ek, kl.1]; decide⟩, ?_⟩
    by_cases y : slN τ k (nK τ) = 0
    · refine br0 (fun q => by
        rcases q with q | q
        · exact absurd q (by decide)
        · exact q (e40.trans y)) ⟨⟨by rw [kA.1]; decide, by omega, by rw [kA.2.1]; omega⟩, fa ⟨⟨by decide, by omega, by show cu w + 4 ≤ _; omega⟩, fa ?_⟩⟩
      obtain ⟨m, em⟩ : ∃ m : Nat, tA τ 14 k = m := ⟨(tA τ 14 k).toNat, by
        have : 0 ≤ tA τ 14 k := kl.2.2.2.2.2.2.1
        omega⟩
      have m4 : m ≤ 4 := by
        have : tA τ 14 k ≤ 4 := kl.2.2.2.2.2.2.2.1
        omega
      have l3 := W.le (r := fR w 3 p) (by rw [hV.1.1]; decide)
      have l0 := W.le (r := fR w 0 p) (by rw [hK.1.1]; decide)
      have lk := W.le (r := kd w p k) (by rw [kl.1]; decide)
      obtain ⟨g, eg⟩ : ∃ g, g = ag x2 x3 x4 x5 := ⟨_, rfl⟩
      have st : ∀ j, Fr [] w (mkP (mkB w m x2 x3 x4 x5) (cz w + 2) (mkR w p g) j) ∧ PF [] p w (mkP (mkB w m x2 x3 x4 x5) (cz w + 2) (mkR w p g) j) ∧ WF p (mkP (mkB w m x2 x3 x4 x5) (cz w + 2) (mkR w p g) j) := fun j => by
        obtain ⟨q1, q2, q3⟩ := mkB_fr W m x2 x3 x4 x5
        exact mkP_fr q1 q2 q3 (by omega) j
      have zz : ∀ j, zm (mkP (mkB w m x2 x3 x4 x5) (cz w + 2) (mkR w p g) j) ≤ zm w + 24 := fun j => by
        obtain ⟨-, -, -, -, -, c1, c2, -⟩ := mkP_st (u := mkB w m x2 x3 x4 x5) (a := cz w + 2) (g := mkR w p g) j
        have z1 : cz (mkB w m x2 x3 x4 x5) = cz w + 2 := rfl
        have z2 : cu (mkB w m x2 x3 x4 x5) = cu w + 4 + m := rfl
        unfold zm
        rw [c1, c2, z1, z2]
        omega
      have k42 : fI w 42 (kd w p k) = m := kl.2.2.2.2.2.1.trans em
      have a1 : cz (qI (qI (qI (qI (nA w 102 (Int.toNat 4)) (cz w + 1) 0 x2) (cz w + 1) 1 x3) (cz w + 1) 2 x4) (cz w + 1) 3 x5) = cz w + 1 := rfl
      have t1 : tg (nA w 102 4) (cz w + 1) = 102 ∧ ln (nA w 102 4) (cz w + 1) = 4 := ⟨if_pos rfl, if_pos rfl⟩
      have t2 : tg (mkA w x2 x3 x4 x5) (kd w p k) = 3 := by
        show (if kd w p k = cz w + 1 then 102 else tg w (kd w p k)) = 3
        rw [if_neg (by omega)]; exact kl.1
      refine ⟨⟨t1.1, by decide, by show _ < ((ln (nA w 102 4) (cz w + 1) : Nat) : Int); rw [t1.2]; decide⟩, fa ⟨⟨t1.1, by decide, by show _ < ((ln (nA w 102 4) (cz w + 1) : Nat) : Int); rw [t1.2]; decide⟩, fa ⟨⟨t1.1, by decide, by show _ < ((ln (nA w 102 4) (cz w + 1) : Nat) : Int); rw [t1.2]; decide⟩, fa ⟨⟨t1.1, by decide, by show _ < ((ln (nA w 102 4) (cz w + 1) : Nat) : Int); rw [t1.2]; decide⟩, fa ⟨?_, ?_, ?_⟩⟩⟩⟩⟩
      · show hF 42 (tg (mkA w x2 x3 x4 x5) (kd w p k)) = true
        rw [t2]; decide
      · show (0 ≤ fI w 42 (kd w p k) ∧ fI w 42 (kd w p k) ≤ 1000000) ∧ cz w + 1 + 1 ≤ mz w ∧ cu w + 4 + Int.toNat (fI w 42 (kd w p k)) ≤ mu w
        rw [k42]
        omega
      · show ∀ u17 : CW, u17 = nA (mkA w x2 x3 x4 x5) 119 (Int.toNat (fI w 42 (kd w p k))) → pC_X0_make_77 p (wpC p (d + 3)) Q (kd w p k) (cz w + 1) (cz w + 1 + 1) 1 0 u17
        rw [k42, Int.toNat_natCast]
        refine fa ?_
        show pC_X0_make_77 p (wpC p (d + 3)) Q (kd w p k) (cz w + 1) (cz w + 2) 1 0 (mkB w m x2 x3 x4 x5)
        rw [← eg] at hb hf hg
        refine bC_X0_make_77 ?_
        intro I hI
        have bad : ∀ j, j < m → ¬ mkO τ k (g j) j → ∀ k2 m2, ¬ mkG τ (k : Int) g k2 m2 := fun j hj no k2 m2 g2 => no (by
          have e1 : k2 = k := by have := g2.1; omega
          subst e1
          have e2 : m2 = m := by have := g2.2.2.2.1; omega
          subst e2
          exact g2.2.2.2.2.2 j hj)
        have key : ∀ n j : Nat, j + n = m → (∀ i, i < j → mkO τ k (g i) i) → I (mkZ τ g j) (j : Int) (mkP (mkB w m x2 x3 x4 x5) (cz w + 2) (mkR w p g) j) := by
          intro n
          induction n with
          | zero =>
            intro j hj hd
            have e : j = m := by omega
            obtain ⟨F, P, W'⟩ := st j
            refine hI _ _ _ ⟨?_, br1 ?_ ?_⟩
            · rw [(F.2.2.2.1 _ lk).1, kl.1]; decide
            · rw [ob.efI (F.2.2.2.2 _ lk (fun y => by cases y)), k42]; omega
            · rw [e] at hd ⊢
              have G : mkG τ (k : Int) g k m := ⟨rfl, hkn, y, em, m4, hd⟩
              have eW : mkW w p m x2 x3 x4 x5 = mkP (mkB w m x2 x3 x4 x5) (cz w + 2) (mkR w p g) m := by rw [eg]; rfl
              have := hg k m G
              rw [eW] at this
              by_cases u : tI τ 109 = 160 ∨ ¬ (mkZ τ g m ≤ 60)
              · obtain ⟨F, P, W'⟩ := st m
                refine bC_X0_make_160 (br1 ?_ (bC_X0_make_177 (bC_X0_make_203 (call := wpC p (d + 3)) (hf k m G u _ ⟨F, P, W', zz m⟩))))
                rw [(P 4 (by decide)).1, b1]
                exact u
              · exact this (by omega) (by omega)
          | succ n ih =>
            intro j hj hd
            obtain ⟨F, P, W'⟩ := st j
            have hV' := hV.new0 W hK F P
            have hK' := KRs.new0 W hK F P
            obtain ⟨s1, s2, s3, s4, s5, -⟩ := mkP_st (u := mkB w m x2 x3 x4 x5) (a := cz w + 2) (g := mkR w p g) j
            obtain ⟨c1, c2, c3, c4, c5⟩ := mkB_at w m x2 x3 x4 x5
            have kp := (kl.2.2.2.2.2.2.2.2.2.2.2 j (by omega)).2
            have kp : 0 ≤ tA τ 15 ((4 * k + j : Nat) : Int) ∧ tA τ 15 ((4 * k + j : Nat) : Int) < 3 + nK τ := by
              have e : ((4 * k + j : Nat) : Int) = 4 * (k : Int) + (j : Int) := by omega
              rw [e]; exact kp
            have zr := mkZ_rg hV (k := k) (g := g) j (by omega) hd
            obtain ⟨u, hu⟩ : ∃ u, u = mkP (mkB w m x2 x3 x4 x5) (cz w + 2) (mkR w p g) j := ⟨_, rfl⟩
            have hnx : qR u (cz w + 2) j (mkR w p g j) = mkP (mkB w m x2 x3 x4 x5) (cz w + 2) (mkR w p g) (j + 1) := by rw [hu]; rfl
            rw [← hu] at F P W' hV' hK' s1 s2 s3 s4 s5 ⊢
            have d1 : tg u (cz w + 1) = 102 := by rw [s1]; exact c1
            have d2 : ln u (cz w + 1) = 4 := by rw [s2]; exact c2
            have d3 : tg u (cz w + 2) = 119 := by rw [s1]; exact c3
            have d4 : ln u (cz w + 2) = m := by rw [s2]; exact c4
            have d5 : aN u (cz w + 1) j = g j := by
              unfold aN
              rw [if_neg (by rw [d1]; decide), s5, eg]
              exact c5 j (by omega)
            have kl' := hK'.2.2.2.2.1 k hkn
            have ekd : kd u p k = kd w p k := by
              unfold kd
              rw [(P 0 (by decide)).2]
              exact ob.eaR (F.2.2.2.2 _ l0 (fun y => by cases y)) k
            have evr : ∀ v, vr u p v = vr w p v := fun v => by
              unfold vr
              rw [(P 3 (by decide)).2]
              exact ob.eaR (F.2.2.2.2 _ l3 (fun y => by cases y)) v
            rw [KL, ekd] at kl'
            have mm : MKN p w u := ⟨F, P, W', by rw [hu]; exact zz j⟩
            have in1 : tg u (cz w + 1) = 102 ∧ 0 ≤ (j : Int) ∧ (j : Int) < ln u (cz w + 1) := ⟨d1, by omega, by rw [d2]; omega⟩
            refine hI _ _ _ ⟨by rw [kl'.1]; decide, br0 (by rw [kl'.2.2.2.2.2.1, em]; omega) ⟨in1, ?_⟩⟩
            rw [d5]
            refine sC_isValue hV' (fun v ev hv => ?_) (fun no => ⟨fun _ => bC_X0_make_124 (call := wpC p (d + 3)) (hb (bad j (by omega) (fun q => no q.1)) u mm), fun q => absurd rfl q⟩)
            have hr := hV'.2.2.2.2 v hv
            have hv160 : (v : Int) < 160 := by unfold nV at hv; omega
            have h33 : (111 ≤ tg u (fR u 3 p) ∧ tg u (fR u 3 p) ≤ 119) ∧ 0 ≤ g j ∧ g j < ln u (fR u 3 p) := by
              rw [hV'.1.1, hV'.1.2.1, ev]
              exact ⟨by decide, by omega, by omega⟩
            have er : aR u (fR u 3 p) (g j) = vr w p v := by rw [ev]; exact evr v
            have es : aN u (fR u 41 (kd w p k)) j = tA τ 15 ((4 * k + j : Nat) : Int) := by
              unfold aN
              rw [if_neg (by rw [kl'.2.2.2.2.2.2.2.2.1]; decide)]
              have := (kl'.2.2.2.2.2.2.2.2.2.2.2 j (by omega)).1
              rw [this]
              congr 1
            refine br0 (by decide) ⟨in1, by rw [d5]; exact h33, by rw [kl'.1]; decide, ⟨kl'.2.2.2.2.2.2.2.2.1, by omega, by rw [kl'.2.2.2.2.2.2.2.2.2.1]; omega⟩, ?_⟩
            rw [d5, er, es]
            rw [evr] at hr
            refine sC_isOfV (d := d + 1) hr hK' W' kp.1 kp.2 ?_
            have eiff : ofS τ v (tA τ 15 ((4 * k + j : Nat) : Int)) ↔ mkO τ k (g j) j := by
              unfold mkO
              rw [ev, Int.toNat_natCast]
              exact ⟨fun q => ⟨⟨by omega, by unfold nV at hv; omega⟩, q⟩, fun q => q.2⟩
            by_cases q : mkO τ k (g j) j
            · rw [ofI_1 (eiff.mpr q)]
              have eR : mkR w p g j = vr w p v := by unfold mkR; rw [ev, Int.toNat_natCast]
              refine br0 (by decide) ⟨in1, by rw [d5]; exact h33, ⟨by rw [d3]; decide, by omega, by rw [d4]; omega⟩, ?_, ?_⟩
              · rw [d3, d5, er]
                exact Or.inr (zst_val hr.t5)
              · rw [d5, er, ← eR, hnx]
                refine fa ?_
                have r1 := hr.1
                obtain ⟨u2, hu2⟩ : ∃ u2, u2 = mkP (mkB w m x2 x3 x4 x5) (cz w + 2) (mkR w p g) (j + 1) := ⟨_, rfl⟩
                have e2 : tg u2 = tg u ∧ ln u2 = ln u ∧ fI u2 = fI u := by rw [hu2, ← hnx]; exact ⟨rfl, rfl, rfl⟩
                have e3 : aR u2 (cz w + 2) j = vr w p v := by
                  rw [hu2, mkP_aR, if_pos (by omega), Int.toNat_natCast]
                  exact eR
                have := ih (j + 1) (by omega) (fun i hi => by
                  rcases Nat.lt_or_ge i j with y | y
                  · exact hd i y
                  · rw [show i = j by omega]; exact q)
                have ez : mkZ τ g (j + 1) = mkZ τ g j + tA τ 113 (v : Int) := by
                  show mkZ τ g j + tA τ 113 (g j) = _
                  rw [ev]
                rw [← hu2] at this ⊢
                rw [e2.1, e2.2.1, e2.2.2, e3, d3, d4, r1.2.2.1, w32_s (a := (j : Int) + 1) (by omega) (by omega), w32_s (by omega) (by omega)]
                rw [ez] at this
                refine ⟨⟨by decide, by omega, by omega⟩, ?_, fa (fa this)⟩
                have t5 := hr.t5
                have : tg u (vr w p v) = 26 ∨ tg u (vr w p v) = 27 ∨ tg u (vr w p v) = 28 ∨ tg u (vr w p v) = 29 ∨ tg u (vr w p v) = 30 := by omega
                rcases this with h | h | h | h | h <;> rw [h] <;> decide
            · rw [ofI_0 (fun y => q (eiff.mp y))]
              exact br1 rfl (bC_X0_make_124 (call := wpC p (d + 3)) (hb (bad j (by omega) q) u mm))
        exact key m 0 (by omega) (fun i hi => by omega)
    · exact br1 (Or.inr (fun q => y (e40.symm.trans q))) (bC_X0_make_28 (call := wpC p (d + 3)) (hb (fun k2 m2 g2 => y (by
        have e1 : k2 = k := by have := g2.1; omega
        subst e1
        exact g2.2.2.1)) w M0))
  · rw [if_neg (by omega)]
    refine ⟨fun q => absurd rfl q, ?_⟩
    exact br1 (Or.inl rfl) (bC_X0_make_28 (call := wpC p (d + 3)) (hb (fun k2 m2 g2 => z (by
      have e1 := g2.1
      have e2 := g2.2.1
      unfold nK at e2
      omega)) w M0))
end ZMake2
