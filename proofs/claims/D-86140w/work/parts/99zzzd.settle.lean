/-! settle: the component's half of judging a text -/
section ZSettle
variable {p b e d : Nat} {w : CW} {τ : TW}
noncomputable def chk (τ : TW) (f i : Nat) : Int × Int := if tA τ 54 (16 * f + i : Nat) = 2 then jc τ (16 * f + i) else (0, 0)
def rk (τ : TW) (f : Nat) : Nat := (tA τ 45 f).toNat
noncomputable def all1 (τ : TW) (n : Nat) : Int × Int := ff (fun f => ff (chk τ f) (rk τ f)) n
def sumR (τ : TW) (f : Nat) : Nat → Int
  | 0 => 0
  | n + 1 => sumR τ f n + tA τ 49 (16 * f + n : Nat)
def rchk (τ : TW) (f i : Nat) : Int × Int := if 40 < sumR τ f (i + 1) then (9, tA τ 48 (16 * f + i : Nat)) else (0, 0)
def all2 (τ : TW) (n : Nat) : Int × Int := ff (fun f => ff (rchk τ f) (rk τ f)) n
/-- the first that is wrong of a text that is read -/
noncomputable def jall (τ : TW) : Int × Int := if (all1 τ (nF τ)).1 = 0 then all2 τ (nF τ) else all1 τ (nF τ)
def cS (τ : TW) (f : Nat) : Nat → Int
  | 0 => 0
  | n + 1 => cS τ f n + min 41 (tA τ 49 (16 * f + n : Nat))
theorem cS_sum {f : Nat} : ∀ n, (∀ i, i < n → 1 ≤ tA τ 49 (16 * f + i : Nat)) → 0 ≤ cS τ f n ∧ cS τ f n ≤ 41 * n ∧ (cS τ f n = sumR τ f n ∨ (41 ≤ cS τ f n ∧ 41 ≤ sumR τ f n)) := by
  intro n
  induction n with
  | zero => intro _; exact ⟨Int.le_refl 0, Int.le_refl 0, Or.inl rfl⟩
  | succ n ih =>
    intro h
    have := ih (fun i hi => h i (by omega))
    have h1 := h n (by omega)
    unfold cS sumR
    omega
/-- the i-th rule's object of the function f -/
def rl (w : CW) (p f i : Nat) : Nat := aR w (fR w 47 (fnr w p f)) i
/-- a function's object and its rules -/
def GL (p : Nat) (w : CW) (τ : TW) (f : Nat) : Prop := tg w (fnr w p f) = 4 ∧ fI w 48 (fnr w p f) = rk τ f ∧ tA τ 45 f = rk τ f ∧ rk τ f ≤ 16 ∧ tg w (fR w 47 (fnr w p f)) = 117 ∧ ln w (fR w 47 (fnr w p f)) = 16 ∧ ∀ i, i < rk τ f → ∃ lo hi, RuR p w τ f i (rl w p f i) lo hi
theorem FN.gl (h : FN p w τ) {f : Nat} (hf : f < nF τ) : GL p w τ f := by
  obtain ⟨lo, hi, m, k, h1, h2, h3, h4, -⟩ := h.fl hf
  obtain ⟨⟨a1, a2, a3, a4, a5⟩, -, ⟨c1, c2, c3⟩, -⟩ := h1
  obtain ⟨d1, d2, d3, s, -, d4⟩ := h4
  have er : rk τ f = k := by unfold rk; rw [d1]; rfl
  unfold GL rl
  rw [er, c1]
  exact ⟨a1, d2, d1, d3, c2, c3, fun i hi => ⟨_, _, (d4 i hi).2⟩⟩
theorem rur_rows {f i x lo hi : Nat} (h : RuR p w τ f i x lo hi) : 1 ≤ tA τ 49 (16 * f + i : Nat) ∧ tA τ 49 (16 * f + i : Nat) ≤ 1000 := by
  obtain ⟨-, kn, -, ⟨m, N, c, Di, ⟨c1, c2, c3, c4, c5, c6⟩, ⟨d1, d2, d3, d4, d5⟩, e1, e2, e3⟩, g1, g2⟩ := h
  rw [e2]
  exact prF_rg m (fun j hj => (PRel.rows _ _ _ _ _ (d5 j hj)).1)
theorem rur_ways (hK : KR p w τ) {f i x lo hi : Nat} (h : RuR p w τ f i x lo hi) {Q : ZRes → CW → Prop} (hQ : Q (.inl (some (ai (min 41 (tA τ 49 (16 * f + i : Nat)))))) w) : wpC p (d + 22) 43 [ar (fR w 58 x)] w Q := by
  have hk4 : ∀ k, k < nK τ → tA τ 14 k ≤ 4 := fun k hk => (hK.2.2.2.2.1 k hk).2.2.2.2.2.2.2.1
  obtain ⟨-, kn, -, ⟨m, N, c, Di, ⟨c1, c2, c3, c4, c5, c6⟩, ⟨d1, d2, d3, d4, d5⟩, e1, e2, e3⟩, g1, g2⟩ := h
  refine sC_product (τ := τ) (c := c) (m := m) ⟨c4.1, c4.2.1⟩ (by omega) (fun j hj => (PRel.rows _ _ _ _ _ (d5 j hj)).1) (fun j hj e he => PRel.way (d := d) hk4 _ _ _ _ _ (d5 j hj) e (by omega)) ?_
  rw [← e2]
  exact hQ
theorem sC_count (hK : KR p w τ) {f n : Nat} (hG : GL p w τ f) (hn : n ≤ rk τ f) {Q : ZRes → CW → Prop} (hQ : Q (.inl (some (ai (cS τ f n)))) w) : wpC p (d + 23) 85 [ar (fnr w p f), ai n] w Q := by
  obtain ⟨a1, a2, a3, a4, a5, a6, a7⟩ := hG
  refine wC_X4_count (Nat.zero_le _) (bC_X4_count_0 (bC_X4_count_4 ?_))
  intro I hI
  have key : ∀ k j : Nat, j + k = n → I (cS τ f j) (j : Int) w := by
    intro k
    induction k with
    | zero =>
      intro j hj
      have e : j = n := by omega
      rw [e]
      exact hI _ _ _ (br1 (by omega) (bC_X4_count_30 hQ))
    | succ k ih =>
      intro j hj
      obtain ⟨_, _, hr⟩ := a7 j (by omega)
      have ht : tg w (aR w (fR w 47 (fnr w p f)) j) = 5 := hr.1.1
      have := ih (j + 1) (by omega)
      have c := cS_sum (τ := τ) (f := f) j (fun i hi => (rur_rows (a7 i (by omega)).choose_spec.choose_spec).1)
      have rr := rur_rows hr
      refine hI _ _ _ (br0 (by omega) ⟨by rw [a1]; decide, ⟨by rw [a5]; decide, by omega, by rw [a6]; omega⟩, by rw [ht]; decide, rur_ways hK hr (fa (fa ?_))⟩)
      rw [w32_s (by omega) (by omega), w32_s (by omega) (by omega)]
      exact this
  exact key n 0 (by omega)
/-- a rule that calls has what it calls -/
def OKR (w : CW) (τ : TW) (p : Nat) (h : Nat → Nat) (f i : Nat) : Prop := tA τ 54 (16 * f + i : Nat) = 2 → ∃ g : Nat, fnB τ (tA τ 56 (16 * f + i : Nat)) = g ∧ g < nF τ ∧ h (rl w p f i) = fnr w p g
def DN (w : CW) (τ : TW) (p : Nat) (h : Nat → Nat) (f i : Nat) : Prop := (∀ f' i', f' < f → i' < rk τ f' → OKR w τ p h f' i') ∧ ∀ i', i' < i → OKR w τ p h f i'
/-- only rules' objects are written -/
def HFr (w : CW) (h : Nat → Nat) : Prop := ∀ y, tg w y ≠ 5 → h y = fR w 66 y
theorem HFr.set {h : Nat → Nat} (H : HFr w h) {x r : Nat} (hx : tg w x = 5) : HFr w (fun y => if y = x then r else h y) := fun y hy => by
  have : y ≠ x := fun z => hy (by rw [z]; exact hx)
  show (if y = x then r else h y) = _
  rw [if_neg this]
  exact H y hy
/-- what the rules before are given -/
noncomputable def hsI (w : CW) (τ : TW) (p f : Nat) (h : Nat → Nat) : Nat → Nat → Nat
  | 0 => h
  | i + 1 => if tA τ 54 (16 * f + i : Nat) = 2 then (fun y => if y = rl w p f i then fnr w p (fnB τ (tA τ 56 (16 * f + i : Nat))).toNat else hsI w τ p f h i y) else hsI w τ p f h i
noncomputable def hsF (w : CW) (τ : TW) (p : Nat) : Nat → Nat → Nat
  | 0 => fR w 66
  | f + 1 => hsI w τ p f (hsF w τ p f) (rk τ f)
def HX (w : CW) (τ : TW) (p : Nat) (h : Nat → Nat) (f i : Nat) : Prop := HFr w h ∧ h = hsI w τ p f (hsF w τ p f) i
theorem HX.set {h : Nat → Nat} {f i g : Nat} (H : HX w τ p h f i) (hx : tg w (rl w p f i) = 5) (h2 : tA τ 54 (16 * f + i : Nat) = 2) (hg : fnB τ (tA τ 56 (16 * f + i : Nat)) = g) : HX w τ p (fun y => if y = rl w p f i then fnr w p g else h y) f (i + 1) := by
  refine ⟨H.1.set hx, ?_⟩
  show _ = (if tA τ 54 (16 * f + i : Nat) = 2 then _ else _)
  rw [if_pos h2, hg, H.2]
  rfl
theorem HX.skip {h : Nat → Nat} {f i : Nat} (H : HX w τ p h f i) (h2 : tA τ 54 (16 * f + i : Nat) ≠ 2) : HX w τ p h f (i + 1) := by
  refine ⟨H.1, ?_⟩
  show _ = (if tA τ 54 (16 * f + i : Nat) = 2 then _ else _)
  rw [if_neg h2]
  exact H.2
theorem okr_set (hN : FN p w τ) (hK : KR p w τ) {h : Nat → Nat} {f i f' i' g : Nat} (hf : f < nF τ) (hi : i < rk τ f) (hf' : f' < nF τ) (hi' : i' < rk τ f') (h2 : tA τ 54 (16 * f + i : Nat) = 2) (hg : fnB τ (tA τ 56 (16 * f + i : Nat)) = g) (hgn : g < nF τ) (ok : OKR w τ p h f' i') : OKR w τ p (fun y => if y = rl w p f i then fnr w p g else h y) f' i' := by
  intro h2'
  obtain ⟨g', k1, k2, k3⟩ := ok h2'
  have s := (hN.scf hK hf ((hN.gl hf).2.2.2.2.2.2 i hi).choose_spec.choose_spec h2).1.1.2.1
  have s' := (hN.scf hK hf' ((hN.gl hf').2.2.2.2.2.2 i' hi').choose_spec.choose_spec h2').1.1.2.1
  by_cases z : rl w p f' i' = rl w p f i
  · rw [z] at s'
    refine ⟨g, by rw [← s', s]; exact hg, hgn, if_pos z⟩
  · exact ⟨g', k1, k2, (if_neg z).trans k3⟩
theorem okr_new {h : Nat → Nat} {f i g : Nat} (hg : fnB τ (tA τ 56 (16 * f + i : Nat)) = g) (hgn : g < nF τ) : OKR w τ p (fun y => if y = rl w p f i then fnr w p g else h y) f i := fun _ => ⟨g, hg, hgn, if_pos rfl⟩
theorem settle_in (hN : FN p w τ) (hK : KR p w τ) (W : WF p w) (hm : cz w + 1 ≤ mz w ∧ cu w + 8 ≤ mu w) {f : Nat} (hf : f < nF τ) {Q : CW → Prop} {X : Nat → CW → Prop} {I2 : Int → CW → Prop}
    (hQ : (ff (chk τ f) (rk τ f)).1 = 0 → ∀ h, HX w τ p h f (rk τ f) → DN w τ p h f (rk τ f) → pC_X0_settle_55 p (wpC p (d + 5)) Q X I2 f (w66 w h))
    (hX : (ff (chk τ f) (rk τ f)).1 ≠ 0 → ∀ h, HFr w h → X (cz w + 1) (wrW (w66 w h) (ff (chk τ f) (rk τ f)).1 (ff (chk τ f) (rk τ f)).2)) {h : Nat → Nat} (hH : HX w τ p h f 0) (h0 : DN w τ p h f 0) : pC_X0_settle_19 p (wpC p (d + 5)) Q X I2 f (fnr w p f) 0 (w66 w h) := by
  obtain ⟨a1, a2, a3, a4, a5, a6, a7⟩ := hN.gl hf
  refine bC_X0_settle_19 ?_
  intro I hI
  have key : ∀ k j : Nat, j + k = rk τ f → (ff (chk τ f) j).1 = 0 → ∀ h, HX w τ p h f j → DN w τ p h f j → I (j : Int) (w66 w h) := by
    intro k
    induction k with
    | zero =>
      intro j hj hz h hH hd
      have e : j = rk τ f := by omega
      rw [e] at hz hd hH ⊢
      refine hI _ _ ⟨?_, br1 ?_ (hQ hz h hH hd)⟩
      · show hF 48 (tg w (fnr w p f)) = true
        rw [a1]; decide
      · show fI w 48 (fnr w p f) ≤ _
        omega
    | succ k ih =>
      intro j hj hz h hH hd
      have hj' : j < rk τ f := by omega
      obtain ⟨_, _, hr⟩ := a7 j hj'
      have t5 : tg w (rl w p f j) = 5 := hr.1.1
      have next : ∀ h', HX w τ p h' f (j + 1) → DN w τ p h' f (j + 1) → (chk τ f j).1 = 0 → pC_X0_settle_49 p (wpC p (d + 5)) Q X I2 I f (fnr w p f) j (w66 w h') := fun h' hH' hd' hc => by
        refine bC_X0_settle_49 (fa ?_)
        rw [w32_s (by omega) (by omega)]
        have := ih (j + 1) (by omega) (by rw [ff_go hz]; exact hc) h' hH' hd'
        exact this
      refine hI _ _ ⟨?_, br0 ?_ ⟨?_, ⟨?_, ?_, ?_⟩, fa ⟨?_, ?_⟩⟩⟩
      · show hF 48 (tg w (fnr w p f)) = true
        rw [a1]; decide
      · show ¬ fI w 48 (fnr w p f) ≤ _
        omega
      · show hF 47 (tg w (fnr w p f)) = true
        rw [a1]; decide
      · show 111 ≤ tg w (fR w 47 (fnr w p f)) ∧ tg w (fR w 47 (fnr w p f)) ≤ 119
        rw [a5]; decide
      · omega
      · show (j : Int) < (ln w (fR w 47 (fnr w p f)) : Nat)
        rw [a6]; omega
      · show hF 62 (tg w (rl w p f j)) = true
        rw [t5]; decide
      · show (fR w 62 (rl w p f j) = 0 → _) ∧ (¬ fR w 62 (rl w p f j) = 0 → _)
        by_cases h2 : tA τ 54 (16 * f + j : Nat) = 2
        · obtain ⟨s, sne⟩ := hN.scf hK hf hr h2
          have ec : chk τ f j = jc τ (16 * f + j) := if_pos h2
          refine br0 sne (sC_settleCall (τ := τ) (w := w66 w h) (R := 16 * f + j) (d := d) hN.nm hN.fcf s hK W hm (fun hc g hg hgn => ?_) (fun hc => ?_))
          · show pC_X0_settle_49 p (wpC p (d + 5)) Q X I2 I f (fnr w p f) j (pR (w66 w h) 66 (rl w p f j) (fnr w p g))
            rw [w66_pR]
            refine next _ (hH.set t5 h2 hg) ⟨fun f' i' q1 q2 => okr_set hN hK hf hj' (by omega) q2 h2 hg hgn (hd.1 f' i' q1 q2), fun i' q => ?_⟩ (by rw [ec]; exact hc)
            rcases Nat.lt_or_ge i' j with y | y
            · exact okr_set hN hK hf hj' hf (by omega) h2 hg hgn (hd.2 i' y)
            · rw [show i' = j by omega]
              exact okr_new hg hgn
          · have e := ff_stop hz (by rw [ec]; exact hc) hj'
            rw [ec] at e
            rw [e] at hX
            exact hX hc h hH.1
        · have e0 : fR w 62 (rl w p f j) = 0 := by
            rcases hr.2.choose_spec.2.2.2 with y | y | y
            · exact y.2.1
            · exact y.2.1
            · exact absurd y.1 h2
          exact br1 e0 (next h (hH.skip h2) ⟨hd.1, fun i' q => by
            rcases Nat.lt_or_ge i' j with y | y
            · exact hd.2 i' y
            · rw [show i' = j by omega]
              exact fun z => absurd z h2⟩ (by unfold chk; rw [if_neg h2]))
  exact key (rk τ f) 0 (by omega) rfl h hH h0
theorem settle_in2 (hN : FN p w τ) (hK : KR p w τ) (W : WF p w) (hm : cz w + 1 ≤ mz w ∧ cu w + 8 ≤ mu w) {f : Nat} (hf : f < nF τ) {Q : CW → Prop} {X : Nat → CW → Prop} {I2 : Int → CW → Prop} {h : Nat → Nat}
    (hQ : (ff (rchk τ f) (rk τ f)).1 = 0 → pC_X0_settle_126 p (wpC p (d + 23)) Q X I2 f (w66 w h))
    (hX : (ff (rchk τ f) (rk τ f)).1 ≠ 0 → X (cz w + 1) (wrW (w66 w h) (ff (rchk τ f) (rk τ f)).1 (ff (rchk τ f) (rk τ f)).2)) : pC_X0_settle_80 p (wpC p (d + 23)) Q X I2 f (fnr w p f) 0 (w66 w h) := by
  have hG := hN.gl hf
  obtain ⟨a1, a2, a3, a4, a5, a6, a7⟩ := hN.gl hf
  refine bC_X0_settle_80 ?_
  intro I hI
  have key : ∀ k j : Nat, j + k = rk τ f → (ff (rchk τ f) j).1 = 0 → I (j : Int) (w66 w h) := by
    intro k
    induction k with
    | zero =>
      intro j hj hz
      have e : j = rk τ f := by omega
      rw [e] at hz ⊢
      refine hI _ _ ⟨?_, br1 ?_ (hQ hz)⟩
      · show hF 48 (tg w (fnr w p f)) = true
        rw [a1]; decide
      · show fI w 48 (fnr w p f) ≤ _
        omega
    | succ k ih =>
      intro j hj hz
      have hj' : j < rk τ f := by omega
      obtain ⟨_, _, hr⟩ := a7 j hj'
      have t5 : tg w (rl w p f j) = 5 := hr.1.1
      refine hI _ _ ⟨?_, br0 ?_ ⟨?_, ?_⟩⟩
      · show hF 48 (tg w (fnr w p f)) = true
        rw [a1]; decide
      · show ¬ fI w 48 (fnr w p f) ≤ _
        omega
      · exact a1
      rw [w32_s (by omega) (by omega)]
      have hK' : KR p (w66 w h) τ := hK
      have hG' : GL p (w66 w h) τ f := by
        have := hN
        rw [← w66_fn (h := h)] at this
        exact this.gl hf
      refine sC_count (n := j + 1) (d := d) hK' hG' (by omega) (fa ⟨?_, ⟨?_, ?_, ?_⟩, ?_, ?_⟩)
      · show hF 47 (tg w (fnr w p f)) = true
        rw [a1]; decide
      · show 111 ≤ tg w (fR w 47 (fnr w p f)) ∧ tg w (fR w 47 (fnr w p f)) ≤ 119
        rw [a5]; decide
      · omega
      · show (j : Int) < (ln w (fR w 47 (fnr w p f)) : Nat)
        rw [a6]; omega
      · show hF 57 (tg w (rl w p f j)) = true
        rw [t5]; decide
      have ep : fI (w66 w h) 57 (aR (w66 w h) (fR (w66 w h) 47 (fnr w p f)) j) = tA τ 48 (16 * f + j : Nat) := hr.1.2.2.2
      rw [ep]
      have cs := cS_sum (τ := τ) (f := f) (j + 1) (fun i hi => (rur_rows (a7 i (by omega)).choose_spec.choose_spec).1)
      by_cases z : 40 < sumR τ f (j + 1)
      · rw [if_neg (by omega)]
        have er : rchk τ f j = (9, tA τ 48 (16 * f + j : Nat)) := if_pos z
        have e := ff_stop hz (by rw [er]; exact (show (9 : Int) ≠ 0 by decide)) hj'
        rw [er] at e
        rw [e] at hX
        exact sC_needNo rfl hm (hX (show (9 : Int) ≠ 0 by decide))
      · rw [if_pos (by omega)]
        have er : rchk τ f j = (0, 0) := if_neg z
        refine sC_needOk (by decide) (fa ?_)
        have := ih (j + 1) (by omega) (by rw [ff_go hz, er])
        exact this
  exact key (rk τ f) 0 (by omega) rfl
theorem sC_settle (hN : FN p w τ) (hK : KR p w τ) (W : WF p w) (hm : cz w + 1 ≤ mz w ∧ cu w + 8 ≤ mu w) {Q : ZRes → CW → Prop}
    (hQ : (jall τ).1 = 0 → ∀ h, HX w τ p h (nF τ) 0 → (∀ f i, f < nF τ → i < rk τ f → OKR w τ p h f i) → Q (.inl none) (w66 w h))
    (hX : (jall τ).1 ≠ 0 → ∀ h, HFr w h → Q (.inr (cz w + 1)) (wrW (w66 w h) (jall τ).1 (jall τ).2)) : wpC p (d + 24) 41 [ar p] w Q := by
  have n12 : nF τ ≤ 12 := hN.2.2.2.1
  have n6 : fI w 6 p = nF τ := hN.2.1
  obtain ⟨A1, A2, A3, A4⟩ := hN.1
  refine wC_X0_settle (Nat.zero_le _) (bC_X0_settle_0 (bC_X0_settle_2 ?_))
  intro I hI
  -- the second loop
  have two : (all1 τ (nF τ)).1 = 0 → ∀ h, HX w τ p h (nF τ) 0 → (∀ f i, f < nF τ → i < rk τ f → OKR w τ p h f i) → pC_X0_settle_61 p (wpC p (d + 23)) (fun w => Q (.inl none) w) (fun x w => Q (.inr x) w) (w66 w h) := by
    intro z1 h hH hd
    have ej : jall τ = all2 τ (nF τ) := if_pos z1
    rw [ej] at hQ hX
    refine bC_X0_settle_61 (bC_X0_settle_63 ?_)
    intro J hJ
    have key : ∀ k f : Nat, f + k = nF τ → (all2 τ f).1 = 0 → J (f : Int) (w66 w h) := by
      intro k
      induction k with
      | zero =>
        intro f hf hz
        have e : f = nF τ := by omega
        rw [e] at hz ⊢
        refine hJ _ _ (br1 ?_ (bC_X0_settle_132 (hQ hz h hH hd)))
        show fI w 6 p ≤ _
        omega
      | succ k ih =>
        intro f hf hz
        have hf' : f < nF τ := by omega
        refine hJ _ _ (br0 ?_ ⟨⟨?_, ?_, ?_⟩, fa ?_⟩)
        · show ¬ fI w 6 p ≤ _
          omega
        · show 111 ≤ tg w (fR w 5 p) ∧ tg w (fR w 5 p) ≤ 119
          rw [A1]; decide
        · omega
        · show (f : Int) < (ln w (fR w 5 p) : Nat)
          rw [A2]; omega
        refine settle_in2 hN hK W hm hf' (fun z => ?_) (fun z => ?_)
        · refine bC_X0_settle_126 (fa ?_)
          rw [w32_s (by omega) (by omega)]
          have := ih (f + 1) (by omega) (by unfold all2; rw [ff_go hz]; exact z)
          exact this
        · have e := ff_stop (c := fun f => ff (rchk τ f) (rk τ f)) hz z hf'
          have e : all2 τ (nF τ) = ff (rchk τ f) (rk τ f) := e
          rw [e] at hX
          exact hX z h hH.1
    exact key (nF τ) 0 (by omega) rfl
  have key : ∀ k f : Nat, f + k = nF τ → (all1 τ f).1 = 0 → ∀ h, HX w τ p h f 0 → DN w τ p h f 0 → I (f : Int) (w66 w h) := by
    intro k
    induction k with
    | zero =>
      intro f hf hz h hH hd
      have e : f = nF τ := by omega
      rw [e] at hz hd hH ⊢
      refine hI _ _ (br1 ?_ (two hz h hH (fun f i q1 q2 => hd.1 f i q1 q2)))
      show fI w 6 p ≤ _
      omega
    | succ k ih =>
      intro f hf hz h hH hd
      have hf' : f < nF τ := by omega
      refine hI _ _ (br0 ?_ ⟨⟨?_, ?_, ?_⟩, fa ?_⟩)
      · show ¬ fI w 6 p ≤ _
        omega
      · show 111 ≤ tg w (fR w 5 p) ∧ tg w (fR w 5 p) ≤ 119
        rw [A1]; decide
      · omega
      · show (f : Int) < (ln w (fR w 5 p) : Nat)
        rw [A2]; omega
      refine settle_in (d := d + 18) hN hK W hm hf' (fun z h' hH' hd' => ?_) (fun z h' hH' => ?_) hH hd
      · refine bC_X0_settle_55 (fa ?_)
        rw [w32_s (by omega) (by omega)]
        refine ih (f + 1) (by omega) (by unfold all1; rw [ff_go hz]; exact z) h' hH' ⟨fun f' i' q1 q2 => ?_, fun i' q => by omega⟩
        rcases Nat.lt_or_ge f' f with y | y
        · exact hd'.1 f' i' y q2
        · have : f' = f := by omega
          subst this
          exact hd'.2 i' q2
      · have e := ff_stop (c := fun f => ff (chk τ f) (rk τ f)) hz z hf'
        have e : all1 τ (nF τ) = ff (chk τ f) (rk τ f) := e
        have ej : jall τ = all1 τ (nF τ) := if_neg (by rw [e]; exact z)
        rw [ej, e] at hX
        exact hX z h' hH'
  have := key (nF τ) 0 (by omega) rfl (fR w 66) ⟨fun _ _ => rfl, rfl⟩ ⟨fun f' i' q => by omega, fun i' q => by omega⟩
  rw [w66_id] at this
  exact this
end ZSettle
