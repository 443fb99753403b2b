/-! read and judged: both -/
section ZRd4
variable {p b e d : Nat} {w : CW} {τ : TW}
abbrev SRC3 : List Nat := 8 :: SRC2
abbrev SRT3 : List Nat := [1, 9, 46] ++ SRT2
theorem Lit.vf {w' : CW} (h : Lit p w) (W : WF p w) (V : VF p w w') (a0 : p < fR w 0 p) (a5 : p < fR w 5 p) (a15 : p < fR w 15 p) (a16 : p < fR w 16 p) : Lit p w' := by
  have hp := W.pz
  intro k s hs
  obtain ⟨h1, h2, h3⟩ := h k s hs
  have e : sr w' k = sr w k := congrArg (fun x => x.2.2.2 k) V.1.2.2
  have t1 : tg w (sr w k) = 32 ∨ tg w (sr w k) = 34 := h1.1
  have t2 : tg w (fR w 123 (sr w k)) = 101 ∨ tg w (fR w 123 (sr w k)) = 106 := h1.2.2.1
  have o1 := V.2.2 (sr w k) (by omega) (by omega) (by omega) (by omega) (by omega) (by omega) (by omega)
  have o2 := V.2.2 (fR w 123 (sr w k)) (by omega) (by omega) (by omega) (by omega) (by omega) (by omega) (by omega)
  rw [e]
  exact ⟨h1.st o1 o2, h2, by rw [ob.efR o1]; exact h3⟩
/-- the arrays of p stay what they are -/
theorem NT.arr {w' : CW} (W : WF p w) (hK : KA p w) (hF : FA p w) (hNA : NA p w) (V : VF p w w') (P : PF SRC3 p w w') : KA p w' ∧ FA p w' ∧ NA p w' := by
  have tg' : ∀ r, tg w r ≠ 0 → tg w' r = tg w r ∧ ln w' r = ln w r := fun r hr => V.2.1 r (W.le hr)
  obtain ⟨a1, a2, a3, a4, a5⟩ := hK
  obtain ⟨f1, f2, f3, f4⟩ := hF
  obtain ⟨⟨k1, k2, k3, k4⟩, k5, k6, k7, k8⟩ := hNA
  have x0 := tg' _ (show tg w (fR w 0 p) ≠ 0 by rw [show tg w (fR w 0 p) = 112 from a1]; decide)
  have x5 := tg' _ (show tg w (fR w 5 p) ≠ 0 by rw [f1]; decide)
  have x15 := tg' _ (show tg w (fR w 15 p) ≠ 0 by rw [show tg w (fR w 15 p) = 103 from k1]; decide)
  have x16 := tg' _ (show tg w (fR w 16 p) ≠ 0 by rw [show tg w (fR w 16 p) = 102 from k5]; decide)
  refine ⟨?_, ?_, ?_⟩
  · unfold KA
    rw [(P 0 (by decide)).2]
    exact ⟨x0.1.trans a1, x0.2.trans a2, a3, a4, by have := V.1.1; omega⟩
  · unfold FA
    rw [(P 5 (by decide)).2]
    exact ⟨x5.1.trans f1, x5.2.trans f2, f3, f4⟩
  · unfold NA
    rw [(P 15 (by decide)).2, (P 16 (by decide)).2]
    exact ⟨⟨x15.1.trans k1, x15.2.trans k2, k3, k4⟩, x16.1.trans k5, x16.2.trans k6, k7, k8⟩
theorem flW_pf (W : WF p w) (how : Int) : PF [1, 6, 8, 21] p w (flW w p how) := by
  intro f hf
  have hf : f ≠ 1 ∧ f ≠ 6 ∧ f ≠ 8 ∧ f ≠ 21 := by simpa using hf
  refine ⟨?_, rfl⟩
  show (if f = 8 ∧ p = p then (0 : Int) else if f = 6 ∧ p = p then 0 else if f = 1 ∧ p = p then 0 else if f = 21 ∧ p = p then how else fI w f p) = fI w f p
  rw [if_neg (by omega), if_neg (by omega), if_neg (by omega), if_neg (by omega)]
theorem flW_vf {w1 : CW} {how : Int} (V : VF p w w1) (p0 : fR w1 0 p = fR w 0 p) (p5 : fR w1 5 p = fR w 5 p) : VF p w (flW w1 p how) := by
  refine V.step ⟨Nat.le_refl _, Nat.le_refl _, rfl⟩ (fun r _ => ⟨rfl, rfl⟩) (fun r h1 h2 h3 h4 h5 h6 h7 => ?_)
  unfold ob
  refine Prod.ext rfl (Prod.ext rfl (Prod.ext (funext fun f => ?_) (Prod.ext rfl (Prod.ext rfl (funext fun i => ?_)))))
  · show (if f = 8 ∧ r = p then (0 : Int) else if f = 6 ∧ r = p then 0 else if f = 1 ∧ r = p then 0 else if f = 21 ∧ r = p then how else fI w1 f r) = fI w1 f r
    rw [if_neg (by omega), if_neg (by omega), if_neg (by omega), if_neg (by omega)]
  · show (if r = fR w1 5 p ∧ 0 ≤ i ∧ i < _ then 0 else if r = fR w1 0 p ∧ 0 ≤ i ∧ i < _ then 0 else aR w1 r i) = aR w1 r i
    rw [if_neg (by rw [p5]; omega), if_neg (by rw [p0]; omega)]
theorem nt_wrong {w1 : CW} {τ1 : TW} {how : Int} (h : NT p w τ) (V : VF p w w1) (P : PF SRC3 p w w1) (W1 : WF p w1) (F : FT SRT3 τ τ1) (h7 : tI τ1 7 = how) : (NT p (flW w1 p how) (flT τ1) ∧ fI (flW w1 p how) 21 p = tI (flT τ1) 7) ∧ VF p w (flW w1 p how) ∧ PF SRC3 p w (flW w1 p how) ∧ FT ([41] ++ SRT3) τ (flT τ1) ∧ (tI (flT τ1) 10 = 0 ∧ tI (flT τ1) 41 = 0) := by
  obtain ⟨⟨W, L, T0, R⟩, ⟨h22, h9⟩, ⟨hKA, h1⟩, ⟨hFA, h6⟩, hNA⟩ := h
  have V2 : VF p w (flW w1 p how) := flW_vf V (P 0 (by decide)).2 (P 5 (by decide)).2
  have P2 : PF SRC3 p w (flW w1 p how) := P.trans ((flW_pf W1 how).mono (by decide))
  obtain ⟨q1, q2, q3⟩ := NT.arr W hKA hFA hNA V2 P2
  have W2 : WF p (flW w1 p how) := by
    have a : WF p (wA (pI w1 21 p how) (clA (pI w1 21 p how) p (fI (pI w1 21 p how) 1 p) (fI (pI w1 21 p how) 6 p))) := W1.spI 21 p how
    exact ((a.set 1 0 (fun _ => by decide) (fun _ => by decide)).set 6 0 (fun _ => by decide) (fun _ => by decide)).spI 8 p 0
  have L2 := L.vf W V2 hKA.2.2.1 hFA.2.2.1 hNA.1.2.2.1 hNA.2.2.2.1
  have t7 := V2.2.1 (fR w 7 p) (W.le (by rw [show tg w (fR w 7 p) = 101 from R.1]; decide))
  have p7 : fR (flW w1 p how) 7 p = fR w 7 p := (P2 7 (by decide)).2
  refine ⟨⟨⟨⟨W2, L2, ⟨Int.le_refl 0, (by decide : (0 : Int) ≤ 1600), fun k hk => ?_⟩, ⟨?_, ?_, if_pos ⟨rfl, rfl⟩, fun k hk => ?_⟩⟩, ⟨((P2 22 (by decide)).1).trans h22, rfl⟩, ⟨q1, ?_⟩, ⟨q2, ?_⟩, q3⟩, ?_⟩, V2, P2, ?_, rfl, rfl⟩
  · have : (k : Int) < 0 := hk
    omega
  · show tg _ (fR (flW w1 p how) 7 p) = 101
    rw [p7, t7.1]; exact R.1
  · show ln _ (fR (flW w1 p how) 7 p) = 1600
    rw [p7, t7.2]; exact R.2.1
  · have : (k : Int) < 0 := hk
    omega
  · show (if 1 = 8 ∧ p = p then (0 : Int) else if 1 = 6 ∧ p = p then 0 else if 1 = 1 ∧ p = p then 0 else if 1 = 21 ∧ p = p then how else fI w1 1 p) = 0
    rw [if_neg (by omega), if_neg (by omega), if_pos ⟨rfl, rfl⟩]
  · show (if 6 = 8 ∧ p = p then (0 : Int) else if 6 = 6 ∧ p = p then 0 else if 6 = 1 ∧ p = p then 0 else if 6 = 21 ∧ p = p then how else fI w1 6 p) = 0
    rw [if_neg (by omega), if_pos ⟨rfl, rfl⟩]
  · show (if 21 = 8 ∧ p = p then (0 : Int) else if 21 = 6 ∧ p = p then 0 else if 21 = 1 ∧ p = p then 0 else if 21 = 21 ∧ p = p then how else fI w1 21 p) = tI τ1 7
    rw [if_neg (by omega), if_neg (by omega), if_neg (by omega), if_pos ⟨rfl, rfl⟩]
    exact h7.symm
  · unfold flT
    exact ((((F.mono (by decide)).ssI (by decide)).ssI (by decide)).ssI (by decide)).ssI (by decide)
theorem jall_fn (hj : (jall τ).1 = 0) {f i : Nat} (hf : f < nF τ) (hi : i < rk τ f) (h2 : tA τ 54 (16 * f + i : Nat) = 2) : (jc τ (16 * f + i)).1 = 0 ∧ ∃ g : Nat, fnB τ (tA τ 56 (16 * f + i : Nat)) = g ∧ g < nF τ := by
  have h1 : (all1 τ (nF τ)).1 = 0 := by
    unfold jall at hj
    split at hj
    · rename_i y; exact y
    · exact hj
  have hc := ff_zero _ (ff_zero _ h1 f hf) i hi
  have ec : chk τ f i = jc τ (16 * f + i) := if_pos h2
  rw [ec] at hc
  refine ⟨hc, ?_⟩
  rcases fnN_spec (tA τ 56 (16 * f + i : Nat)) (nF τ) (τ := τ) with ⟨z, -⟩ | ⟨g, hg, z, -⟩
  · exfalso
    rw [jc_4 (R := 16 * f + i) (τ := τ) z] at hc
    exact absurd hc (show (4 : Int) ≠ 0 by decide)
  · exact ⟨g, z, hg⟩
theorem hs_in (hN : FN p w τ) (hK : KR p w τ) (hj : (jall τ).1 = 0) {f : Nat} (hf : f < nF τ) (H : HFr w (hsF w τ p f)) (hD : DN w τ p (hsF w τ p f) f 0) : ∀ i, i ≤ rk τ f → HFr w (hsI w τ p f (hsF w τ p f) i) ∧ DN w τ p (hsI w τ p f (hsF w τ p f) i) f i := by
  intro i
  induction i with
  | zero => intro _; exact ⟨H, hD⟩
  | succ i ih =>
    intro hi
    obtain ⟨q1, q2⟩ := ih (by omega)
    have hi' : i < rk τ f := by omega
    have t5 : tg w (rl w p f i) = 5 := ((hN.gl hf).2.2.2.2.2.2 i hi').choose_spec.choose_spec.1.1
    by_cases h2 : tA τ 54 (16 * f + i : Nat) = 2
    · obtain ⟨-, g, hg, hgn⟩ := jall_fn hj hf hi' h2
      have e : hsI w τ p f (hsF w τ p f) (i + 1) = fun y => if y = rl w p f i then fnr w p g else hsI w τ p f (hsF w τ p f) i y := by
        show (if tA τ 54 (16 * f + i : Nat) = 2 then _ else _) = _
        rw [if_pos h2, hg]
        rfl
      rw [e]
      refine ⟨q1.set t5, fun f' i' y1 y2 => okr_set hN hK hf hi' (by omega) y2 h2 hg hgn (q2.1 f' i' y1 y2), fun i' q => ?_⟩
      rcases Nat.lt_or_ge i' i with y | y
      · exact okr_set hN hK hf hi' hf (by omega) h2 hg hgn (q2.2 i' y)
      · rw [show i' = i by omega]
        exact okr_new hg hgn
    · have e : hsI w τ p f (hsF w τ p f) (i + 1) = hsI w τ p f (hsF w τ p f) i := if_neg h2
      rw [e]
      refine ⟨q1, q2.1, fun i' q => ?_⟩
      rcases Nat.lt_or_ge i' i with y | y
      · exact q2.2 i' y
      · rw [show i' = i by omega]
        exact fun z => absurd z h2
theorem hs_ok (hN : FN p w τ) (hK : KR p w τ) (hj : (jall τ).1 = 0) : ∀ f, f ≤ nF τ → HFr w (hsF w τ p f) ∧ DN w τ p (hsF w τ p f) f 0 := by
  intro f
  induction f with
  | zero => intro _; exact ⟨fun _ _ => rfl, fun f' i' q => by omega, fun i' q => by omega⟩
  | succ f ih =>
    intro hf
    obtain ⟨q1, q2⟩ := ih (by omega)
    obtain ⟨y1, y2⟩ := hs_in hN hK hj (by omega) q1 q2 (rk τ f) (Nat.le_refl _)
    refine ⟨y1, fun f' i' z1 z2 => ?_, fun i' q => by omega⟩
    rcases Nat.lt_or_ge f' f with y | y
    · exact y2.1 f' i' y z2
    · have : f' = f := by omega
      subst this
      exact y2.2 i' z2
theorem bs_in (hN : FN p w τ) (hj : (jall τ).1 = 0) {f : Nat} (hf : f < nF τ) (H : BX τ (BsF τ f)) (hD : DB τ (BsF τ f) f 0) : ∀ i, i ≤ rk τ f → BX τ (BsI τ f (BsF τ f) i) ∧ DB τ (BsI τ f (BsF τ f) i) f i := by
  intro i
  have hr16 : ∀ f', f' ≤ f → rk τ f' ≤ 16 := fun f' q => (hN.gl (f := f') (by omega)).2.2.2.1
  induction i with
  | zero => intro _; exact ⟨H, hD⟩
  | succ i ih =>
    intro hi
    obtain ⟨q1, q2⟩ := ih (by omega)
    have hi' : i < rk τ f := by omega
    by_cases h2 : tA τ 54 (16 * f + i : Nat) = 2
    · obtain ⟨hc, -⟩ := jall_fn hj hf hi' h2
      have e : BsI τ f (BsF τ f) (i + 1) = uB τ (16 * f + i) (BsI τ f (BsF τ f) i) := if_pos h2
      rw [e]
      exact ⟨q1.up h2, q2.up hr16 hi' h2 hc⟩
    · have e : BsI τ f (BsF τ f) (i + 1) = BsI τ f (BsF τ f) i := if_neg h2
      rw [e]
      refine ⟨q1, q2.1, fun i' q => ?_, e.symm⟩
      rcases Nat.lt_or_ge i' i with y | y
      · exact q2.2.1 i' y
      · rw [show i' = i by omega]
        exact fun z => absurd z h2
theorem bs_ok (hN : FN p w τ) (hj : (jall τ).1 = 0) : ∀ f, f ≤ nF τ → BX τ (BsF τ f) ∧ DB τ (BsF τ f) f 0 := by
  intro f
  induction f with
  | zero => intro _; exact ⟨fun _ _ => rfl, fun f' i' q => by omega, fun i' q => by omega, rfl⟩
  | succ f ih =>
    intro hf
    obtain ⟨q1, q2⟩ := ih (by omega)
    obtain ⟨y1, y2⟩ := bs_in hN hj (by omega) q1 q2 (rk τ f) (Nat.le_refl _)
    refine ⟨y1, fun f' i' z1 z2 => ?_, fun i' q => by omega, rfl⟩
    rcases Nat.lt_or_ge f' f with y | y
    · exact y2.1 f' i' y z2
    · have : f' = f := by omega
      subst this
      exact y2.2.1 i' z2
theorem ff_nn {c : Nat → Int × Int} (h : ∀ k, 0 ≤ (c k).1) : ∀ n, 0 ≤ (ff c n).1 := by
  intro n
  induction n with
  | zero => exact Int.le_refl 0
  | succ n ih =>
    unfold ff
    split
    · exact h n
    · exact ih
theorem jk_nn (R g k : Nat) : 0 ≤ (jk τ R g k).1 := by
  by_cases h : fit τ (hdS τ R k) (tA τ 44 (3 * g + k : Nat))
  · rw [jk_1 h]; exact Int.le_refl 0
  · rw [jk_0 h]; exact (show (0 : Int) ≤ 5 by decide)
theorem jall_nn : 0 ≤ (jall τ).1 := by
  have h1 : 0 ≤ (all1 τ (nF τ)).1 := ff_nn (fun f => ff_nn (fun i => by
    unfold chk
    split
    · unfold jc
      split
      · exact (show (0 : Int) ≤ 4 by decide)
      · split
        · exact ff_nn (fun k => jk_nn _ _ k) _
        · exact (show (0 : Int) ≤ 6 by decide)
    · exact Int.le_refl 0) _) _
  have h2 : 0 ≤ (all2 τ (nF τ)).1 := ff_nn (fun f => ff_nn (fun i => by
    unfold rchk
    split
    · exact (show (0 : Int) ≤ 9 by decide)
    · exact Int.le_refl 0) _) _
  unfold jall
  split
  · exact h2
  · exact h1
/-- both have refused a text -/
def RFL (p : Nat) (w : CW) (τ : TW) (w' : CW) (τ' : TW) : Prop := (VF p w w' ∧ PF SRC3 p w w') ∧ (NT p w' τ' ∧ fI w' 21 p = tI τ' 7) ∧ zm w' ≤ zm w + 6000 * tI τ 1 + 2200 ∧ FT ([41] ++ SRT3) τ τ' ∧ tI τ' 10 = 0 ∧ tI τ' 41 = 0 ∧ tI τ' 1 = 0 ∧ tI τ' 11 = 0
theorem t4_ft (a b' : Int) (A B : Int → Int) : FT [7, 8, 46, 55] τ (t4 τ a b' A B) := by
  intro f hf
  have hf : f ≠ 7 ∧ f ≠ 8 ∧ f ≠ 46 ∧ f ≠ 55 := by simpa using hf
  refine ⟨?_, fun i => ?_⟩
  · show (if f = 7 then a else if f = 8 then b' else τ.1 f) = τ.1 f
    rw [if_neg hf.1, if_neg hf.2.1]
  · show (if f = 46 then A else if f = 55 then B else τ.2 f) i = τ.2 f i
    rw [if_neg hf.2.2.1, if_neg hf.2.2.2]
theorem w66_pf {h : Nat → Nat} (W : WF p w) (H : HFr w h) : PF [] p w (w66 w h) := fun f _ => ⟨rfl, by
  by_cases z : f = 66
  · rw [z]
    exact (w66_66 h p).trans (H p (by rw [W.2.1]; decide))
  · exact w66_fR h z p⟩
/-- a text is read and judged: it stands before its rows, or both have refused it -/
theorem rd_settled (h : NT p w τ) (hm : zm w + 6000 * tI τ 1 + 13000 ≤ mu w ∧ zm w + 6000 * tI τ 1 + 13000 ≤ 5 * mz w) :
    (∃ (w' : CW) (τ' : TW), (VF p w w' ∧ PF SRC3 p w w') ∧ (SET p w' τ' ∧ (np τ' : Int) ≤ tI τ 1 ∧ zm w' + 40000 * nF τ' ≤ zm w + 6000 * tI τ 1 + 100 ∧ FT SRT3 τ τ' ∧ tI τ' 1 = tI τ 1 ∧ tI τ' 7 = 0 ∧ tI τ' 11 = 0 ∧ fI w' 21 p = 0) ∧ (∀ Qf : Int → TW → Prop, pT_read_109 (wpT (e + 11)) Qf τ' → wpT (e + 12) 2 [] τ (zqI Qf zno)) ∧ ∀ Qf : Int → CW → Prop, pC_X0_read_84 p (wpC p (d + 41)) Qf 0 w' → wpC p (d + 42) 2 [ar p] w (zqI Qf zno)) ∨
    ∀ K : Int → Int → CW → TW → Prop, (∀ v w' τ', RFL p w τ w' τ' → K v v w' τ') → wpC p (d + 42) 2 [ar p] w (zqI (fun v w' => wpT (e + 12) 2 [] τ (zqI (fun v' τ' => K v v' w' τ') zno)) zno) := by
  obtain ⟨w1, τ1, v, ⟨fb, P, W1, F, t1, t11, e21⟩, runT, g⟩ := rd_text (d := d) (e := e) h hm
  have V := VF.of fb
  have P3 : PF SRC3 p w w1 := P.mono (by decide)
  have F3 : FT SRT3 τ τ1 := F.mono (by decide)
  obtain ⟨⟨W, L, T0, R⟩, ⟨h22, h9⟩, ⟨hKA, h1⟩, ⟨hFA, h6⟩, hNA⟩ := id h
  have em : mz w1 = mz w ∧ mu w1 = mu w := ⟨congrArg (fun x => x.2.1) fb.2.2.1, congrArg (fun x => x.2.2.1) fb.2.2.1⟩
  rcases g with ⟨⟨gv, g3⟩, hFS, hFN, hp, runC⟩ | ⟨how, pl, x, hz, wr, D, runC⟩
  · obtain ⟨rb, hK, hN, h16, hnp⟩ := id hFS
    have f7 : tI τ1 7 = 0 := rb.f0
    have rg := rb.rg
    have y2 : tI τ1 5 = tI τ1 5 := rfl
    have y3 : tI τ1 1 = tI τ1 1 := rfl
    have hzm : zm w1 ≤ pot w1 τ1 := by unfold pot; omega
    have hroom : cz w1 + 1 ≤ mz w1 ∧ cu w1 + 8 ≤ mu w1 := by
      rw [em.1, em.2]
      unfold zm at *
      omega
    -- both are judged
    have runT2 : ∀ Qf : Int → TW → Prop, (∀ A B, BX τ1 B → ((jall τ1).1 = 0 → DA τ1 A (nF τ1) ∧ B = BsF τ1 (nF τ1) ∧ ∀ f i, f < nF τ1 → i < rk τ1 f → OKB τ1 B f i) → pT_read_109 (wpT (e + 11)) Qf (tF τ1 (jall τ1) (tI τ1 8) A B)) → wpT (e + 12) 2 [] τ (zqI Qf zno) := by
      intro Qf hh
      refine runT (fun b u => b = true ∧ u = τ1) Qf ⟨gv, rfl⟩ ⟨fun u hu _ _ => ?_, fun u hu _ => absurd hu.1 (by decide)⟩
      obtain ⟨-, rfl⟩ := hu
      exact sT_judge (e := e + 8) hFN hK f7 (fun A B hB hC => hh A B hB hC)
    have runC2 : ∀ Qf : Int → CW → Prop, ((jall τ1).1 = 0 → ∀ h, HX w1 τ1 p h (nF τ1) 0 → pC_X0_read_84 p (wpC p (d + 41)) Qf 0 (w66 w1 h)) → ((jall τ1).1 ≠ 0 → ∀ h, HFr w1 h → RH p (d + 41) Qf (cz w1 + 1) (wrW (w66 w1 h) (jall τ1).1 (jall τ1).2)) → wpC p (d + 42) 2 [ar p] w (zqI Qf zno) := by
      intro Qf ha hb
      refine runC (fun _ u => u = w1) (RH p (d + 41) Qf) Qf rfl ⟨fun u hu => ?_, rfl⟩
      subst hu
      exact sC_settle (d := d + 17) hFN hK rb.1 hroom (fun hj h hx _ => ha hj h hx) hb
    by_cases hj : (jall τ1).1 = 0
    · left
      obtain ⟨H, hD⟩ := hs_ok hFN hK hj (nF τ1) (Nat.le_refl _)
      obtain ⟨hB, hDB⟩ := bs_ok hFN hj (nF τ1) (Nat.le_refl _)
      refine ⟨w66 w1 (hsF w1 τ1 p (nF τ1)), t4 τ1 0 (tI τ1 8) (AsF τ1 (nF τ1)) (BsF τ1 (nF τ1)), ⟨V.w66 H, P3.trans ((w66_pf rb.1 H).mono (by decide))⟩, ⟨SET.mk rb.1 rb.2.1 hK hN hFN hj (fun f i q1 q2 => hD.1 f i q1 q2) hB rfl (fun f i q1 q2 => hDB.1 f i q1 q2), ?_, ?_, F3.trans ((t4_ft _ _ _ _).mono (by decide)), t1, rfl, t11, e21⟩, fun Qf hQ => runT2 Qf (fun A B _ hC => ?_), fun Qf hQ => runC2 Qf (fun _ h hx => ?_) (fun z => absurd hj z)⟩
      · show (np τ1 : Int) ≤ tI τ 1
        omega
      · show zm w1 + 40000 * nF τ1 ≤ _
        omega
      · obtain ⟨a1, a2, -⟩ := hC hj
        rw [tF_0 hj, show A = AsF τ1 (nF τ1) from a1, a2]
        exact hQ
      · rw [hx.2]
        exact hQ
    · right
      intro K hKK
      have hnn := jall_nn (τ := τ1)
      refine runC2 _ (fun z => absurd z hj) (fun _ h2 H => ?_)
      have V2 : VF p w (wrW (w66 w1 h2) (jall τ1).1 (jall τ1).2) := (V.w66 H).fr (wrW_fr [p] _ _ _)
      have W2 : WF p (w66 w1 h2) := rb.1
      have P2 : PF SRC3 p w (wrW (w66 w1 h2) (jall τ1).1 (jall τ1).2) := (P3.trans ((w66_pf rb.1 H).mono (by decide))).trans ((wrW_st W2 [] SRC3 _ _).2.1)
      obtain ⟨q1, q2, q3⟩ := NT.arr W hKA hFA hNA V2 P2
      have W3 : WF p (wrW (w66 w1 h2) (jall τ1).1 (jall τ1).2) := (wrW_st W2 [] [] _ _).2.2.1
      refine rc_wrong (d := d + 40) W3 q1 q2 (wrW_wr _ _ _) ?_
      refine runT2 _ (fun A B _ _ => ?_)
      rw [tF_1 hj]
      refine rt_wrong (show 1 ≤ (jall τ1).1 by omega) (hKK _ _ _ ?_)
      obtain ⟨n1, n2, n3, n4, n5, n6⟩ := nt_wrong (how := (jall τ1).1) (τ1 := t4 τ1 (jall τ1).1 (jall τ1).2 A B) h V2 P2 W3 (F3.trans ((t4_ft _ _ _ _).mono (by decide))) rfl
      refine ⟨⟨n2, n3⟩, n1, ?_, n4, n5, n6, rfl, t11⟩
      have z1 : cz (flW (wrW (w66 w1 h2) (jall τ1).1 (jall τ1).2) p (jall τ1).1) = cz w1 + 1 := rfl
      have z2 : cu (flW (wrW (w66 w1 h2) (jall τ1).1 (jall τ1).2) p (jall τ1).1) = cu w1 + 8 := rfl
      have z3 : zm w1 = cu w1 + 5 * cz w1 := rfl
      unfold zm at hp ⊢
      rw [z1, z2]
      unfold zm at *
      omega
  · right
    intro K hKK
    obtain ⟨q1, q2, q3⟩ := NT.arr W hKA hFA hNA V P3
    refine runC (fun _ _ => False) (RH p (d + 41) _) _ ?_ ⟨fun u hu => hu.elim, rfl⟩
    refine rc_wrong (d := d + 40) W1 q1 q2 wr ?_
    refine runT (fun b u => b = v ∧ u = τ1) _ ⟨rfl, rfl⟩ ⟨fun u hu y1 y2 => ?_, fun u hu y1 => ?_⟩
    · exfalso
      rw [hu.2] at y1 y2
      rcases D with ⟨a, b, c⟩ | ⟨a, b, -⟩
      · have : tI τ1 7 = how := a
        omega
      · exact y2 b
    · rw [hu.2] at y1 ⊢
      rcases D with ⟨a, b, c⟩ | ⟨a, b, -⟩
      · have a7 : tI τ1 7 = how := a
        have a8 : tI τ1 8 = pl := b
        refine rt_wrong (by omega) ?_
        rw [a8]
        refine hKK _ _ _ ?_
        obtain ⟨n1, n2, n3, n4, n5, n6⟩ := nt_wrong (how := how) (τ1 := τ1) h V P3 W1 F3 a7
        refine ⟨⟨n2, n3⟩, n1, ?_, n4, n5, n6, rfl, t11⟩
        show zm w1 ≤ _
        omega
      · exact absurd a y1
end ZRd4
