/-! the builder of strings -/
section ZSb
variable {p d : Nat} {w : CW}
/-- a builder's letters: latin, room for 17 -/
def sbo (w : CW) (x : Nat) (s : List Int) : Prop := tg w x = 31 ∧ fI w 120 x = 0 ∧ fI w 122 x = s.length ∧ tg w (fR w 119 x) = 101 ∧ ln w (fR w 119 x) = 17 ∧ fR w 119 x ≠ 0 ∧ ∀ i : Nat, i < s.length → aI w (fR w 119 x) i = s.getD i 0
theorem sbo.ehF {x : Nat} {s : List Int} (h : sbo w x s) {f : Nat} (hf : f = 119 ∨ f = 120 ∨ f = 121 ∨ f = 122) : hF f (tg w x) = true := by
  rw [h.1]; rcases hf with rfl | rfl | rfl | rfl <;> decide
theorem sbo.ehP {x : Nat} {s : List Int} (h : sbo w x s) {f : Nat} (hf : f = 119 ∨ f = 120 ∨ f = 121 ∨ f = 122) : hP f (tg w x) = true := by
  rw [h.1]; rcases hf with rfl | rfl | rfl | rfl <;> decide
theorem sJ_sbIsLatin1 {x : Nat} {s : List Int} {Q : ZRes → CW → Prop} (h : sbo w x s) (hQ : Q (.inl (some (ai 1))) w) : wpC p (d + 1) 209 [ar x] w Q := by
  refine wC_J2_isLatin1 (Nat.zero_le _) ⟨fun _ => h.ehF (by simp), ?_⟩
  refine fa ?_
  rw [if_pos ⟨by decide, h.2.1⟩]
  exact hQ
theorem sJ_ensure {x : Nat} {n : Int} {Q : ZRes → CW → Prop} (h1 : tg w x = 31) (h2 : fI w 120 x = 0) (h3 : tg w (fR w 119 x) = 101) (h4 : ln w (fR w 119 x) = 17) (hn : 0 ≤ n) (hn2 : n ≤ 17) (hQ : Q (.inl none) w) : wpC p (d + 1) 208 [ar x, ai n] w Q := by
  refine wC_J2_ensureCapacityInternal (Nat.zero_le _) ⟨by rw [h1]; decide, by omega, by rw [h1]; decide, ?_⟩
  refine fa ?_
  rw [h2, h4, i_shr0 (by unfold zr; omega)]
  refine ⟨fun _ => hQ, fun e => ?_⟩
  rw [w32_s (by omega) (by omega)] at e
  omega
theorem sJ_append {x : Nat} {s : List Int} {c : Int} (W : WF p w) (h : sbo w x s) (hl : s.length < 17) (hc : 0 ≤ c ∧ c ≤ 127) : ∃ w', (Fr [x, fR w 119 x] w w' ∧ WF p w' ∧ sbo w' x (s ++ [c]) ∧ cz w' = cz w ∧ cu w' = cu w ∧ fR w' 119 x = fR w 119 x) ∧ ∀ Q, Q (.inl (some (ar x))) w' → wpC p (d + 3) 218 [ar x, ai c] w Q := by
  have ht := h.1
  refine ⟨?x, ?_, fun Q hQ => wC_J3_append_3 (Nat.zero_le _) ⟨by omega, wC_J2_append_2 (Nat.zero_le _) ⟨h.ehF (by simp), h.1, sJ_ensure h.1 h.2.1 h.2.2.2.1 h.2.2.2.2.1 ?_ ?_ ⟨h.1, sJ_sbIsLatin1 h ⟨fun e => (by cases e), fun _ => wC_J10_canEncode (Nat.zero_le _) ?_⟩⟩⟩⟩⟩
  rotate_left 4
  · refine fa ?_
    refine ⟨fun e => ?_, fun _ => ⟨h.ehF (by simp), h.ehF (by simp), h.ehP (by simp), ?_⟩⟩
    · rw [if_pos (by omega)] at e; cases e
    refine fa ?_
    refine ⟨⟨Or.inl h.2.2.2.1, by rw [h.2.2.1]; omega, by rw [h.2.2.1, ln_pI, h.2.2.2.2.1]; omega⟩, ?_⟩
    refine fa ?_
    exact hQ
  · have e1 : True → w32 (fI w 122 x + 1) = ((s ++ [c]).length : Nat) := fun _ => by rw [h.2.2.1, w32_s (by omega) (by omega), List.length_append]; simp
    refine ⟨(((Fr.refl _ w).spI (Or.inl (by simp))).sqI (Or.inl (by simp))), W, ⟨h.1, ?_, ?_, h.2.2.2.1, h.2.2.2.2.1, h.2.2.2.2.2.1, ?_⟩, rfl, rfl, rfl⟩
    · exact (fI_of (f := 122) (g := 120) w x x (w32 (fI w 122 x + 1)) (by decide)).trans h.2.1
    · exact (fI_at w 122 x (w32 (fI w 122 x + 1))).trans (e1 trivial)
    · intro i hi
      show aI (qI (pI w 122 x _) (fR w 119 x) _ _) (fR w 119 x) i = _
      rw [aI_qI, h.2.2.1]
      rw [List.length_append] at hi
      simp only [List.length_cons, List.length_nil] at hi
      rcases Nat.lt_or_ge i s.length with z | z
      · rw [if_neg (by omega)]
        show aI w _ _ = _
        rw [h.2.2.2.2.2.2 i z]; simp [List.getD_eq_getElem?_getD, List.getElem?_append_left z]
      · have : i = s.length := by omega
        rw [if_pos ⟨rfl, by rw [this]⟩, if_neg (by show ¬ tg w (fR w 119 x) = 104; rw [h.2.2.2.1]; decide), ib_id hc.1 hc.2, ib_id hc.1 hc.2, this]
        simp
  · rw [h.2.2.1, w32_s (by omega) (by omega)]; omega
  · rw [h.2.2.1, w32_s (by omega) (by omega)]; omega
theorem sJ_toString {x : Nat} {s : List Int} (W : WF p w) (h : sbo w x s) (hl : s.length < 17) (ha : ascii s) (hm : cz w + 2 ≤ mz w ∧ cu w + 30 ≤ mu w) : ∃ w' r, (Fr [] w w' ∧ WF p w' ∧ sto w' r s ∧ cz w' = cz w + 2 ∧ cu w' ≤ cu w + 30) ∧ ∀ Q, Q (.inl (some (ar r))) w' → wpC p (d + 6) 219 [ar x] w Q := by
  have hx : x ≤ cz w := W.le (by rw [h.1]; decide)
  have hv : fR w 119 x ≤ cz w := W.le (by rw [h.2.2.2.1]; decide)
  have hx1 : x ≠ cz w + 1 := by omega
  have hv1 : fR w 119 x ≠ cz w + 1 := by omega
  have hv2 : fR w 119 x ≠ cz w + 1 + 1 := by omega
  have h1 : tg (nO w 32 4) x = 31 := by rw [tg_nO, if_neg hx1]; exact h.1
  have eL : (s.length : Int) < 17 := by omega
  have eC : fI w 122 x = s.length := h.2.2.1
  have hsb : ∀ v, sbo (pI (nO w 32 4) 124 (cz w + 1) v) x s → True := fun _ _ => trivial
  have hsb : sbo (nO w 32 4) x s := by
    refine ⟨h1, ?_, ?_, ?_, ?_, ?_, ?_⟩
    · rw [fI_nO, if_neg hx1]; exact h.2.1
    · rw [fI_nO, if_neg hx1]; exact h.2.2.1
    · rw [fR_nO, if_neg hx1, tg_nO, if_neg hv1]; exact h.2.2.2.1
    · rw [fR_nO, if_neg hx1, ln_nO]; exact h.2.2.2.2.1
    · rw [fR_nO, if_neg hx1]; exact h.2.2.2.2.2.1
    · rw [fR_nO, if_neg hx1]; exact h.2.2.2.2.2.2
  have eR : fR (nO w 32 4) 119 x = fR w 119 x := by rw [fR_nO, if_neg hx1]
  have eI : fI (nO w 32 4) 122 x = s.length := hsb.2.2.1
  have eT : tg (nO w 32 4) (cz w + 1) = 32 := by rw [tg_nO, if_pos rfl]
  refine ⟨?x, cz w + 1, ?_, fun Q hQ => wC_J3_toString (Nat.zero_le _) ⟨⟨by omega, by omega⟩, ?_⟩⟩
  rotate_left 2
  · refine fa ?_
    refine wC_J4_init (Nat.zero_le _) ⟨by omega, wC_J4_init_2 (Nat.zero_le _) ⟨by omega, h1, wC_J2_getValue (Nat.zero_le _) ⟨hsb.ehF (by simp), h1, wC_J3_length (Nat.zero_le _) ⟨by omega, wC_J2_length (Nat.zero_le _) ⟨hsb.ehF (by simp), h1, sJ_sbIsLatin1 hsb ⟨fun e => (by cases e), fun _ => ⟨by rw [eT]; decide, ?_⟩⟩⟩⟩⟩⟩⟩
    refine fa ?_
    rw [eI, eR]
    refine wC_J8_copyOfRange (Nat.zero_le _) ⟨fun _ => ?_, fun _ => wC_J8_copyOfRangeByte (Nat.zero_le _) (wC_J8_checkLength (Nat.zero_le _) ⟨fun _ => ?_, fun e => by omega⟩), fun e => ?_⟩
    · have e7 : tg (pI (nO w 32 4) 124 (cz w + 1) 0) (fR w 119 x) = 101 := by
        show tg (nO w 32 4) (fR w 119 x) = 101
        rw [tg_nO, if_neg hv1, h.2.2.2.1]
      rw [e7]; decide
    · refine fa ?_
      rw [w32_s (a := (s.length : Int) - 0) (by omega) (by omega), Int.sub_zero]
      refine ⟨⟨⟨by omega, by omega⟩, by show cz w + 1 + 1 ≤ mz w; omega, by show cu w + 4 + _ ≤ mu w; simp only [Int.toNat_natCast]; omega⟩, ?_⟩
      refine fa ?_
      have e2 : tg (nA (pI (nO w 32 4) 124 (cz w + 1) 0) 101 (Int.toNat (s.length : Int))) (fR w 119 x) = 101 := by
        rw [tg_nA, if_neg (by show _ ≠ cz w + 1 + 1; exact hv2)]
        show tg (nO w 32 4) _ = _
        rw [tg_nO, if_neg hv1]; exact h.2.2.2.1
      have e3 : ln (nA (pI (nO w 32 4) 124 (cz w + 1) 0) 101 (Int.toNat (s.length : Int))) (fR w 119 x) = 17 := by
        rw [ln_nA, if_neg (by show _ ≠ cz w + 1 + 1; exact hv2)]
        exact h.2.2.2.2.1
      have e4 : True → (if (s.length : Int) < (w32 (((17 : Nat) : Int) - 0)) then (s.length : Int) else (w32 (((17 : Nat) : Int) - 0))) = s.length := fun _ => by
        rw [w32_s (a := ((17 : Nat) : Int) - 0) (by omega) (by omega), if_pos (by omega)]
      rw [e3, e4 trivial]
      refine ⟨by rw [e2]; decide, ⟨⟨by decide, by decide, by omega, by omega, ?_⟩, ?_⟩, ?_⟩
      · rw [ln_nA]; simp
      · refine Or.inr (Or.inr (Or.inl ⟨Or.inl e2, by rw [tg_nA]; exact if_pos rfl, fun i hi hi2 => ?_⟩))
        have : aI (nA (pI (nO w 32 4) 124 (cz w + 1) 0) 101 (Int.toNat (s.length : Int))) (fR w 119 x) i = s.getD i.toNat 0 := by
          rw [aI_nA, if_neg (by show _ ≠ cz w + 1 + 1; exact hv2)]
          show aI w _ _ = _
          rw [← h.2.2.2.2.2.2 i.toNat (by omega)]
          congr 1; omega
        rw [this]
        have := ha.2 i.toNat (by omega)
        omega
      · refine fa ?_
        refine ⟨?_, ?_⟩
        · show hP 123 (tg (nA (pI (nO w 32 4) 124 (cz w + 1) 0) 101 (Int.toNat (s.length : Int))) (cz w + 1)) = true
          rw [tg_nA, if_neg (by show cz w + 1 ≠ cz w + 1 + 1; omega)]
          show hP 123 (tg (nO w 32 4) (cz w + 1)) = true
          rw [eT]; decide
        refine fa ?_
        exact hQ
    · exfalso
      have e5 : ln (pI (nO w 32 4) 124 (cz w + 1) 0) (fR w 119 x) = 17 := h.2.2.2.2.1
      rw [e5] at e
      exact e (Or.inr (by omega))
  · have ec : cz (pI (nO w 32 4) 124 (cz w + 1) 0) = cz w + 1 := rfl
    refine ⟨?_, ?_, ?_, ?_, ?_⟩
    · refine (Fr.spR (Fr.mono (T := [cz w + 1 + 1]) ?_ (fun r hr => by simp at hr; omega)) (Or.inr (by omega)))
      have hb : Fr [cz w + 1 + 1] w (nA (pI (nO w 32 4) 124 (cz w + 1) 0) 101 (Int.toNat (s.length : Int))) := (((Fr.refl _ w).snO).spI (Or.inr (by omega))).snA
      refine ⟨hb.1, hb.2.1, hb.2.2.1, hb.2.2.2.1, fun q hq ht => ?_⟩
      rw [← hb.2.2.2.2 q hq ht]
      have hne : q ≠ cz w + 1 + 1 := by omega
      have k1 : ∀ u : CW, ∀ s0 s1 s2 s3, aI (qC u s0 s1 (cz w + 1 + 1) s2 s3) q = aI u q := by
        intro u s0 s1 s2 s3
        funext j; rw [aI_qC, if_neg (fun x => hne x.1)]
      have k2 : ∀ u : CW, ∀ s0 s1 s2 s3, aR (qC u s0 s1 (cz w + 1 + 1) s2 s3) q = aR u q := by
        intro u s0 s1 s2 s3
        funext j; rw [aR_qC, if_neg (fun x => hne x.1)]
      show (_, _, _, _, aI (qC _ _ _ (cz w + 1 + 1) _ _) q, aR (qC _ _ _ (cz w + 1 + 1) _ _) q) = _
      rw [k1, k2]; rfl
    · exact ((W.snO 32 4).snA 101 _ : WF p (nA (nO w 32 4) 101 (Int.toNat (s.length : Int))))
    · refine ⟨Or.inl ?_, ?_, ?_⟩
      · show tg (nA (nO w 32 4) 101 (Int.toNat (s.length : Int))) (cz w + 1) = 32
        rw [tg_nA, if_neg (by show cz w + 1 ≠ cz w + 1 + 1; omega)]; exact eT
      · show fI (pI (nO w 32 4) 124 (cz w + 1) 0) 124 (cz w + 1) = 0
        rw [fI_pI, if_pos ⟨rfl, rfl⟩]
      · have e6 : ∀ u : CW, ∀ v, fR (pR u 123 (cz w + 1) v) 123 (cz w + 1) = v := fun u v => by rw [fR_pR, if_pos ⟨rfl, rfl⟩]
        rw [e6]
        refine ⟨Or.inl ?_, ?_, fun i hi => ?_⟩
        · show tg (nA (pI (nO w 32 4) 124 (cz w + 1) 0) 101 (Int.toNat (s.length : Int))) (cz w + 1 + 1) = 101
          rw [tg_nA]; exact if_pos rfl
        · show ln (nA (pI (nO w 32 4) 124 (cz w + 1) 0) 101 (Int.toNat (s.length : Int))) (cz w + 1 + 1) = _
          rw [ln_nA]; exact (if_pos rfl).trans (Int.toNat_natCast _)
        · show aI (qC (nA (pI (nO w 32 4) 124 (cz w + 1) 0) 101 (Int.toNat (s.length : Int))) (fR w 119 x) 0 (cz w + 1 + 1) 0 (s.length : Int)) (cz w + 1 + 1) i = _
          rw [aI_qC, if_pos ⟨rfl, by omega, by omega⟩, aI_nA, if_neg (by show _ ≠ cz w + 1 + 1; exact hv2)]
          show aI w _ _ = _
          rw [← h.2.2.2.2.2.2 i hi]
          congr 1; omega
    · show cz w + 1 + 1 = _; rfl
    · show cu w + 4 + (Int.toNat (s.length : Int)) ≤ _
      simp only [Int.toNat_natCast]; omega
end ZSb
section ZSb2
variable {p d : Nat} {w : CW}
theorem sto.st {q : Nat} {s : List Int} {w' : CW} (h : sto w q s) (h1 : ob w' q = ob w q) (h2 : ob w' (fR w 123 q) = ob w (fR w 123 q)) : sto w' q s := by
  refine ⟨by rw [ob.etg h1]; exact h.1, by rw [ob.efI h1]; exact h.2.1, ?_⟩
  rw [ob.efR h1]
  exact ⟨by rw [ob.etg h2]; exact h.2.2.1, by rw [ob.eln h2]; exact h.2.2.2.1, fun i hi => by rw [ob.eaI h2]; exact h.2.2.2.2 i hi⟩
theorem sJ_sbinit {x q : Nat} (W : WF p w) (hx : tg w x = 31) (hc : fI w 122 x = 0) (hs : sto w q [124]) (hm : cz w + 1 ≤ mz w ∧ cu w + 17 ≤ mu w) : ∃ w', (Fr [x] w w' ∧ WF p w' ∧ sbo w' x [124] ∧ fR w' 119 x = cz w + 1 ∧ cz w' = cz w + 1 ∧ cu w' = cu w + 17) ∧ ∀ Q, Q (.inl none) w' → wpC p (d + 8) 215 [ar x, ar q] w Q := by
  have hx0 : x ≠ 0 := by intro e; rw [e, W.1] at hx; cases hx
  have hxz : x ≤ cz w := W.le (by rw [hx]; decide)
  have hqx : q ≠ x := by intro e; have := hs.1; rw [e, hx] at this; rcases this with h | h <;> cases h
  have hqz : q ≤ cz w := W.le (by rcases hs.1 with h | h <;> rw [h] <;> decide)
  have haz : fR w 123 q ≤ cz w := W.le (by rcases hs.2.2.1 with h | h <;> rw [h] <;> decide)
  have hax : fR w 123 q ≠ x := by intro e; have := hs.2.2.1; rw [e, hx] at this; rcases this with h | h <;> cases h
  have has : ascii [124] := ⟨by decide, by decide⟩
  -- the state behind the array's birth
  obtain ⟨v, hv⟩ : ∃ v, v = pR (nA (pI w 120 x 0) 101 17) 119 x (cz w + 1) := ⟨_, rfl⟩
  have hF1 : Fr [x] w v := by rw [hv]; exact (((Fr.refl _ w).spI (Or.inl (by simp))).snA).spR (Or.inl (by simp))
  have hW1 : WF p v := by rw [hv]; exact (W.snA 101 17 : WF p (nA w 101 17))
  have hs1 : sto v q [124] := hs.st (hF1.2.2.2.2 q hqz (by simp; exact hqx)) (hF1.2.2.2.2 _ haz (by simp; exact hax))
  have ht1 : tg v x = 31 := by rw [(hF1.2.2.2.1 x hxz).1]; exact hx
  have hv1 : fR v 119 x = cz w + 1 := by rw [hv]; exact fR_at _ _ _ _
  have hv2 : tg v (cz w + 1) = 101 := by
    rw [hv]
    show tg (nA (pI w 120 x 0) 101 17) (cz w + 1) = 101
    rw [tg_nA]; exact if_pos rfl
  have hv3 : ln v (cz w + 1) = 17 := by
    rw [hv]
    show ln (nA (pI w 120 x 0) 101 17) (cz w + 1) = 17
    rw [ln_nA]; exact if_pos rfl
  have hc1 : fI v 122 x = 0 := by rw [hv]; exact (fI_of (f := 120) (g := 122) w x x 0 (by decide)).trans hc
  have hk1 : fI v 120 x = 0 := by rw [hv]; exact fI_at w 120 x 0
  have hz1 : cz v = cz w + 1 := by rw [hv]; rfl
  have hz2 : cu v = cu w + 17 := by rw [hv]; rfl
  have e5 : (if ¬ (2147483631 ≤ ((([124] : List Int).length : Nat) : Int)) then w32 (((([124] : List Int).length : Nat) : Int) + 16) else 2147483647) = 17 := by
    rw [if_pos (by decide)]; exact w32_s (by decide) (by decide)
  have hx31 : hP 122 31 = true ∧ hF 122 31 = true ∧ hF 119 31 = true ∧ hF 120 31 = true := by decide
  refine ⟨pI (qC v (fR v 123 q) 0 (cz w + 1) 0 1) 122 x 1, ?pf, fun Q hQ => wC_J3_init (Nat.zero_le _) ⟨hx0, wC_J2_init (Nat.zero_le _) ⟨hx0, hs.1, sJ_length hs has (fa ⟨hs.1, sJ_coder hs ⟨by rw [hx]; decide, ⟨by decide, by decide⟩, fa ⟨fun _ => ⟨?rm, ?run⟩, fun e => absurd rfl e⟩⟩⟩)⟩⟩⟩
  case rm =>
    rw [e5]
    exact ⟨⟨by decide, by decide⟩, hm.1, hm.2⟩
  case run =>
    intro u14 hu14
    have hu14 : u14 = nA (pI w 120 x 0) 101 17 := by rw [hu14, e5]; rfl
    refine ⟨?hp, ?r2⟩
    case hp =>
      have : tg u14 x = 31 := by rw [hu14]; rw [hv] at ht1; exact ht1
      rw [this]; decide
    case r2 =>
    intro u16 hu16
    obtain rfl : u16 = v := by rw [hu16, hu14, hv]; rfl
    refine ⟨ht1, wC_J3_append (Nat.zero_le _) ⟨ht1, wC_J3_append_2 (Nat.zero_le _) ⟨by rw [ht1]; decide, wC_J2_append (Nat.zero_le _) ⟨fun e => ?n0, fun _ => ⟨hs1.1, sJ_length hs1 has ⟨by rw [ht1]; exact hx31.2.1, ht1, ?ens⟩⟩⟩⟩⟩⟩
    case n0 => exact absurd e (by intro e; have := hs1.1; rw [e, hW1.1] at this; rcases this with h | h <;> cases h)
    case ens =>
      rw [hc1, show w32 ((0 : Int) + ((([124] : List Int).length : Nat) : Int)) = 1 from w32_s (by decide) (by decide)]
      refine sJ_ensure ht1 hk1 (by rw [hv1]; exact hv2) (by rw [hv1]; exact hv3) (by decide) (by decide) ⟨by rw [ht1]; exact hx31.2.1, ht1, ?put⟩
      refine wC_J2_putStringAt (Nat.zero_le _) ⟨ht1, wC_J2_inflateIfNeededFor (Nat.zero_le _) ⟨fun e => (by cases e), fun _ => ⟨by rw [ht1]; exact hx31.2.2.2, hs1.1, sJ_coder hs1 ⟨fun _ => ⟨by rw [ht1]; exact hx31.2.2.1, by rw [ht1]; exact hx31.2.2.2, hs1.1, ?gb⟩, fun e => absurd hk1 e⟩⟩⟩⟩
      rw [hk1, hc1, hv1]
      refine wC_J4_getBytes (Nat.zero_le _) ⟨hs1.1, sJ_coder hs1 ⟨fun _ => ⟨hs1.ehF (Or.inl rfl), hs1.ehF (Or.inl rfl), hs1.2.2.arr, ?_⟩, fun e => absurd rfl e⟩⟩
      rw [i_shl0 (by unfold zr; omega), hs1.2.2.2.1, hv3]
      refine ⟨⟨⟨by decide, by decide, by decide, by decide, by decide⟩, Or.inr (Or.inr (Or.inl ⟨hs1.2.2.1, hv2, fun i hi hi2 => ?_⟩))⟩, fa ⟨?_, ?_, fa ?_⟩⟩
      · have : i = 0 := by have hi2 : i < 0 + 1 := hi2; omega
        have h2 : aI u16 (fR u16 123 q) 0 = 124 := hs1.2.2.2.2 0 (by decide)
        rw [this, h2]; decide
      · show hF 122 (tg u16 x) = true
        rw [ht1]; exact hx31.2.1
      · show hP 122 (tg u16 x) = true
        rw [ht1]; exact hx31.1
      · have e8 : fI (qC u16 (fR u16 123 q) 0 (cz w + 1) 0 ((([124] : List Int).length : Nat) : Int)) 122 x = 0 := hc1
        rw [e8, show w32 ((0 : Int) + ((([124] : List Int).length : Nat) : Int)) = 1 from w32_s (by decide) (by decide)]
        exact hQ
  case pf =>
    refine ⟨?_, hW1, ⟨ht1, ?_, fI_at _ _ _ _, ?_, ?_, ?_, ?_⟩, ?_, ?_, ?_⟩
    · refine Fr.spI ?_ (Or.inl (List.mem_singleton.mpr rfl))
      refine ⟨hF1.1, hF1.2.1, hF1.2.2.1, hF1.2.2.2.1, fun r hr ht => ?_⟩
      rw [← hF1.2.2.2.2 r hr ht]
      have hne : r ≠ cz w + 1 := by omega
      have k1 : aI (qC v (fR v 123 q) 0 (cz w + 1) 0 1) r = aI v r := by
        funext j; rw [aI_qC, if_neg (fun x => hne x.1)]
      have k2 : aR (qC v (fR v 123 q) 0 (cz w + 1) 0 1) r = aR v r := by
        funext j; rw [aR_qC, if_neg (fun x => hne x.1)]
      show (_, _, _, _, aI (qC v (fR v 123 q) 0 (cz w + 1) 0 1) r, aR (qC v (fR v 123 q) 0 (cz w + 1) 0 1) r) = _
      rw [k1, k2]; rfl
    · exact (fI_of (f := 122) (g := 120) (qC v (fR v 123 q) 0 (cz w + 1) 0 1) x x 1 (by decide)).trans hk1
    · show tg v (fR v 119 x) = 101
      rw [hv1]; exact hv2
    · show ln v (fR v 119 x) = 17
      rw [hv1]; exact hv3
    · show fR v 119 x ≠ 0
      rw [hv1]; omega
    · intro i hi
      have : i = 0 := by simp at hi; exact hi
      rw [this]
      show aI (qC v (fR v 123 q) 0 (cz w + 1) 0 1) (fR v 119 x) ((0 : Nat) : Int) = 124
      rw [hv1, aI_qC, if_pos ⟨rfl, by decide, by decide⟩]
      exact hs1.2.2.2.2 0 (by decide)
    · exact hv1
    · exact hz1
    · exact hz2
end ZSb2
