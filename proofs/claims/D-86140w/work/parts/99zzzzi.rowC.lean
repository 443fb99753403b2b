/-! the component's rows: one more test, one more name -/
section ZRowC
variable {p b e d rr : Nat} {w : CW} {τ : TW}
/-- an object that tests as the pattern's row q says -/
def TO (p : Nat) (w : CW) (τ : TW) (r q : Nat) : Prop := p + 8 < r ∧ ((tA τ 17 q = 1 ∧ tg w r = 7 ∧ fI w 69 r = tA τ 19 q ∧ fI w 70 r = tA τ 20 q) ∨ (tA τ 17 q = 2 ∧ tg w r = 11 ∧ fI w 75 r = tA τ 19 q) ∨ (tA τ 17 q = 3 ∧ tg w r = 10 ∧ fI w 74 r = tA τ 21 q) ∨ (tA τ 17 q = 4 ∧ tg w r = 12) ∨ (tA τ 17 q = 5 ∧ tg w r = 8 ∧ ∃ k : Nat, tA τ 19 q = k ∧ k < nK τ ∧ fR w 71 r = kd w p k))
/-- the object of a place that may be none -/
def pno (w : CW) (F : Nat) (ps : List Pa) (o : Option Pa) : Nat := match o with | none => 0 | some ρ => plo w F ps ρ
/-- a row that is being laid (c: how many tests there is room for); tests are told by the world before, w0 -/
def ROc (p b : Nat) (w0 w : CW) (τ : TW) (F : Nat) (ps : List Pa) (x rr : Nat) (L : List (Pa × Nat)) (nb : Nat → Option Pa) (zb : Int) (c : Nat) : Prop :=
  (tg w x = 14 ∧ b < x ∧ fI w 83 x = L.length) ∧ (8 ≤ c ∧ L.length ≤ c ∧ c ≤ max 8 (2 * L.length)) ∧ (tg w (fR w 81 x) = 115 ∧ ln w (fR w 81 x) = c ∧ b < fR w 81 x) ∧ (tg w (fR w 82 x) = 118 ∧ ln w (fR w 82 x) = c ∧ b < fR w 82 x) ∧ (tg w (fR w 84 x) = 115 ∧ ln w (fR w 84 x) = 8 ∧ b < fR w 84 x ∧ fR w 84 x ≠ fR w 81 x) ∧
  (∀ i e, L[i]? = some e → e.1 ∈ ps ∧ aR w (fR w 81 x) (i : Nat) = plo w F ps e.1 ∧ TO p w0 τ (aR w (fR w 82 x) (i : Nat)) e.2 ∧ aR w (fR w 82 x) (i : Nat) ≤ b) ∧ (∀ k : Nat, k < 8 → aR w (fR w 84 x) (k : Nat) = pno w F ps (nb k) ∧ ∀ ρ, nb k = some ρ → ρ ∈ ps) ∧ zm w ≤ zb + 6 * c + 11 * ps.length ∧ fR w 80 x = rr
/-- the world before a row -/
def BS (p b : Nat) (w0 : CW) (τ : TW) (F : Nat) : Prop := WF p w0 ∧ cz w0 = b ∧ KR p w0 τ ∧ (tg w0 F = 4 ∧ p + 8 < F) ∧ tg w0 (fR w0 50 F) = 115 ∧ p + 8 < fR w0 50 F
/-- .. with all around -/
def RI (p b : Nat) (w0 w : CW) (τ : TW) (F : Nat) (S : Pa → Int) (ps : List Pa) (x rr : Nat) (L : List (Pa × Nat)) (nb : Nat → Option Pa) (zb : Int) : Prop :=
  (Fr [F, fR w0 50 F] w0 w ∧ PF [] p w0 w ∧ WF p w) ∧ PL p w (nK τ) F S ps ∧ ((∀ f, f ≠ 51 → fI w f F = fI w0 f F) ∧ ∀ f, fR w f F = fR w0 f F) ∧ ∃ c, ROc p b w0 w τ F ps x rr L nb zb c
theorem PL.keep {w' : CW} {nk F : Nat} {S : Pa → Int} {ps : List Pa} (h : PL p w nk F S ps) (e51 : fI w' 51 F = fI w 51 F) (e50 : fR w' 50 F = fR w 50 F) (ea : ob w' (fR w 50 F) = ob w (fR w 50 F)) (h15 : ∀ r, tg w r = 15 → ob w' r = ob w r) (hk : ∀ k, kd w' p k = kd w p k) : PL p w' nk F S ps ∧ ∀ π, plo w' F ps π = plo w F ps π := by
  obtain ⟨p1, ⟨p2, p3, p4⟩, p5, p6, p7⟩ := h
  have ep : ∀ π, plo w' F ps π = plo w F ps π := fun π => by
    unfold plo
    rw [e50, ob.eaR ea]
  refine ⟨⟨e51.trans p1, by rw [e50, ob.etg ea, ob.eln ea]; exact ⟨p2, p3, p4⟩, p5, p6, fun i π hi => ?_⟩, ep⟩
  obtain ⟨o1, o2, o3, k, j, π', o4, o5, o6, o7, o8, o9, o10⟩ := p7 i π hi
  rw [e50, ob.eaR ea]
  have o := h15 _ o1
  refine ⟨by rw [ob.etg o]; exact o1, o2, by rw [ob.efI o]; exact o3, k, j, π', o4, o5, by rw [ob.efI o]; exact o6, by rw [ob.efI o]; exact o7, by rw [ob.efR o, ep]; exact o8, ?_, by rw [ob.efI o]; exact o10⟩
  rw [ob.efR o, o9]
  unfold kio
  rw [hk]
theorem BS.le {w0 : CW} {F : Nat} (h : BS p b w0 τ F) : F ≤ b ∧ fR w0 50 F ≤ b ∧ p + 8 ≤ b := by
  obtain ⟨h1, h2, h3, h4, h5, h6⟩ := h
  rw [← h2]
  exact ⟨h1.le (by rw [h4.1]; decide), h1.le (by rw [h5]; decide), h3.1.2.2.2.2⟩
theorem BS.kr {w0 : CW} {F : Nat} (h : BS p b w0 τ F) (f : Fr [F, fR w0 50 F] w0 w) (pf : PF [] p w0 w) : KR p w τ ∧ ∀ k, kd w p k = kd w0 p k := by
  obtain ⟨h1, h2, h3, h4, h5, h6⟩ := h
  refine ⟨KR.fr2 (S' := []) h1 h3 f ⟨(pf 0 (by decide)).2, (pf 1 (by decide)).1⟩ (fun r hr => ?_) (FT.refl _ _) (fun f hf => by cases hf), fun k => ?_⟩
  · rcases List.mem_cons.mp hr with y | y
    · rw [y, h4.1]
      exact Or.inr (Or.inr ⟨h4.2, by decide, fun q => absurd q (by decide)⟩)
    · rw [List.mem_singleton.mp y, h5]
      exact Or.inr (Or.inr ⟨h6, by decide, fun q => absurd q (by decide)⟩)
  · have l0 := h1.le (r := fR w0 0 p) (by rw [h3.1.1]; decide)
    have q0 : fR w0 0 p ≤ p + 8 := h3.1.2.2.2.1
    unfold kd
    rw [(pf 0 (by decide)).2]
    exact ob.eaR (f.2.2.2.2 _ l0 (fun y => by
      rcases List.mem_cons.mp y with y | y
      · omega
      · have := List.mem_singleton.mp y
        omega)) k
theorem BS.F {w0 : CW} {F : Nat} (h : BS p b w0 τ F) (f : Fr [F, fR w0 50 F] w0 w) : tg w F = 4 ∧ p + 8 < F := by
  obtain ⟨h1, h2, h3, h4, h5, h6⟩ := h
  exact ⟨(f.2.2.2.1 F (h1.le (by rw [h4.1]; decide))).1.trans h4.1, h4.2⟩
/-- writes to the row alone -/
theorem RI.st {w0 w' : CW} {F x : Nat} {S : Pa → Int} {ps : List Pa} {L L' : List (Pa × Nat)} {nb nb' : Nat → Option Pa} {zb : Int} {c' : Nat} {T : List Nat} (hB : BS p b w0 τ F) (h : RI p b w0 w τ F S ps x rr L nb zb) (f : Fr T w w') (hT : ∀ r, r ∈ T → b < r ∧ tg w r ≠ 15) (W' : WF p w') (hc : (∀ π, plo w' F ps π = plo w F ps π) → ROc p b w0 w' τ F ps x rr L' nb' zb c') : RI p b w0 w' τ F S ps x rr L' nb' zb ∧ ∀ π, plo w' F ps π = plo w F ps π := by
  obtain ⟨⟨a1, a2, a3⟩, b1, ⟨d1, d2⟩, -⟩ := h
  obtain ⟨l1, l2, l3⟩ := hB.le
  have a4 := hB.2.1
  have nT : ∀ r, r ≤ b → r ∉ T := fun r hr hm => by have := (hT r hm).1; omega
  have hz := a3.pz
  have lF := a3.le (r := F) (by rw [(hB.F a1).1]; decide)
  have oF := f.2.2.2.2 F lF (nT F l1)
  have e50 := d2 50
  have oA := f.2.2.2.2 (fR w 50 F) (a3.le (by rw [b1.2.1.1]; decide)) (nT _ (by rw [e50]; exact l2))
  have op := f.2.2.2.2 p hz (nT p (by omega))
  have pf : PF [] p w w' := fun f _ => ⟨ob.efI op f, ob.efR op f⟩
  have F' : Fr [F, fR w0 50 F] w0 w' := a1.trans' f (fun r hr => Or.inr (by have := (hT r hr).1; omega))
  have k1 := (hB.kr a1 a2).2
  have k2 := (hB.kr F' (a2.trans pf)).2
  obtain ⟨g1, g2⟩ := b1.keep (ob.efI oF 51) (ob.efR oF 50) oA (fun r hr => f.2.2.2.2 r (a3.le (by rw [hr]; decide)) (fun hm => (hT r hm).2 hr)) (fun k => (k2 k).trans (k1 k).symm)
  exact ⟨⟨⟨F', a2.trans pf, W'⟩, g1, ⟨fun f hf => (ob.efI oF f).trans (d1 f hf), fun f => (ob.efR oF f).trans (d2 f)⟩, c', hc g2⟩, g2⟩
/-- there is room for one more: it is written -/
theorem sC_add73 {w0 : CW} {F x : Nat} {S : Pa → Int} {ps : List Pa} {L : List (Pa × Nat)} {nb : Nat → Option Pa} {zb : Int} {c : Nat} (hB : BS p b w0 τ F) (h : RI p b w0 w τ F S ps x rr L nb zb) (hc : ROc p b w0 w τ F ps x rr L nb zb c) (hlt : L.length < c) (hL : L.length < 100000) {π : Pa} {t q : Nat} (hπ : π ∈ ps) (hT : TO p w0 τ t q) (ht : t ≤ b) {Q : CW → Prop} (hQ : ∀ w', RI p b w0 w' τ F S ps x rr (L ++ [(π, q)]) nb zb → (∀ π, plo w' F ps π = plo w F ps π) → Q w') : pC_X16_add_73 p (wpC p d) Q x (plo w F ps π) t w := by
  obtain ⟨⟨c1, c2, c3⟩, ⟨c4, c5, c6⟩, ⟨c7, c8, c9⟩, ⟨c10, c11, c12⟩, ⟨c13, c14, c15, c16⟩, c17, c18, c19, c80⟩ := id hc
  have hPL := h.2.1
  have tp : tg w (plo w F ps π) = 15 := (hPL.at hπ).2.2.2.1
  have tt : zst 118 (tg w t) = true := by
    have f := h.1.1
    have l1 : t ≤ cz w0 := by rw [hB.2.1]; exact ht
    have := (f.2.2.2.1 t l1).1
    rw [this]
    rcases hT.2 with y | y | y | y | y
    · rw [y.2.1]; decide
    · rw [y.2.1]; decide
    · rw [y.2.1]; decide
    · rw [y.2]; decide
    · rw [y.2.1]; decide
  have hn : fR w 81 x ≠ fR w 82 x := fun y => by rw [y, c10] at c7; cases c7
  have hn2 : fR w 84 x ≠ fR w 82 x := fun y => by rw [y, c10] at c13; cases c13
  refine bC_X16_add_73 ⟨by rw [c1]; decide, by rw [c1]; decide, ⟨by rw [c7]; decide, by rw [c3]; omega, by rw [c8, c3]; omega⟩, Or.inr (by rw [c7, tp]; decide), fa ⟨by show hF 82 (tg w x) = true; rw [c1]; decide, by show hF 83 (tg w x) = true; rw [c1]; decide, ⟨?_, ?_⟩⟩⟩
  · show (111 ≤ tg w (fR w 82 x) ∧ tg w (fR w 82 x) ≤ 119) ∧ 0 ≤ fI w 83 x ∧ fI w 83 x < ln w (fR w 82 x)
    rw [c10, c11, c3]
    exact ⟨by decide, by omega, by omega⟩
  refine ⟨Or.inr (by show zst (tg w (fR w 82 x)) (tg w t) = true; rw [c10]; exact tt), fa ⟨by show hF 83 (tg w x) = true; rw [c1]; decide, by show hP 83 (tg w x) = true; rw [c1]; decide, ?_⟩⟩
  have e83 : w32 (fI (qR (qR w (fR w 81 x) (fI w 83 x) (plo w F ps π)) (fR (qR w (fR w 81 x) (fI w 83 x) (plo w F ps π)) 82 x) (fI (qR w (fR w 81 x) (fI w 83 x) (plo w F ps π)) 83 x) t) 83 x + 1) = ((L.length + 1 : Nat) : Int) := by
    show w32 (fI w 83 x + 1) = _
    rw [c3, w32_s (by omega) (by omega)]
    rfl
  rw [e83]
  refine fa ?_
  obtain ⟨v, hv⟩ : ∃ v, v = pI (qR (qR w (fR w 81 x) (L.length : Nat) (plo w F ps π)) (fR w 82 x) (L.length : Nat) t) 83 x ((L.length + 1 : Nat) : Int) := ⟨_, rfl⟩
  have ev : pI (qR (qR w (fR w 81 x) (fI w 83 x) (plo w F ps π)) (fR (qR w (fR w 81 x) (fI w 83 x) (plo w F ps π)) 82 x) (fI (qR w (fR w 81 x) (fI w 83 x) (plo w F ps π)) 83 x) t) 83 x ((L.length + 1 : Nat) : Int) = v := by
    have e1 : fR (qR w (fR w 81 x) (fI w 83 x) (plo w F ps π)) 82 x = fR w 82 x := rfl
    have e2 : fI (qR w (fR w 81 x) (fI w 83 x) (plo w F ps π)) 83 x = fI w 83 x := rfl
    rw [hv, e1, e2, c3]
  rw [ev]
  have fv : Fr [x, fR w 81 x, fR w 82 x] w v := by
    rw [hv]
    exact (((Fr.refl _ w).sqR (Or.inl (by simp))).sqR (Or.inl (by simp))).spI (Or.inl (by simp))
  have b0 : p ≠ x := by have := hB.le; omega
  have Wv : WF p v := by rw [hv]; exact ((h.1.2.2.sqR _ _ _).sqR _ _ _).spI _ _ _
  suffices hs : RI p b w0 v τ F S ps x rr (L ++ [(π, q)]) nb zb ∧ ∀ π, plo v F ps π = plo w F ps π from hQ v hs.1 hs.2
  refine h.st (c' := c) hB fv (fun r hr => ?_) Wv (fun ep => ?_)
  · rcases List.mem_cons.mp hr with y | y
    · rw [y, c1]; exact ⟨c2, by decide⟩
    · rcases List.mem_cons.mp y with y | y
      · rw [y, c7]; exact ⟨c9, by decide⟩
      · rw [List.mem_singleton.mp y, c10]; exact ⟨c12, by decide⟩
  · have tv : ∀ r, tg v r = tg w r := fun r => by rw [hv]; rfl
    have lv : ∀ r, ln v r = ln w r := fun r => by rw [hv]; rfl
    have rv : ∀ f r, fR v f r = fR w f r := fun f r => by rw [hv]; rfl
    have a81 : ∀ i : Nat, aR v (fR w 81 x) i = if i = L.length then plo w F ps π else aR w (fR w 81 x) i := fun i => by
      rw [hv]
      simp only [aR_pI, aR_qR]
      rw [if_neg (fun y => hn y.1)]
      by_cases z : i = L.length
      · rw [if_pos ⟨trivial, by omega⟩, if_pos z]
      · rw [if_neg (by omega), if_neg z]
    have a82 : ∀ i : Nat, aR v (fR w 82 x) i = if i = L.length then t else aR w (fR w 82 x) i := fun i => by
      rw [hv]
      simp only [aR_pI, aR_qR]
      by_cases z : i = L.length
      · rw [if_pos ⟨trivial, by omega⟩, if_pos z]
      · rw [if_neg (by omega), if_neg z, if_neg (fun y => hn y.1.symm)]
    have a84 : ∀ i : Nat, aR v (fR w 84 x) i = aR w (fR w 84 x) i := fun i => by
      rw [hv]
      simp only [aR_pI, aR_qR]
      rw [if_neg (fun y => hn2 y.1), if_neg (fun y => c16 y.1)]
    unfold ROc
    rw [tv, rv, rv, rv, tv, tv, tv, lv, lv, lv]
    refine ⟨⟨c1, c2, ?_⟩, ⟨c4, ?_, ?_⟩, ⟨c7, c8, c9⟩, ⟨c10, c11, c12⟩, ⟨c13, c14, c15, c16⟩, fun i e hi => ?_, fun k hk => ?_, ?_⟩
    · rw [hv, fI_at, List.length_append]; rfl
    · rw [List.length_append]; show L.length + 1 ≤ c; omega
    · rw [List.length_append]; show c ≤ max 8 (2 * (L.length + 1)); omega
    · rw [a81, a82, ep]
      rcases Nat.lt_or_ge i L.length with u | u
      · rw [List.getElem?_append_left u] at hi
        rw [if_neg (by omega), if_neg (by omega)]
        exact c17 i e hi
      · have hl := (List.getElem?_eq_some_iff.mp hi).1
        rw [List.length_append] at hl
        have hi2 : i = L.length := by simp at hl; omega
        subst hi2
        have ee : e = (π, q) := by
          rw [List.getElem?_append_right (Nat.le_refl _)] at hi
          simpa using hi.symm
        subst ee
        rw [if_pos rfl, if_pos rfl]
        exact ⟨hπ, rfl, hT, ht⟩
    · rw [a84, (c18 k hk).1]
      refine ⟨?_, (c18 k hk).2⟩
      unfold pno
      cases nb k with
      | none => rfl
      | some ρ => exact (ep ρ).symm
    · have z1 : cz v = cz w := by rw [hv]; rfl
      have z2 : cu v = cu w := by rw [hv]; rfl
      unfold zm at c19 ⊢
      rw [z1, z2]
      exact ⟨c19, by rw [rv]; exact c80⟩
/-- room for twice as many -/
def grW (w : CW) (x n : Nat) : CW := pR (qC (nA (pR (qC (nA w 115 (2 * n)) (fR w 81 x) 0 (cz w + 1) 0 n) 81 x (cz w + 1)) 118 (2 * n)) (fR w 82 x) 0 (cz w + 2) 0 n) 82 x (cz w + 2)
theorem sC_add {w0 : CW} {F x : Nat} {S : Pa → Int} {ps : List Pa} {L : List (Pa × Nat)} {nb : Nat → Option Pa} {zb : Int} (hB : BS p b w0 τ F) (h : RI p b w0 w τ F S ps x rr L nb zb) (hL : L.length < 1000) {lim : Int} (hm : lim ≤ mu w0 ∧ lim ≤ 5 * mz w0) (hlim : zb + 12 * L.length + 11 * ps.length + 4000 ≤ lim ∨ zb + 22000 ≤ lim) {π : Pa} {t q : Nat} (hπ : π ∈ ps) (hT : TO p w0 τ t q) (ht : t ≤ b) {Q : ZRes → CW → Prop} (hQ : ∀ w', RI p b w0 w' τ F S ps x rr (L ++ [(π, q)]) nb zb → (∀ π, plo w' F ps π = plo w F ps π) → Q (.inl none) w') : wpC p (d + 1) 125 [ar x, ar (plo w F ps π), ar t] w Q := by
  obtain ⟨c, hc⟩ := h.2.2.2
  obtain ⟨⟨c1, c2, c3⟩, ⟨c4, c5, c6⟩, ⟨c7, c8, c9⟩, ⟨c10, c11, c12⟩, ⟨c13, c14, c15, c16⟩, c17, c18, c19, c80⟩ := id hc
  have hPL := h.2.1
  have W := h.1.2.2
  have lx := W.le (r := x) (by rw [c1]; decide)
  have l81 := W.le (r := fR w 81 x) (by rw [c7]; decide)
  have l82 := W.le (r := fR w 82 x) (by rw [c10]; decide)
  have l84 := W.le (r := fR w 84 x) (by rw [c13]; decide)
  have hps := hPL.2.2.2.1
  have emz : mz w = mz w0 := h.1.1.emz
  have emu : mu w = mu w0 := h.1.1.emu
  have h8 := hB.le.2.2
  refine wC_X16_add (Nat.zero_le _) (bC_X16_add_0 ⟨by rw [c1]; decide, by rw [c1]; decide, by rw [c7]; decide, ?_⟩)
  rw [c3, c8]
  by_cases z : L.length = c
  · have n8 : 8 ≤ L.length := by omega
    have room : zm w + (4 * L.length + 10) ≤ lim := by
      rcases hlim with y | y <;> omega
    have e2 : w32 (2 * ((L.length : Nat) : Int)) = ((2 * L.length : Nat) : Int) := by rw [w32_s (by omega) (by omega)]; omega
    refine br1 (by omega) ⟨by rw [c1]; decide, ?_, ?_⟩
    · rw [e2, Int.toNat_natCast, emz, emu]
      unfold zm at room
      exact ⟨⟨by omega, by omega⟩, by omega, by omega⟩
    rw [e2, Int.toNat_natCast]
    refine fa ⟨by show hF 81 (tg (nA w 115 (2 * L.length)) x) = true; rw [tg_nA, if_neg (by omega), c1]; decide, by rw [tg_nA, if_neg (by omega), c1]; decide, ⟨?_, ?_⟩, ?_⟩
    · show (0 ≤ (0 : Int) ∧ 0 ≤ (0 : Int) ∧ 0 ≤ fI w 83 x ∧ (0 : Int) + fI w 83 x ≤ ln (nA w 115 (2 * L.length)) (fR w 81 x) ∧ (0 : Int) + fI w 83 x ≤ ln (nA w 115 (2 * L.length)) (cz w + 1))
      rw [ln_nA, if_neg (by omega), ln_nA, if_pos rfl, c3, c8]
      omega
    · refine Or.inr (Or.inr (Or.inr ⟨?_, ?_, fun i i1 i2 => ?_⟩))
      · rw [tg_nA, if_pos rfl]; decide
      · show 111 ≤ tg (nA w 115 (2 * L.length)) (fR w 81 x) ∧ tg (nA w 115 (2 * L.length)) (fR w 81 x) ≤ 119
        rw [tg_nA, if_neg (by omega), c7]; decide
      · right
        have i2 : i < 0 + fI w 83 x := i2
        rw [c3] at i2
        obtain ⟨m, hm⟩ : ∃ m : Nat, i = m := ⟨i.toNat, by omega⟩
        subst hm
        have hml : m < L.length := by omega
        have := c17 m L[m] (List.getElem?_eq_getElem hml)
        have tp : tg w (plo w F ps L[m].1) = 15 := (hPL.at this.1).2.2.2.1
        have lp := W.le (r := plo w F ps L[m].1) (by rw [tp]; decide)
        show zst (tg (nA w 115 (2 * L.length)) (cz w + 1)) (tg (nA w 115 (2 * L.length)) (if fR w 81 x = cz w + 1 then 0 else aR w (fR w 81 x) m)) = true
        rw [if_neg (by omega), this.2.1, tg_nA, if_pos rfl, tg_nA, if_neg (by omega), tp]
        decide
    refine fa ⟨?_, fa ⟨?_, ?_, ?_⟩⟩
    · show hP 81 (tg (nA w 115 (2 * L.length)) x) = true
      rw [tg_nA, if_neg (by omega), c1]; decide
    · show hF 83 (tg (nA w 115 (2 * L.length)) x) = true
      rw [tg_nA, if_neg (by omega), c1]; decide
    · show (0 ≤ w32 (2 * fI w 83 x) ∧ w32 (2 * fI w 83 x) ≤ 1000000) ∧ cz w + 1 + 1 ≤ mz w ∧ cu w + 2 * L.length + Int.toNat (w32 (2 * fI w 83 x)) ≤ mu w
      rw [c3, e2, Int.toNat_natCast, emz, emu]
      unfold zm at room
      exact ⟨⟨by omega, by omega⟩, by omega, by omega⟩
    obtain ⟨u, hu⟩ : ∃ u, u = pR (qC (nA w 115 (2 * L.length)) (fR w 81 x) 0 (cz w + 1) 0 L.length) 81 x (cz w + 1) := ⟨_, rfl⟩
    have eu : pR (qC (nA w 115 (2 * L.length)) (fR (nA w 115 (2 * L.length)) 81 x) 0 (cz w + 1) 0 (fI (nA w 115 (2 * L.length)) 83 x)) 81 x (cz w + 1) = u := by
      have q1 : fR (nA w 115 (2 * L.length)) 81 x = fR w 81 x := rfl
      have q2 : fI (nA w 115 (2 * L.length)) 83 x = fI w 83 x := rfl
      rw [hu, q1, q2, c3]
    rw [eu]
    have tu : ∀ r, tg u r = if r = cz w + 1 then 115 else tg w r := fun r => by rw [hu]; rfl
    have lu : ∀ r, ln u r = if r = cz w + 1 then 2 * L.length else ln w r := fun r => by rw [hu]; rfl
    have fu83 : fI u 83 x = L.length := by rw [hu]; exact c3
    have cu1 : cz u = cz w + 1 := by rw [hu]; rfl
    have cu2 : cu u = cu w + 2 * L.length := by rw [hu]; rfl
    have ru82 : fR u 82 x = fR w 82 x := by rw [hu]; simp [fR_pR]; rfl
    rw [fu83, e2, Int.toNat_natCast, cu1]
    refine fa ⟨by show hF 82 (tg (nA u 118 (2 * L.length)) x) = true; rw [tg_nA, if_neg (by omega), tu, if_neg (by omega), c1]; decide, by show hF 83 (tg (nA u 118 (2 * L.length)) x) = true; rw [tg_nA, if_neg (by omega), tu, if_neg (by omega), c1]; decide, ⟨?_, ?_⟩, ?_⟩
    · show (0 ≤ (0 : Int) ∧ 0 ≤ (0 : Int) ∧ 0 ≤ fI u 83 x ∧ (0 : Int) + fI u 83 x ≤ ln (nA u 118 (2 * L.length)) (fR u 82 x) ∧ (0 : Int) + fI u 83 x ≤ ln (nA u 118 (2 * L.length)) (cz w + 1 + 1))
      rw [ru82, fu83, ln_nA, if_neg (by omega), ln_nA, if_pos (by omega), lu, if_neg (by omega), c11]
      omega
    · refine Or.inr (Or.inr (Or.inr ⟨?_, ?_, fun i i1 i2 => ?_⟩))
      · rw [tg_nA, if_pos (by omega)]; decide
      · show 111 ≤ tg (nA u 118 (2 * L.length)) (fR u 82 x) ∧ tg (nA u 118 (2 * L.length)) (fR u 82 x) ≤ 119
        rw [ru82, tg_nA, if_neg (by omega), tu, if_neg (by omega), c10]; decide
      · right
        have i2 : i < 0 + fI u 83 x := i2
        rw [fu83] at i2
        obtain ⟨m, hm⟩ : ∃ m : Nat, i = m := ⟨i.toNat, by omega⟩
        subst hm
        have hml : m < L.length := by omega
        obtain ⟨-, -, t1, t2⟩ := c17 m L[m] (List.getElem?_eq_getElem hml)
        show zst (tg (nA u 118 (2 * L.length)) (cz w + 1 + 1)) (tg (nA u 118 (2 * L.length)) (if fR u 82 x = cz u + 1 then 0 else aR u (fR u 82 x) m)) = true
        have ea : aR u (fR w 82 x) m = aR w (fR w 82 x) m := by
          rw [hu]
          simp only [aR_pR, aR_qC, aR_nA]
          rw [if_neg (fun y => by omega), if_neg (by omega)]
        have f := h.1.1
        have l1 : aR w (fR w 82 x) m ≤ cz w0 := by rw [hB.2.1]; exact t2
        have l2 := f.1
        have tw := (f.2.2.2.1 _ l1).1
        rw [ru82, if_neg (by omega), ea, tg_nA, if_pos (by omega), tg_nA, if_neg (by omega), tu, if_neg (by omega), tw]
        rcases t1.2 with y | y | y | y | y
        · rw [y.2.1]; decide
        · rw [y.2.1]; decide
        · rw [y.2.1]; decide
        · rw [y.2]; decide
        · rw [y.2.1]; decide
    refine fa ⟨by show hP 82 (tg (nA u 118 (2 * L.length)) x) = true; rw [tg_nA, if_neg (by omega), tu, if_neg (by omega), c1]; decide, ?_⟩
    obtain ⟨v, hv⟩ : ∃ v, v = pR (qC (nA u 118 (2 * L.length)) (fR w 82 x) 0 (cz w + 2) 0 L.length) 82 x (cz w + 2) := ⟨_, rfl⟩
    have ev : pR (qC (nA u 118 (2 * L.length)) (fR (nA u 118 (2 * L.length)) 82 x) 0 (cz w + 1 + 1) 0 (fI (nA u 118 (2 * L.length)) 83 x)) 82 x (cz w + 1 + 1) = v := by
      have q1 : fR (nA u 118 (2 * L.length)) 82 x = fR w 82 x := ru82
      have q2 : fI (nA u 118 (2 * L.length)) 83 x = L.length := fu83
      rw [hv, q1, q2]
    rw [ev]
    refine fa ?_
    have tv : ∀ r, tg v r = if r = cz w + 2 then 118 else if r = cz w + 1 then 115 else tg w r := fun r => by
      rw [hv]
      show (if r = cz u + 1 then 118 else tg u r) = _
      rw [cu1, tu]
    have lv : ∀ r, ln v r = if r = cz w + 2 then 2 * L.length else if r = cz w + 1 then 2 * L.length else ln w r := fun r => by
      rw [hv]
      show (if r = cz u + 1 then 2 * L.length else ln u r) = _
      rw [cu1, lu]
    have iv : ∀ f r, fI v f r = fI w f r := fun f r => by rw [hv, hu]; rfl
    have rv : ∀ f r, fR v f r = if f = 82 ∧ r = x then cz w + 2 else if f = 81 ∧ r = x then cz w + 1 else fR w f r := fun f r => by rw [hv, hu]; rfl
    have av : ∀ r (i : Nat), aR v r i = if r = cz w + 2 ∧ i < L.length then aR w (fR w 82 x) i else if r = cz w + 2 then 0 else if r = cz w + 1 ∧ i < L.length then aR w (fR w 81 x) i else if r = cz w + 1 then 0 else aR w r i := fun r i => by
      rw [hv, hu]
      simp only [aR_pR, aR_qC, aR_nA, cz_pR, show cz (qC (nA w 115 (2 * L.length)) (fR w 81 x) 0 (cz w + 1) 0 (L.length : Nat)) = cz w + 1 from rfl]
      have e0 : (0 : Int) + ((i : Nat) - 0) = (i : Nat) := by omega
      rw [e0]
      have n1 : ¬ fR w 82 x = cz w + 1 + 1 := by omega
      have n2 : ¬ fR w 82 x = cz w + 1 := by omega
      have n3 : ¬ fR w 81 x = cz w + 1 := by omega
      by_cases r2 : r = cz w + 2
      · subst r2
        by_cases il : i < L.length
        · simp [il, n1, n2]
        · simp [il]
      · by_cases r1 : r = cz w + 1
        · subst r1
          by_cases il : i < L.length
          · simp [il, n3]
          · simp [il]
        · simp [r1, r2]
    have fv : Fr [x] w v := by
      rw [hv, hu]
      have n1 : cz w < cz w + 1 := Nat.lt_succ_self _
      have n2 : cz w < cz w + 2 := by omega
      exact ((((((Fr.refl [x] w).snA).sqC (Or.inr n1)).spR (Or.inl (by simp))).snA).sqC (Or.inr n2)).spR (Or.inl (by simp))
    have Wv : WF p v := by
      rw [hv, hu]
      exact (W.snA 115 (2 * L.length)).snA 118 (2 * L.length)
    have bx : b < cz w := by omega
    have bF := hB.le
    have e50 : fR w 50 F = fR w0 50 F := h.2.2.1.2 50
    have r81 : fR v 81 x = cz w + 1 := by rw [rv]; simp
    have r82 : fR v 82 x = cz w + 2 := by rw [rv]; simp
    have r84 : fR v 84 x = fR w 84 x := by rw [rv]; simp
    have r50 : fR v 50 F = fR w 50 F := by rw [rv]; simp
    have av1 : ∀ i : Nat, i < L.length → aR v (cz w + 1) i = aR w (fR w 81 x) i := fun i il => by rw [av]; simp [il]
    have av2 : ∀ i : Nat, i < L.length → aR v (cz w + 2) i = aR w (fR w 82 x) i := fun i il => by rw [av]; simp [il]
    have avo : ∀ (r i : Nat), r ≤ cz w → aR v r i = aR w r i := fun r i hr => by
      rw [av]
      simp [show ¬ r = cz w + 1 by omega, show ¬ r = cz w + 2 by omega]
    have to : ∀ r, r ≤ cz w → tg v r = tg w r ∧ ln v r = ln w r := fun r hr => by
      rw [tv, lv]
      simp [show ¬ r = cz w + 1 by omega, show ¬ r = cz w + 2 by omega]
    have t1 : tg v (cz w + 1) = 115 ∧ ln v (cz w + 1) = 2 * L.length := by rw [tv, lv]; simp
    have t2 : tg v (cz w + 2) = 118 ∧ ln v (cz w + 2) = 2 * L.length := by rw [tv, lv]; simp
    have epa : ∀ π, plo v F ps π = plo w F ps π := fun π => by
      unfold plo
      rw [r50, avo _ _ (by omega)]
    have ROv : ROc p b w0 v τ F ps x rr L nb zb (2 * L.length) := by
      unfold ROc
      rw [r81, r82, r84, t1.1, t1.2, t2.1, t2.2, (to x lx).1, (to _ l84).1, (to _ l84).2, iv]
      refine ⟨⟨c1, c2, c3⟩, ⟨by omega, by omega, by omega⟩, ⟨rfl, rfl, by omega⟩, ⟨rfl, rfl, by omega⟩, ⟨c13, c14, c15, by omega⟩, fun i e hi => ?_, fun k hk => ?_, ?_⟩
      · have hl := (List.getElem?_eq_some_iff.mp hi).1
        rw [av1 i hl, av2 i hl, epa]
        exact c17 i e hi
      · rw [avo _ _ l84, (c18 k hk).1]
        refine ⟨?_, (c18 k hk).2⟩
        unfold pno
        cases nb k with
        | none => rfl
        | some ρ => exact (epa ρ).symm
      · have z1 : cz v = cz w + 2 := by rw [hv, hu]; rfl
        have z2 : cu v = cu w + 2 * L.length + 2 * L.length := by rw [hv, hu]; rfl
        unfold zm at c19 ⊢
        rw [z1, z2]
        exact ⟨by omega, by rw [rv]; simp; exact c80⟩
    have hv2 := h.st (c' := 2 * L.length) hB fv (fun r hr => by rw [List.mem_singleton.mp hr, c1]; exact ⟨c2, by decide⟩) Wv (fun _ => ROv)
    rw [← epa]
    exact sC_add73 hB hv2.1 ROv (by omega) (by omega) hπ hT ht (fun w' a b => hQ w' a (fun π => (b π).trans (epa π)))
  · refine br0 (by omega) ?_
    exact sC_add73 hB h hc (by omega) (by omega) hπ hT ht hQ
end ZRowC
