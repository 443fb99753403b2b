/-! the component's lay: one row -/
section ZLay3
variable {p b e d : Nat} {w : CW} {τ : TW}
theorem zst_row : zst 116 14 = true := by decide
theorem lay_one {wL : CW} {f F i m x A tot : Nat} {ps : List Pa} {rs : List (Nat × Nat)} {ALL : List Pa} (hBL : BS p (cz wL) wL τ F) (hU : RUL p wL τ (16 * f + i) x m) (hx : aR wL (fR wL 47 F) (i : Nat) = x) (h47 : tg wL (fR wL 47 F) = 117 ∧ ln wL (fR wL 47 F) = 16 ∧ i < 16) (h46 : fI wL 46 F = m) (hs : IArr p wL (fR wL 45 F) 3 ∧ ∀ j : Nat, j < m → aI wL (fR wL 45 F) j = tA τ 44 (3 * f + j : Nat)) (hAL : ALL.length ≤ 900) (hA : ∀ ρ, ρ ∈ allR τ (16 * f + i) → ρ ∈ ALL) (hps : ∀ ρ, ρ ∈ ps → ρ ∈ ALL) (hnp : np τ ≤ 900)
    (h : LSt p wL w τ f F ps A tot rs) (htot : rs.length < tot) (ht9 : tot ≤ 1000) {lim : Int} (hm : lim ≤ mu wL ∧ lim ≤ 5 * mz wL) (hlim : zm w + 22100 ≤ lim) {way : Nat} (hway : (way : Int) < tA τ 49 (16 * f + i : Nat)) (hd : 29 ≤ d) {Q : CW → Prop} {I19 I46 : Int → Int → CW → Prop} {x4 : Int} (h4 : x4 = tA τ 49 (16 * f + i : Nat))
    (hI : ∀ w' ps', LSt p wL w' τ f F ps' A tot (rs ++ [(16 * f + i, way)]) → (∀ ρ, ρ ∈ ps' → ρ ∈ ALL) → I46 ((rs.length + 1 : Nat) : Int) ((way + 1 : Nat) : Int) w') :
    (cz w + 1 ≤ mz w ∧ cu w + 5 ≤ mu w) ∧ ∀ u18 : CW, u18 = nO w 14 5 →
      (hF 47 (tg u18 F) = true) ∧
      ((111 ≤ tg u18 (fR u18 47 F) ∧ tg u18 (fR u18 47 F) ≤ 119) ∧ 0 ≤ (i : Int) ∧ (i : Int) < ln u18 (fR u18 47 F)) ∧
      wpC p (d + 1) 124 [ar (cz w + 1), ar (aR u18 (fR u18 47 F) (i : Int))] u18 (zqV (fun u22 =>
        pC_X4_lay_79 p (wpC p (d + 1)) Q I19 I46 F (rs.length : Nat) (i : Nat) (fR wL 58 x) x4 (way : Nat) (cz w + 1) x4 (way : Nat) 0 u22) zno) := by
  obtain ⟨⟨a1, a2, a3⟩, hPL, ⟨f1, f2, f3⟩, ⟨g1, g2, g3, g4⟩, hrows, hmem⟩ := id h
  obtain ⟨u1, u2, c, N, Di, Sn, u3, u4, u5, u6⟩ := hU
  obtain ⟨q1, q2, q3, q4, ⟨q5, q6⟩, q7⟩ := u5
  have hF' := hBL.F a1
  obtain ⟨hK, ekd⟩ := hBL.kr a1 a2
  have hz := a3.pz
  have lF := a3.le (r := F) (by rw [hF'.1]; decide)
  have emz : mz w = mz wL := a1.emz
  have emu : mu w = mu wL := a1.emu
  have e50 : fR w 50 F = fR wL 50 F := f2 50 (by decide)
  have e47 : fR w 47 F = fR wL 47 F := f2 47 (by decide)
  have e45 : fR w 45 F = fR wL 45 F := f2 45 (by decide)
  have o47 := hBL.ob a1 (r := fR wL 47 F) (by rw [h47.1]; decide) (by rw [h47.1]; decide) (by rw [h47.1]; decide)
  have o45 := hBL.ob a1 (r := fR wL 45 F) (by rw [hs.1.1]; decide) (by rw [hs.1.1]; decide) (by rw [hs.1.1]; decide)
  have l47 := a3.le (r := fR wL 47 F) (by rw [ob.etg o47, h47.1]; decide)
  have hB : BS p (cz w) w τ F := ⟨a3, rfl, hK, hF', hPL.2.1.1, hPL.2.1.2.2⟩
  obtain ⟨ru, rup⟩ := nrW_ri (ru := x) hB hPL
  unfold zm at hlim
  refine ⟨by omega, fa ⟨?_, ?_, ?_⟩⟩
  · show hF 47 (if F = cz w + 1 then 14 else tg w F) = true
    rw [if_neg (by omega), hF'.1]; decide
  · have r47 : fR (nO w 14 5) 47 F = fR wL 47 F := by
      show (if F = cz w + 1 then 0 else fR w 47 F) = _
      rw [if_neg (by omega), e47]
    rw [r47]
    show (111 ≤ (if fR wL 47 F = cz w + 1 then 14 else tg w (fR wL 47 F)) ∧ (if fR wL 47 F = cz w + 1 then 14 else tg w (fR wL 47 F)) ≤ 119) ∧ 0 ≤ (i : Int) ∧ (i : Int) < ln w (fR wL 47 F)
    rw [if_neg (by omega), ob.etg o47, ob.eln o47, h47.1, h47.2.1]
    omega
  have r47 : fR (nO w 14 5) 47 F = fR wL 47 F := by
    show (if F = cz w + 1 then 0 else fR w 47 F) = _
    rw [if_neg (by omega), e47]
  have a47 : aR (nO w 14 5) (fR wL 47 F) (i : Int) = x := by
    show aR w (fR wL 47 F) i = x
    rw [ob.eaR o47]; exact hx
  rw [r47, a47]
  refine sC_newRow (d := d) (by omega) ?_
  show pC_X4_lay_79 p (wpC p (d + 1)) Q I19 I46 F (rs.length : Nat) (i : Nat) (fR wL 58 x) x4 (way : Nat) (cz w + 1) x4 (way : Nat) 0 (nrW w x)
  refine bC_X4_lay_79 ?_
  intro I hIl
  have oA := hBL.ob a1 (r := fR wL 58 x) (by rw [u2.1]; decide) (by rw [u2.1]; decide) (by rw [u2.1]; decide)
  have hP58 : PArr (p + 8) w (fR wL 58 x) m := ⟨by rw [ob.etg oA]; exact u2.1, by rw [ob.eln oA]; exact u2.2.1, u2.2.2⟩
  have hmemc : ∀ j, j < m → c j ∈ lsN c 0 m := fun j hj => List.mem_of_getElem? (by have := lsN_at (c := c) (i := 0) hj; rw [Nat.zero_add] at this; exact this)
  rw [u3] at q1 q4 q5 q7
  have h40 : ∀ j, j < m → 1 ≤ tA τ 26 (c j) ∧ tA τ 26 (c j) ≤ 40 := fun j hj => by
    have := q4 (c j) (hmemc j hj)
    exact ⟨this.1.2.2.2.1, this.1.2.2.2.2⟩
  have hpn : prN τ (lsN c 0 m) ≤ 40 := by omega
  have hm' : lim ≤ mu w ∧ lim ≤ 5 * mz w := by rw [emz, emu]; exact hm
  have hzb : (zm w + 1 - 11 * (ps.length : Nat)) + 22000 ≤ lim := by unfold zm; omega
  have hS : ∀ k j π, π ≠ [] → k < nK τ → srP τ f ((k, j) :: π) = tA τ 15 (4 * k + j : Nat) := fun k j π _ hk => by
    have := hK.k24 hk
    show (if k = 24 then _ else _) = _
    rw [if_neg (by omega)]
  have hPj : ∀ j, j < m → PRel p (p + 8) w τ Sn 7 (N j) (aR w (fR wL 58 x) j) (c j) (Di j) := fun j hj => by
    rw [ob.eaR oA]
    exact hBL.prel a1 a2 (u6 j hj).1
  have mem1 : ∀ i', i' < m → [(24, i')] ∈ ALL ∧ ∀ ρ, ρ ∈ sub τ 7 (c i') [(24, i')] → ρ ∈ ALL := fun i' hi' => by
    have hzz : (c i', i') ∈ (lsN c 0 m).zipIdx := by
      rw [List.mem_zipIdx_iff_getElem?]
      have := lsN_at (c := c) (i := 0) hi'
      rw [Nat.zero_add] at this
      exact this
    have all : ∀ ρ, ρ ∈ [(24, i')] :: sub τ 7 (c i') [(24, i')] → ρ ∈ ALL := fun ρ hρ => hA ρ (by
      unfold allR
      rw [u3]
      exact List.mem_flatten.mpr ⟨_, List.mem_map.mpr ⟨(c i', i'), hzz, rfl⟩, hρ⟩)
    exact ⟨all _ (List.mem_cons_self ..), fun ρ hρ => all ρ (List.mem_cons_of_mem _ hρ)⟩
  have row := rowK (S := srP τ f) (Sn := Sn) (ALL := ALL) (x := cz w + 1) (rr := x) (zb := zm w + 1 - 11 * (ps.length : Nat)) (n := 7) (a := fR wL 58 x) (way := way) (R := fun w2 => pC_X4_lay_143 p (wpC p (d + 1)) Q I19 I46 F (rs.length : Nat) (i : Nat) (fR wL 58 x) x4 (way : Nat) (cz w + 1) w2) hB hm' hzb hAL ⟨hP58, q3.2, (f1 46 (by decide)).trans h46⟩ ⟨⟨by rw [e45, ob.etg o45]; exact hs.1.1, by rw [e45, ob.eln o45]; exact hs.1.2.1, by rw [e45]; exact hs.1.2.2⟩, fun j hj => by rw [e45, ob.eaI o45, hs.2 j hj]; rfl⟩ hPj h40 hpn (fun j hj => q4 _ (hmemc j hj)) (fun j hj => PRel.row hB hm' hzb hAL hS 7 _ _ _ _ (hPj j hj) (u6 j hj).2 (q4 _ (hmemc j hj))) (by omega) (by decide) hIl m 0 (by omega) (nrW w x) ps [] (fun _ => none) ru (fun i' _ hi' => mem1 i' hi') hps (by simp; omega) (fun w2 ps2 h2 ext2 all2 more2 => ?_)
  · have e1 : ((prN τ (lsN c 0 m) : Nat) : Int) = x4 := by rw [h4]; omega
    have e2 : way % prN τ (lsN c 0 m) = way := Nat.mod_eq_of_lt (by omega)
    rw [e1, e2] at row
    exact row
  · show pC_X4_lay_143 p (wpC p (d + 1)) Q I19 I46 F (rs.length : Nat) (i : Nat) (fR wL 58 x) x4 (way : Nat) (cz w + 1) w2
    have eT : [] ++ tsL (tst τ 7) τ 24 [] 0 (lsN c 0 m) way = tsR τ (16 * f + i) way := by
      rw [List.nil_append]; unfold tsR; rw [u3]
    have eN : nbL (nbF τ 7) τ 24 [] 0 (lsN c 0 m) way (fun _ => none) = nbR τ (16 * f + i) way := by unfold nbR; rw [u3]
    rw [eT, eN] at h2
    obtain ⟨rw2, lx2, zm2⟩ := h2.rw hB
    have rwl2 := h2.rwl
    obtain ⟨⟨b1, b2, b3⟩, hPL2, ⟨d1, d2⟩, -⟩ := h2
    have hF2 := hB.F b1
    have e49 : fR w2 49 F = A := (d2 49).trans f3
    have oAw := hB.ob b1 (r := A) (by rw [g1]; decide) (by rw [g1]; decide) (by rw [g1]; decide)
    have tA2 : tg w2 A = 116 := by rw [ob.etg oAw]; exact g1
    refine bC_X4_lay_143 ⟨by rw [hF2.1]; decide, ⟨by rw [e49, tA2]; decide, by omega, by rw [e49, ob.eln oAw, g2]; omega⟩, Or.inr (by rw [e49, tA2, rw2.1.1]; decide), fa ?_⟩
    rw [e49, w32_s (a := (rs.length : Int) + 1) (by omega) (by omega), w32_s (a := (way : Int) + 1) (by omega) (by omega)]
    refine fa (fa ?_)
    obtain ⟨v, hv⟩ : ∃ v, v = qR w2 A (rs.length : Nat) (cz w + 1) := ⟨_, rfl⟩
    rw [← hv]
    have fv : Fr [A] w2 v := by rw [hv]; exact (Fr.refl _ _).sqR (Or.inl (by simp))
    have lA : A ≤ cz w2 := Nat.le_trans g4 b1.1
    have bl := hBL.le
    have ov : ∀ r, r ≤ cz w2 → r ≠ A → ob v r = ob w2 r := fun r hr hne => fv.2.2.2.2 r hr (fun y => hne (List.mem_singleton.mp y))
    have Wv : WF p v := by rw [hv]; exact b3.sqR _ _ _
    have hp2 := b3.pz
    have op := ov p hp2 (by omega)
    have lF2 := b3.le (r := F) (by rw [hF2.1]; decide)
    have oF := ov F lF2 (by omega)
    have e50' : fR w2 50 F = fR wL 50 F := (d2 50).trans e50
    have lpa : fR w2 50 F ≤ cz w2 := b3.le (by rw [hPL2.2.1.1]; decide)
    have opa := ov (fR w2 50 F) lpa (by omega)
    have k2 := (hB.kr b1 b2).1
    have kdv : ∀ k, kd v p k = kd w2 p k := fun k => by
      have l0 := b3.le (r := fR w2 0 p) (by rw [k2.1.1]; decide)
      have q0 : fR w2 0 p ≤ p + 8 := k2.1.2.2.2.1
      unfold kd
      rw [ob.efR op]
      exact ob.eaR (ov _ l0 (by omega)) k
    have keepv := hPL2.keep (w' := v) (ob.efI oF 51) (ob.efR oF 50) opa (fun r hr => ov r (b3.le (by rw [hr]; decide)) (fun y => by rw [y, tA2] at hr; cases hr)) kdv
    have F2 : Fr [F, fR wL 50 F] wL w2 := by
      have := a1.trans (w'' := w2) (by rw [← e50]; exact b1)
      exact this
    have rowsV : ∀ r', p + 8 < r' → (tg w2 r' = 14 ∨ tg w2 r' = 118 ∨ (7 ≤ tg w2 r' ∧ tg w2 r' ≤ 12) ∨ (tg w2 r' = 115 ∧ r' ≠ fR w2 50 F)) → ob v r' = ob w2 r' := fun r' _ ht => ov r' (b3.le (by omega)) (fun y => by rw [y, tA2] at ht; omega)
    have plv : ∀ ρ, ρ ∈ ps2 → ρ ∈ ps2 ∧ plo v F ps2 ρ = plo w2 F ps2 ρ := fun ρ hρ => ⟨hρ, keepv.2 ρ⟩
    have aA : ∀ j : Nat, aR v A j = if j = rs.length then cz w + 1 else aR w A j := fun j => by
      rw [hv]
      show (if A = A ∧ (j : Int) = (rs.length : Nat) then _ else aR w2 A j) = _
      by_cases z : j = rs.length
      · rw [if_pos ⟨rfl, by omega⟩, if_pos z]
      · rw [if_neg (by omega), if_neg z, ob.eaR oAw]
    refine hI v ps2 ⟨⟨F2.trans' fv (fun r hr => by rw [List.mem_singleton.mp hr]; exact Or.inr g3), a2.trans (b2.trans (PF.of fv hp2 (fun y => by have := List.mem_singleton.mp y; omega))), Wv⟩, keepv.1, ⟨fun g hg => (ob.efI oF g).trans ((d1 g hg).trans (f1 g hg)), fun g hg => (ob.efR oF g).trans ((d2 g).trans (f2 g hg)), (ob.efR oF 49).trans e49⟩, ⟨by rw [(fv.2.2.2.1 A lA).1]; exact tA2, by rw [(fv.2.2.2.1 A lA).2, ob.eln oAw]; exact g2, g3, Nat.le_trans lA fv.1⟩, fun j y hy => ?_, ?_⟩ all2
    · rw [aA]
      rcases Nat.lt_or_ge j rs.length with z | z
      · rw [List.getElem?_append_left z] at hy
        rw [if_neg (by omega)]
        obtain ⟨old, oldl⟩ := hrows j y hy
        have old2 := old.keep (w' := w2) (ps' := ps2) (fun r' _ ht => b1.2.2.2.2 r' (a3.le (by omega)) (fun y => by
          rcases List.mem_cons.mp y with y | y
          · rw [y, hF'.1] at ht
            omega
          · rw [List.mem_singleton.mp y, hPL.2.1.1] at ht
            simp at ht)) (fun k => (hB.kr b1 b2).2 k) (d2 50) (fun ρ hρ => ⟨(ext2 ρ hρ).1, (ext2 ρ hρ).2.trans (rup ρ)⟩)
        refine ⟨old2.keep rowsV kdv (ob.efR oF 50) plv, ?_⟩
        have tx := old.1.1
        have lx := a3.le (r := aR w A (j : Nat)) (by rw [tx]; decide)
        have o1 : ob w2 (aR w A (j : Nat)) = ob w (aR w A (j : Nat)) := b1.2.2.2.2 _ lx (fun y => by
          rcases List.mem_cons.mp y with y | y
          · rw [y, hF'.1] at tx
            cases tx
          · rw [List.mem_singleton.mp y, hPL.2.1.1] at tx
            cases tx)
        have o2 := ov (aR w A (j : Nat)) (Nat.le_trans lx b1.1) (fun y => by rw [y] at tx; rw [g1] at tx; cases tx)
        exact (oldl.ob o1).ob o2
      · have hl := (List.getElem?_eq_some_iff.mp hy).1
        rw [List.length_append] at hl
        have hj2 : j = rs.length := by simp at hl; omega
        subst hj2
        have ey : y = (16 * f + i, way) := by
          rw [List.getElem?_append_right (Nat.le_refl _)] at hy
          simpa using hy.symm
        subst ey
        rw [if_pos rfl]
        have e16 : (((16 * f + i, way).1 - 16 * f : Nat) : Int) = (i : Nat) := by
          show ((16 * f + i - 16 * f : Nat) : Int) = _
          rw [Nat.add_sub_cancel_left]
        rw [e16, hx]
        refine ⟨rw2.keep rowsV kdv (ob.efR oF 50) plv, ?_⟩
        have o2 := ov (cz w + 1) lx2 (fun y => by have := rw2.1.1; rw [y, tA2] at this; cases this)
        have q := a1.1
        obtain ⟨r1, r2, r3, r4⟩ := rwl2.ob o2
        exact ⟨by omega, by omega, by omega, by omega⟩
    · have zv : zm v = zm w2 := by
        have z1 : cz v = cz w2 := by rw [hv]; rfl
        have z2 : cu v = cu w2 := by rw [hv]; rfl
        unfold zm
        rw [z1, z2]
      have ol := off_last (τ := τ) rs (16 * f + i, way)
      rw [zv, ol]
      have hl2 : (rs ++ [(16 * f + i, way)]).length = rs.length + 1 := by simp
      rw [hl2]
      have hmm : zm w ≤ zm wL + 5 + tot + 49 * rs.length + 12 * off τ rs rs.length + 11 * ps.length := hmem
      show zm w2 ≤ zm wL + 5 + tot + 49 * ((rs.length + 1 : Nat) : Int) + 12 * ((off τ rs rs.length + (tsR τ (16 * f + i) way).length : Nat) : Int) + 11 * (ps2.length : Nat)
      omega
end ZLay3
