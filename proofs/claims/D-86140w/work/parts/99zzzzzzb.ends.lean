/-! the component's trees: an end, with a guard or without -/
section ZEnds
variable {p b e d f F M n wy : Nat} {wS w : CW} {τ : TW} {rs rows : List (Nat × Nat)} {ps : List Pa} {P : Sp} {O : List (Pa × Int)} {ro : Nat × Nat → Nat} {ru : Nat → Nat}
theorem sC_ainit {x row : Nat} (hx : tg w x = 20 ∨ tg w x = 21) (W : WF p w) (hm : cz w + 1 ≤ mz w ∧ cu w + 0 ≤ mu w) {Q : ZRes → CW → Prop} (hQ : Q (.inl none) (pR (ndW w x n) 108 x row)) : wpC p (d + 2) 162 [ar x, ai (n : Nat), ar row] w Q := by
  have x0 : x ≠ 0 := fun q => by have := W.1; rw [q] at hx; omega
  have xz := W.le (r := x) (by omega)
  refine wC_X23_init (Nat.zero_le _) (bC_X23_init_0 ⟨x0, sC_ninit (by omega) W hm ⟨?_, fa hQ⟩⟩)
  show hP 108 (tg (nA w 113 0) x) = true
  rw [tg_nA, if_neg (by omega)]
  rcases hx with q | q <;> rw [q] <;> decide
theorem NCX.first {lim : Int} {m A : Nat} (h : NCX p wS w τ f F ps rs rows ro ru M wy lim m n A P O) {x : Nat × Nat} (h1 : ndE τ rs P = some x) : rows[0]? = some x ∧ x ∈ rs ∧ x ∈ rows := by
  obtain ⟨-, -, -, -, ⟨hR, -, hrw, -⟩, -⟩ := h
  unfold ndE at h1
  rw [← hrw] at h1
  have e : rows[0]? = some x := by rw [← h1]; exact (List.head?_eq_getElem? ..).symm
  have hm := List.mem_of_getElem? e
  exact ⟨e, (hR.2 x hm).1, hm⟩
theorem sC_ends {lim : Int} {m A : Nat} {x : Nat × Nat} (hI : MKP p wS τ f F ps rs ro ru M wy lim (d + 6) m) (h : NCX p wS w τ f F ps rs rows ro ru M wy lim m n A P O) (h1 : ndE τ rs P = some x) (h2 : chs τ wy P (rws τ rs P) (ask τ P x) = none) {Q : ZRes → CW → Prop} (hQ : NCQ p wS w τ f F ps rs ro ru M wy m n P O (fun r w' => Q (.inl (some (ar r))) w') (fun x w' => Q (.inr x) w')) : wpC p (d + 7) 134 [ar M, ai (n : Nat), ar A, ai (rows.length : Nat)] w Q := by
  obtain ⟨hMz, hMp, hMt⟩ := h.mm
  obtain ⟨hW, hK, hOl, hA, ⟨hR, hg, hrw, hPs⟩, ⟨h92, h93, hn, hm2⟩, hmu, hlim⟩ := id h
  have W := hW.2.2.2.1
  obtain ⟨x1, x2, x3⟩ := h.first h1
  have lr : 0 < rows.length := (List.getElem?_eq_some_iff.mp x1).1
  have lr40 := hR.1
  have ax : aR w A 0 = ro x := hA.2.2 0 x x1
  have hS := hW.t
  obtain ⟨r1, r2, r3, -⟩ := hS.row x2
  obtain ⟨u5, u59⟩ := hS.2.2.2.2.1 x x2
  have ec := chd_end (wy := wy) h1 h2
  obtain ⟨r, hr⟩ : ∃ r, r = cz w + 1 := ⟨_, rfl⟩
  have pr : p ≠ r := by omega
  refine wC_X18_ends (Nat.zero_le _) (bC_X18_ends_0 ⟨by rw [hA.1]; exact ⟨⟨by decide, by decide⟩, by omega, by have := hA.2.1; omega⟩, fa ?_⟩)
  rw [ax, r3, ← hr]
  refine ⟨by rw [r1]; decide, by rw [u5]; decide, ?_⟩
  by_cases g0 : tA τ 53 (x.1 : Nat) = 0
  · rw [if_pos g0] at ec
    refine br1 (u59.mpr g0) ⟨by rw [hr]; exact room_n (k := 3) hmu (by omega), fa ?_⟩
    obtain ⟨F1, W1, z1, z2, z3⟩ := nO_f W 20 3
    obtain ⟨u1, hu1⟩ : ∃ u1, u1 = nO w 20 3 := ⟨_, rfl⟩
    rw [← hu1] at F1 W1 z1 z2 z3 ⊢
    rw [← hr] at z1 z3
    have hmu1 : lim ≤ mu u1 ∧ lim ≤ 5 * mz u1 := by rw [F1.emu, F1.emz]; exact hmu
    refine sC_ainit (d := d + 4) (Or.inl z3) W1 (room_n (k := 0) hmu1 (by omega)) ?_
    obtain ⟨q1, q2, q3, q4, q5, q6, q7, q8, q9⟩ := ndW_f (n := n) W1 (x := r) (by omega) pr
    obtain ⟨v, hv⟩ : ∃ v, v = pR (ndW u1 r n) 108 r (ro x) := ⟨_, rfl⟩
    have fv : Fr [r] u1 v := by rw [hv]; exact q1.spR (Or.inl (by simp))
    have Wv : WF p v := by rw [hv]; exact q2.spR _ _ _
    have F0 : Fr [] w v := F1.trans' fv (fun q hq => by rw [List.mem_singleton.mp hq]; right; omega)
    have m0 : MW p wS v τ f F ps rs ro ru M := hW.sa F0 Wv (fun q hq => by cases hq)
    have k0 : KN p v τ f F M ps P O := hK.sa hW F0 m0 (fun q hq => by cases hq)
    have oM : ob v M = ob w M := F0.2.2.2.2 M (by omega) (by simp)
    have et : tsz τ rs wy (m + 1) P = 1 := by rw [tsz_s, ec]; rfl
    have t20 : tg v r = 20 := by rw [hv]; show tg (ndW u1 r n) r = 20; rw [q3, z3]
    have zv : zm v = zm w + 13 := by
      have : zm v = zm (ndW u1 r n) := by rw [hv]; rfl
      omega
    have f107 : fR v 107 r = cz u1 + 1 := by rw [hv, fR_pR, if_neg (by omega)]; exact q5
    have t107 : tg v (cz u1 + 1) = 113 ∧ ln v (cz u1 + 1) = 0 := by rw [hv]; exact q6
    show Q (.inl (some (ar r))) (pR (ndW u1 r n) 108 r (ro x))
    rw [← hv]
    refine hQ.1 r v (by rw [et]; omega) m0 k0 (F0.mono (fun q hq => by cases hq)) ⟨by rw [ob.efI oM]; exact h92, by rw [ob.efI oM, h93, et]⟩ (by rw [et]; omega) ⟨⟨by omega, by rw [t20]; decide, by rw [hv]; exact q4⟩, ⟨by rw [f107]; exact t107.1, by rw [f107, ec]; exact t107.2, by rw [f107]; omega⟩, fun q => by omega, ⟨fun q => absurd q (by rw [h1]; simp), fun x' hx' => ⟨fun _ => ?_, fun e' he' => ?_⟩⟩, fun i y hi => ?_⟩
    · rw [h1] at hx'
      rw [← Option.some.inj hx', if_pos g0]
      exact ⟨t20, by rw [hv, fR_pR, if_pos ⟨rfl, rfl⟩]⟩
    · rw [h1] at hx'
      rw [← Option.some.inj hx', h2] at he'
      cases he'
    · rw [ec] at hi
      simp at hi
  · rw [if_neg g0] at ec
    refine br0 (fun q => g0 (u59.mp q)) ⟨by rw [hr]; exact room_n (k := 3) hmu (by omega), fa ?_⟩
    obtain ⟨F1, W1, z1, z2, z3⟩ := nO_f W 21 3
    obtain ⟨u1, hu1⟩ : ∃ u1, u1 = nO w 21 3 := ⟨_, rfl⟩
    rw [← hu1] at F1 W1 z1 z2 z3 ⊢
    rw [← hr] at z1 z3
    have hmu1 : lim ≤ mu u1 ∧ lim ≤ 5 * mz u1 := by rw [F1.emu, F1.emz]; exact hmu
    refine wC_X24_init (Nat.zero_le _) (bC_X24_init_0 ⟨by omega, sC_ainit (d := d + 3) (Or.inr z3) W1 (room_n (k := 0) hmu1 (by omega)) ?_⟩)
    obtain ⟨q1, q2, q3, q4, q5, q6, q7, q8, q9⟩ := ndW_f (n := n) W1 (x := r) (by omega) pr
    obtain ⟨v, hv⟩ : ∃ v, v = pR (ndW u1 r n) 108 r (ro x) := ⟨_, rfl⟩
    have fv : Fr [r] u1 v := by rw [hv]; exact q1.spR (Or.inl (by simp))
    have Wv : WF p v := by rw [hv]; exact q2.spR _ _ _
    have t21 : tg v r = 21 := by rw [hv]; show tg (ndW u1 r n) r = 21; rw [q3, z3]
    have zv : zm v = zm w + 13 := by
      have : zm v = zm (ndW u1 r n) := by rw [hv]; rfl
      omega
    have cv : cz v = r + 1 := by
      have : cz v = cz (ndW u1 r n) := by rw [hv]; rfl
      omega
    have v106 : fI v 106 r = n := by rw [hv]; exact q4
    have v108 : fR v 108 r = ro x := by rw [hv, fR_pR, if_pos ⟨rfl, rfl⟩]
    have hmuv : lim ≤ mu v ∧ lim ≤ 5 * mz v := by rw [fv.emu, fv.emz]; exact hmu1
    show ((0 ≤ ((rows.length : Nat) : Int) ∧ ((rows.length : Nat) : Int) ≤ 1000000) ∧ cz (pR (ndW u1 r n) 108 r (ro x)) + 1 ≤ mz (pR (ndW u1 r n) 108 r (ro x)) ∧ cu (pR (ndW u1 r n) 108 r (ro x)) + Int.toNat ((rows.length : Nat) : Int) ≤ mu (pR (ndW u1 r n) 108 r (ro x))) ∧ _
    rw [← hv, Int.toNat_natCast]
    refine ⟨⟨⟨by omega, by omega⟩, room_n (k := rows.length) hmuv (by omega)⟩, fa ?_⟩
    obtain ⟨OA, hOA⟩ : ∃ OA, OA = cz v + 1 := ⟨_, rfl⟩
    obtain ⟨v1, hv1⟩ : ∃ v1, v1 = nA v 116 rows.length := ⟨_, rfl⟩
    show pC_X18_ends_51 p (wpC p (d + 6)) (fun v w => Q (.inl (some (ar v))) w) (fun x w => Q (.inr x) w) M A (rows.length : Nat) (ro x) r (cz v + 1) 0 1 (nA v 116 rows.length)
    rw [← hv1, ← hOA]
    have fv1 : Fr [] v v1 := by rw [hv1]; exact (Fr.refl _ _).snA
    have Wv1 : WF p v1 := by rw [hv1]; exact Wv.snA _ _
    have tOA : tg v1 OA = 116 ∧ ln v1 OA = rows.length ∧ cz v1 = OA := by
      rw [hv1, hOA]
      exact ⟨by rw [tg_nA, if_pos rfl], by rw [ln_nA, if_pos rfl], rfl⟩
    have zv1 : zm v1 = zm v + rows.length + 5 := by
      rw [hv1]
      show ((cu v + rows.length : Nat) : Int) + 5 * ((cz v + 1 : Nat) : Int) = ((cu v : Nat) : Int) + 5 * ((cz v : Nat) : Int) + _ + 5
      omega
    have F01 : Fr [] w v1 := (F1.trans' fv (fun q hq => by rw [List.mem_singleton.mp hq]; right; omega)).trans fv1
    obtain ⟨c, hc⟩ : ∃ c : Nat × Nat → Prop, c = fun y => y.1 ≠ x.1 := ⟨_, rfl⟩
    refine bC_X18_ends_51 ?_
    intro I hI2
    have key : ∀ t k : Nat, t + k = rows.length → 1 ≤ k → ∀ u, Fr [OA] v1 u → WF p u → cz u = cz v1 ∧ zm u = zm v1 → (∀ (i : Nat) y, (fil c (rows.take k))[i]? = some y → aR u OA (i : Nat) = ro y) → I ((fil c (rows.take k)).length : Nat) (k : Int) u := by
      intro t
      induction t with
      | zero =>
        intro k hk hk1 u fu Wu su hu
        have ek : rows.take k = rows := List.take_of_length_le (by omega)
        rw [ek] at hu ⊢
        obtain ⟨l', hl'⟩ : ∃ l', l' = fil c rows := ⟨_, rfl⟩
        rw [← hl'] at hu ⊢
        have ll' : l'.length ≤ rows.length := by rw [hl']; exact fil_len _
        have F0u : Fr [] w u := F01.trans' fu (fun q hq => by rw [List.mem_singleton.mp hq]; right; omega)
        have hmuu : lim ≤ mu u ∧ lim ≤ 5 * mz u := by rw [F0u.emu, F0u.emz]; exact hmu
        refine hI2 _ _ _ (br1 (by omega) (bC_X18_ends_90 (call := wpC p (d + 6)) ⟨⟨⟨by decide, by decide⟩, room_n (k := 1) hmuu (by omega)⟩, fa ⟨?_, ?_⟩⟩))
        · show tg (nA u 113 1) M = 16
          rw [tg_nA, if_neg (by have := F0u.1; omega), (F0u.2.2.2.1 M (by omega)).1]
          exact hMt
        · obtain ⟨NX, hNX⟩ : ∃ NX, NX = cz u + 1 := ⟨_, rfl⟩
          obtain ⟨w0, hw0⟩ : ∃ w0, w0 = nA u 113 1 := ⟨_, rfl⟩
          show wpC p (d + 6) 133 [ar M, ar OA, ai (l'.length : Nat)] (nA u 113 1) _
          rw [← hw0, ← hNX]
          have f0 : Fr [] u w0 := by rw [hw0]; exact (Fr.refl _ _).snA
          have W0 : WF p w0 := by rw [hw0]; exact Wu.snA _ _
          have tN : tg w0 NX = 113 ∧ ln w0 NX = 1 ∧ cz w0 = NX := by
            rw [hw0, hNX]
            exact ⟨by rw [tg_nA, if_pos rfl], by rw [ln_nA, if_pos rfl], rfl⟩
          have z0 : zm w0 = zm u + 6 := by
            rw [hw0]
            show ((cu u + 1 : Nat) : Int) + 5 * ((cz u + 1 : Nat) : Int) = ((cu u : Nat) : Int) + 5 * ((cz u : Nat) : Int) + 6
            omega
          have F0 : Fr [] w w0 := F0u.trans f0
          have m0 : MW p wS w0 τ f F ps rs ro ru M := hW.sa F0 W0 (fun q hq => by cases hq)
          have k0 : KN p w0 τ f F M ps P O := hK.sa hW F0 m0 (fun q hq => by cases hq)
          have oM : ob w0 M = ob w M := F0.2.2.2.2 M (by omega) (by simp)
          have oOA : ob w0 OA = ob u OA := f0.2.2.2.2 OA (by omega) (by simp)
          have a0 : ARW w0 OA l' ro := ⟨by rw [ob.etg oOA, (fu.2.2.2.1 OA (by omega)).1]; exact tOA.1, by rw [ob.eln oOA, (fu.2.2.2.1 OA (by omega)).2, tOA.2.1]; exact ll', fun i y hi => by rw [ob.eaR oOA]; exact hu i y hi⟩
          have L0 := LSB.z (n := n) (m := m) (NX := NX) (cs := chd τ rs wy P) m0 a0 (by rw [ob.efI oM]; exact h92) (by rw [ob.efI oM]; exact h93) hn
          have lmu : lim ≤ mu w0 ∧ lim ≤ 5 * mz w0 := by rw [F0.emu, F0.emz]; exact hmu
          have hy : (chd τ rs wy P)[0]? = some ((0, 0, 0, 0), .inl x.1 :: P) := by rw [ec]; rfl
          have k0' : KN p w0 τ f F M ps (.inl x.1 :: P) O := k0
          have lm : ∀ y, y ∈ l' → y ∈ rows ∧ y.1 ≠ x.1 := fun y hy => by
            rw [hl', mem_fil] at hy
            rw [hc] at hy
            exact hy
          have RW' : RWS τ rs l' (.inl x.1 :: P) O := ⟨by omega, fun y hy => ⟨(hR.2 y (lm y hy).1).1, (hR.2 y (lm y hy).1).2⟩⟩
          have hP' : PSd τ f (.inl x.1 :: P) := hPs
          have hf' : fil (liv τ (.inl x.1 :: P)) l' = rws τ rs (.inl x.1 :: P) := by
            rw [hl', hc, fil_fil (fun y hy q => hy.1 (by rw [q]; exact List.mem_cons_self ..)), hrw]
            exact fil_fil (fun y hy => liv_tl hP' hy) rs
          have es1 : prs τ rs wy m (chd τ rs wy P) (0 + 1) = ((chd τ rs wy P).map (fun y => tsz τ rs wy m y.2)).sum := by
            have := prs_all (τ := τ) (rs := rs) (wy := wy) m (chd τ rs wy P)
            rw [show (chd τ rs wy P).length = 1 by rw [ec]; rfl] at this
            exact this
          have b2' : r ≤ cz w0 := by have := f0.1; omega
          have := mk_kid (n := n) (j := 0) (K := fun u17 => (hP 107 (tg u17 r) = true) ∧ ∀ u20 : CW, u20 = pR u17 107 r NX → Q (.inl (some (ar r))) u20) (X := fun x w' => Q (.inr x) w') hI L0 hy (Fr.refl _ _) m0 ⟨rfl, rfl, rfl, rfl⟩ k0' (by omega) RW' (fun y hy q => by
            rcases List.mem_cons.mp q with z | z
            · exact (lm y hy).2 z
            · exact hg y (lm y hy).1 z) hf' hP' ⟨by omega, tN.1, by rw [tN.2.1]; omega⟩ (by omega) hm2 lmu (by omega) (fun u2 hL2 hK2 => ?_) (fun x' u' hgt hx' => ?_)
          · exact this
          · obtain ⟨l1, l2, ⟨l3, l4⟩, l5, l6, l7, l8⟩ := hL2
            have nn : ∀ q, cz w < q → q ≠ NX → q ∉ NX :: MT M := fun q y1 y2 y3 => by
              rcases List.mem_cons.mp y3 with z | z
              · exact y2 z
              · have := mem_MT.mp z; omega
            have oR := l6.2.2.2.2 r b2' (nn r (by omega) (by omega))
            have oR0 : ob w0 r = ob u r := f0.2.2.2.2 r (by omega) (by simp)
            have oR1 : ob u r = ob v r := by
              rw [fu.2.2.2.2 r (by omega) (fun q => by have := List.mem_singleton.mp q; omega), fv1.2.2.2.2 r (by omega) (by simp)]
            have oRR : ob u2 r = ob v r := by rw [oR, oR0, oR1]
            refine ⟨by rw [ob.etg oRR, t21]; decide, fa ?_⟩
            obtain ⟨uF, huF⟩ : ∃ uF, uF = pR u2 107 r NX := ⟨_, rfl⟩
            rw [← huF]
            have fF : Fr [r] u2 uF := by rw [huF]; exact (Fr.refl _ _).spR (Or.inl (by simp))
            have WF' : WF p uF := by rw [huF]; exact l1.2.2.2.1.spR _ _ _
            have mF : MW p wS uF τ f F ps rs ro ru M := l1.sa fF WF' (fun q hq => by rw [List.mem_singleton.mp hq]; omega)
            have kF : KN p uF τ f F M ps P O := hK2.sa l1 fF mF (fun q hq => by rw [List.mem_singleton.mp hq]; right; omega)
            have FF : Fr (MT M) w uF := ((F0.mono (T' := MT M) (fun q hq => by cases hq)).trans' l6 (fun q hq => by
              rcases List.mem_cons.mp hq with z | z
              · right; omega
              · exact Or.inl z)).trans' fF (fun q hq => by rw [List.mem_singleton.mp hq]; right; omega)
            have oMF : ob uF M = ob u2 M := fF.2.2.2.2 M (by have := l1.2.2.2.2.2; omega) (fun q => by have := List.mem_singleton.mp q; omega)
            have zF : zm uF = zm u2 := by rw [huF]; rfl
            have oN : ob uF NX = ob u2 NX := fF.2.2.2.2 NX (by have := l6.1; omega) (fun q => by have := List.mem_singleton.mp q; omega)
            have tNF : tg uF NX = 113 ∧ ln uF NX = 1 := by
              rw [ob.etg oN, ob.eln oN, (l6.2.2.2.1 NX (by omega)).1, (l6.2.2.2.1 NX (by omega)).2]
              exact ⟨tN.1, tN.2.1⟩
            have tRF : tg uF r = 21 ∧ fI uF 106 r = n ∧ fR uF 107 r = NX ∧ fR uF 108 r = ro x := by
              rw [huF]
              refine ⟨?_, ?_, by rw [fR_pR, if_pos ⟨rfl, rfl⟩], by rw [fR_pR, if_neg (by omega), ob.efR oRR]; exact v108⟩
              · show tg u2 r = 21
                rw [ob.etg oRR]; exact t21
              · show fI u2 106 r = n
                rw [ob.efI oRR]; exact v106
            refine hQ.1 r uF (by rw [tsz_s, ← es1]; omega) mF kF FF ⟨by rw [ob.efI oMF]; exact l3, by rw [ob.efI oMF, l4, tsz_s, ← es1]; omega⟩ (by rw [tsz_s, ← es1]; omega) ⟨⟨by omega, by rw [tRF.1]; decide, tRF.2.1⟩, ⟨by rw [tRF.2.2.1]; exact tNF.1, by rw [tRF.2.2.1, tNF.2, ec]; rfl, by rw [tRF.2.2.1]; omega⟩, fun q => by omega, ⟨fun q => absurd q (by rw [h1]; simp), fun x' hx' => ⟨fun _ => ?_, fun e' he' => ?_⟩⟩, fun i y hi => ?_⟩
            · rw [h1] at hx'
              rw [← Option.some.inj hx', if_neg g0]
              exact ⟨tRF.1, tRF.2.2.2⟩
            · rw [h1] at hx'
              rw [← Option.some.inj hx', h2] at he'
              cases he'
            · have i1 : i < 1 := by
                have := (List.getElem?_eq_some_iff.mp hi).1
                rw [ec] at this
                exact this
              rw [tRF.2.2.1, ob.eaR oN]
              refine CTn.lo F0.1 _ _ _ _ (CTn.fr (p := p) l1.2.2.2.1 fF (fun g hg => ?_) (l8 i y i1 hi))
              rw [List.mem_singleton.mp hg]
              exact Or.inl b2'
          · refine hQ.2 x' u' (by rw [tsz_s, ← es1]; omega) (mkx_up (F0.mono (fun q hq => by cases hq)) (by omega) (by omega) hx')
      | succ t ih =>
        intro k hk hk1 u fu Wu su hu
        obtain ⟨y, hy⟩ : ∃ y, rows[k]? = some y := ⟨_, List.getElem?_eq_getElem (by omega)⟩
        have hyr := List.mem_of_getElem? hy
        have F0u : Fr [] w u := F01.trans' fu (fun q hq => by rw [List.mem_singleton.mp hq]; right; omega)
        have mu' : MW p wS u τ f F ps rs ro ru M := hW.sa F0u Wu (fun q hq => by cases hq)
        obtain ⟨y1, y2, y3, -⟩ := mu'.t.row (hR.2 y hyr).1
        obtain ⟨w1', w2', w3', -⟩ := mu'.t.row x2
        have aA : ARW u A rows ro := hA.fr (p := p) W F0u (fun q hq => by cases hq)
        have ay := aA.2.2 k y hy
        obtain ⟨g1, g0'⟩ := fil_snoc (c := c) hy
        have fll : (fil c (rows.take k)).length ≤ k := Nat.le_trans (fil_len _) (by rw [List.length_take]; omega)
        have tO : tg u OA = 116 ∧ ln u OA = rows.length := by
          rw [(fu.2.2.2.1 OA (by omega)).1, (fu.2.2.2.1 OA (by omega)).2]
          exact ⟨tOA.1, tOA.2.1⟩
        refine hI2 _ _ _ (br0 (by omega) ⟨by rw [aA.1]; exact ⟨⟨by decide, by decide⟩, by omega, by have := aA.2.1; omega⟩, by rw [ay, y1]; decide, by rw [w1']; decide, ?_⟩)
        rw [ay, y3, w3']
        refine ⟨fun z => bC_X18_ends_84 (call := wpC p (d + 6)) (fa ?_), fun z => ⟨by rw [aA.1]; exact ⟨⟨by decide, by decide⟩, by omega, by have := aA.2.1; omega⟩, by rw [tO.1, tO.2]; exact ⟨⟨by decide, by decide⟩, by omega, by omega⟩, Or.inr (by rw [y1, tO.1]; rfl), fa (fa (bC_X18_ends_84 (call := wpC p (d + 6)) (fa ?_)))⟩⟩
        · rw [w32_s (by omega) (by omega)]
          have yx : y.1 = x.1 := hS.2.2.2.2.2 y x (hR.2 y hyr).1 x2 z
          have ef := g0' (by rw [hc]; exact fun q => q yx)
          have := ih (k + 1) (by omega) (by omega) u fu Wu su (by rw [ef]; exact hu)
          rw [ef] at this
          exact this
        · rw [w32_s (by omega) (by omega), w32_s (by omega) (by omega)]
          have yx : y.1 ≠ x.1 := fun q => z (by rw [q])
          obtain ⟨u', hu'⟩ : ∃ u', u' = qR u OA ((fil c (rows.take k)).length : Nat) (ro y) := ⟨_, rfl⟩
          rw [← hu']
          have cy : c y := by rw [hc]; exact yx
          have := ih (k + 1) (by omega) (by omega) u' (fu.trans (by rw [hu']; exact (Fr.refl _ _).sqR (Or.inl (by simp)))) (by rw [hu']; exact Wu.sqR _ _ _) (by rw [hu']; exact su) (fun i y' hi => ?_)
          · rw [g1 cy] at this
            exact this
          · rw [fil_take hy, fil_cons_1 cy, fil_nil] at hi
            rw [hu', aR_qR]
            rcases get_app hi with ⟨i1, i2⟩ | ⟨i1, i2⟩
            · rw [if_neg (by omega)]
              exact hu i y' i2
            · rw [if_pos ⟨rfl, by omega⟩, i2]
    have f1e : fil c (rows.take 1) = [] := by
      have : rows.take 1 = [x] := by
        rw [List.take_succ, x1]
        rfl
      rw [this, fil_cons_0 (by rw [hc]; exact fun q => q rfl), fil_nil]
    have := key (rows.length - 1) 1 (by omega) (Nat.le_refl 1) v1 (Fr.refl _ _) Wv1 ⟨rfl, rfl⟩ (fun i y hi => by rw [f1e] at hi; simp at hi)
    rw [f1e] at this
    exact this
end ZEnds
