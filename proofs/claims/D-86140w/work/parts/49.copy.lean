/-! System.arraycopy -/
section ZCopy
variable {Γ : ZG CW} {cc : ByteArray} {own : String} {nL : Nat} {D : CD} {w : CW} {pc : Nat} {ls : List (Nat × ZA)} {st : List ZA} {d' : Nat} {lim : Nat × Nat} {rt : Option FieldType} {name : String} {hh : List (Nat × Nat × Nat × Nat)}
/-- what may be copied: kinds of the two arrays, and the elements -/
def cpOk (w : CW) (s : Nat) (sp : Int) (r : Nat) (n : Int) : Prop :=
  (tg w s = 102 ∧ tg w r = 102) ∨ (tg w s = 103 ∧ tg w r = 103) ∨ ((tg w s = 101 ∨ tg w s = 106) ∧ tg w r = 101 ∧ ∀ i : Int, sp ≤ i → i < sp + n → -128 ≤ aI w s i ∧ aI w s i ≤ 127) ∨ ((111 ≤ tg w r ∧ tg w r ≤ 119) ∧ (111 ≤ tg w s ∧ tg w s ≤ 119) ∧ ∀ i : Int, sp ≤ i → i < sp + n → aR w s i = 0 ∨ zst (tg w r) (tg w (aR w s i)) = true)
def qC (w : CW) (s : Nat) (sp : Int) (r : Nat) (dp n : Int) : CW := (w.1, w.2.1, w.2.2.1, w.2.2.2.1, (fun q j => if q = r ∧ dp ≤ j ∧ j < dp + n then aI w s (sp + (j - dp)) else aI w q j), (fun q j => if q = r ∧ dp ≤ j ∧ j < dp + n then aR w s (sp + (j - dp)) else aR w q j), w.2.2.2.2.2.2)
theorem aI_qC (s : Nat) (sp : Int) (r : Nat) (dp n : Int) (q : Nat) (j : Int) : aI (qC w s sp r dp n) q j = if q = r ∧ dp ≤ j ∧ j < dp + n then aI w s (sp + (j - dp)) else aI w q j := rfl
theorem aR_qC (s : Nat) (sp : Int) (r : Nat) (dp n : Int) (q : Nat) (j : Int) : aR (qC w s sp r dp n) q j = if q = r ∧ dp ≤ j ∧ j < dp + n then aR w s (sp + (j - dp)) else aR w q j := rfl
theorem cpOk.tags {s r : Nat} {sp n : Int} (h : cpOk w s sp r n) : (101 ≤ tg w s ∧ tg w s ≤ 119 ∧ (tg w s < 107 ∨ 111 ≤ tg w s)) ∧ (101 ≤ tg w r ∧ tg w r ≤ 119 ∧ (tg w r < 107 ∨ 111 ≤ tg w r)) ∧ tg w r ≠ 106 ∧ (tg w s = 103 ↔ tg w r = 103) ∧ (110 ≤ tg w s ↔ 110 ≤ tg w r) := by
  rcases h with ⟨h1, h2⟩ | ⟨h1, h2⟩ | ⟨h1, h2, -⟩ | ⟨h1, h2, -⟩ <;> omega
theorem aV_qCo {s r : Nat} {sp dp n : Int} (q j : Nat) (h : q ≠ r) : aV (qC w s sp r dp n) q j = aV w q j := by
  have e : aI (qC w s sp r dp n) q j = aI w q j := by rw [aI_qC, if_neg (fun z => h z.1)]
  have e2 : aR (qC w s sp r dp n) q j = aR w q j := by rw [aR_qC, if_neg (fun z => h z.1)]
  unfold aV
  rw [e, e2]
  rfl
theorem aV_qC {s r : Nat} {sp dp n : Int} (h : cpOk w s sp r n) (h1 : 0 ≤ sp) (h2 : 0 ≤ dp) (h3 : 0 ≤ n) (j : Nat) : aV (qC w s sp r dp n) r j = va_cpy (aV w s) (aV w r) sp.toNat dp.toNat n.toNat j := by
  obtain ⟨-, -, -, t1, t2⟩ := h.tags
  unfold va_cpy
  by_cases e : dp.toNat ≤ j ∧ j < dp.toNat + n.toNat
  · have e' : r = r ∧ dp ≤ (j : Int) ∧ (j : Int) < dp + n := ⟨rfl, by omega, by omega⟩
    have e3 : sp + ((j : Int) - dp) = ((sp.toNat + (j - dp.toNat) : Nat) : Int) := by omega
    have ea : aI (qC w s sp r dp n) r j = aI w s ((sp.toNat + (j - dp.toNat) : Nat) : Int) := by rw [aI_qC, if_pos e', e3]
    have eb : aR (qC w s sp r dp n) r j = aR w s ((sp.toNat + (j - dp.toNat) : Nat) : Int) := by rw [aR_qC, if_pos e', e3]
    rw [if_pos e]
    unfold aV
    rw [ea, eb]
    show (if tg w r = 103 then _ else if 110 ≤ tg w r then _ else _) = _
    by_cases c1 : tg w r = 103
    · rw [if_pos c1, if_pos (t1.mpr c1)]
    · rw [if_neg c1, if_neg (fun z => c1 (t1.mp z))]
      by_cases c2 : 110 ≤ tg w r
      · rw [if_pos c2, if_pos (t2.mpr c2)]
      · rw [if_neg c2, if_neg (fun z => c2 (t2.mp z))]
  · have e' : ¬ (r = r ∧ dp ≤ (j : Int) ∧ (j : Int) < dp + n) := fun z => e ⟨by omega, by omega⟩
    have ea : aI (qC w s sp r dp n) r j = aI w r j := by rw [aI_qC, if_neg e']
    have eb : aR (qC w s sp r dp n) r j = aR w r j := by rw [aR_qC, if_neg e']
    rw [if_neg e]
    unfold aV
    rw [ea, eb]
    rfl
theorem sok_qC {s r : Nat} {sp dp n : Int} (h : sok w) (ho : cpOk w s sp r n) : sok (qC w s sp r dp n) := by
  obtain ⟨-, -, -, t1, -⟩ := ho.tags
  refine ⟨h.1, fun q j => ?_, h.2.2⟩
  rw [aI_qC]
  show if tg w q = 103 then _ else _
  by_cases e : q = r ∧ dp ≤ j ∧ j < dp + n
  · rw [if_pos e]
    have := h.2.1 s (sp + (j - dp))
    rw [e.1]
    by_cases c1 : tg w r = 103
    · rw [if_pos c1]; rw [if_pos (t1.mpr c1)] at this; exact this
    · rw [if_neg c1]; rw [if_neg (fun z => c1 (t1.mp z))] at this; exact this
  · rw [if_neg e]; exact h.2.1 q j
theorem zn_words : nativeFrameWords "java/lang/System" "arraycopy" 5 + 11 + 8 ≤ 10400 := by decide +kernel
theorem zc_copy {s r index : Nat} {sp dp n : Int} (G : ZOk Γ cc own nL (KnC D) (ZC D)) (M : ZRm Γ (d' + 1) lim rt name hh) (hlink : Cond.methodLink own index arraycopyName ∈ lw_all) (hnat : Cond.native arraycopyName ∈ lw_all) (hstat : Cond.static arraycopyName ∈ lw_all) (hini : Cond.initialized "java/lang/System" ∈ lw_all)
    (hb : 0 ≤ sp ∧ 0 ≤ dp ∧ 0 ≤ n ∧ sp + n ≤ ln w s ∧ dp + n ≤ ln w r) (ho : cpOk w s sp r n) (hst : (st.map zcat).sum ≤ 8) (hd : decode cc pc = .ok (.invokestatic index, 3)) (kk : ∀ w', w' = qC w s sp r dp n → ZV Γ w' (pc + 3) ls st) : ZV Γ w pc ls (ai n :: ai dp :: ar r :: ai sp :: ar s :: st) := by
  intro la H locs cells slots h
  have hR := zc_rep G h
  obtain ⟨hts, htr, hns, t1, t2⟩ := ho.tags
  obtain ⟨b1, b2, b3, b4, b5⟩ := hb
  have lS := hR.2.1.2.2 s
  have lR := hR.2.1.2.2 r
  have zs : zr sp := by unfold zr; omega
  have zd : zr dp := by unfold zr; omega
  have zn : zr n := by unfold zr; omega
  obtain ⟨s5, hcs⟩ := zc_cell hR (r := s) (by omega)
  obtain ⟨r5, hcr⟩ := zc_cell hR (r := r) (by omega)
  obtain ⟨hAs, hRAs⟩ := zc_ao G hts.1 hts.2.1 hts.2.2
  obtain ⟨hAr, hRAr⟩ := zc_ao G htr.1 htr.2.1 htr.2.2
  obtain ⟨-, ks, hks, cs, hkks⟩ := hAs (ln w s) (aV w s)
  obtain ⟨-, kr, hkr, cr, hkkr⟩ := hAr (ln w r) (aV w r)
  have hcat : (((st.map zcv).map fun v => v.category).sum) ≤ 8 := by
    rw [List.map_map, show ((fun v : Value => v.category) ∘ zcv) = zcat from funext zcv_cat]
    exact hst
  have hneg : ∀ z : Int, zr z → 0 ≤ z → ¬ zi z < 0 := fun z h1 h2 => by rw [Int32.lt_iff_toInt_lt, zi_toInt h1]; exact fun q => absurd q (by simpa using h2)
  intro T hT X
  show ∃ t, Steps Γ.p.tables Γ.e Γ.below (T.setTop (F0 Γ.m pc la (.int (zi n) :: .int (zi dp) :: ((ar r :: ai sp :: ar s :: st).map zcv)))) t ∧ ZQ Γ t
  rw [ar_pos r5]
  show ∃ t, Steps Γ.p.tables Γ.e Γ.below (T.setTop (F0 Γ.m pc la (.int (zi n) :: .int (zi dp) :: .ref (r - 1) :: .int (zi sp) :: ((ar s :: st).map zcv)))) t ∧ ZQ Γ t
  rw [ar_pos s5]
  have hzl := zloc_ge (d' + 1)
  have hw := zn_words
  obtain ⟨vm', X', step⟩ := X.arraycopy G.exec G.ow (G.kn.2.1 _ hlink _) (G.kn.2.1 _ hnat _) (G.kn.2.1 _ hstat _) (G.kn.2.1 _ hini _) (src := s - 1) (dst := r - 1) (srcPos := zi sp) (destPos := zi dp) (n := zi n) (by rw [hT]; exact hcs) (by rw [hT]; exact hcr)
    (fun _ h => by cases h) (fun _ h => by cases h) (fun h => by cases h) (fun h => by cases h) hks hkr hkks hkkr (by
      rcases ho with ⟨h1, h2⟩ | ⟨h1, h2⟩ | ⟨h1, h2, -⟩ | ⟨h1, h2, -⟩
      · rw [h1, h2]; rfl
      · rw [h1, h2]; rfl
      · rcases h1 with h1 | h1 <;> rw [h1, h2] <;> rfl
      · rw [aty_r h1.1, aty_r h2.1]; rfl) (hneg _ zs b1) (hneg _ zd b2) (hneg _ zn b3)
    (by rw [zi_toInt zs, zi_toInt zn, arrV_size]; omega)
    (by rw [zi_toInt zd, zi_toInt zn, arrV_size]; omega)
    (fun vm₁ hal i hi => by
      rw [zi_nat zn] at hi
      rw [zi_nat zs]
      have e : (arrV (D.ca (tg w s)) (ln w s) (aV w s)).slots.getD (sp.toNat + i) .null = aV w s (sp.toNat + i) := by
        rw [Array.getD_eq_getD_getElem?, arrV_read _ _ (by omega)]
        rfl
      rw [e]
      have ei : ((sp.toNat + i : Nat) : Int) = sp + i := by omega
      rcases ho with ⟨h1, h2⟩ | ⟨h1, h2⟩ | ⟨h1, h2, h3⟩ | ⟨h1, h2, h3⟩
      · rw [aV_I (by omega) (by omega), h2]
        exact ⟨rfl, trivial⟩
      · rw [aV_L h1, h2]
        exact ⟨rfl, trivial⟩
      · rw [aV_I (by omega) (by omega), h2]
        have h4 := h3 (sp + i) (by omega) (by omega)
        refine ⟨?_, trivial⟩
        show (-128 ≤ zi (aI w s ((sp.toNat + i : Nat) : Int)) && zi (aI w s ((sp.toNat + i : Nat) : Int)) ≤ 127) = true
        rw [ei, Bool.and_eq_true, decide_eq_true_eq, decide_eq_true_eq]
        have z1 : zr (aI w s (sp + i)) := by unfold zr; omega
        constructor
        · exact (zi_le (a := -128) (by unfold zr; omega) z1).mpr h4.1
        · exact (zi_le (b := 127) z1 (by unfold zr; omega)).mpr h4.2
      · rw [aV_R (by omega), ei]
        have h4 := h3 (sp + i) (by omega) (by omega)
        rw [aty_r h1.1]
        rw [aty_r h1.1] at hRAr hkkr
        cases hv : aR w s (sp + i) with
        | zero => exact ⟨rfl, trivial⟩
        | succ v =>
          rw [hv] at h4
          have hs' : zst (tg w r) (tg w (v + 1)) = true := by rcases h4 with q | q; · omega
                                                              · exact q
          unfold zst at hs'
          rw [List.contains_eq_mem, decide_eq_true_eq] at hs'
          obtain ⟨c1, c2⟩ := zst_r _ hs'
          obtain ⟨q, cell, q1, q2, q3, q4, q5, -⟩ := zc_ocell hR c1 c2
          obtain ⟨hfc, kC, hkC, -⟩ := zc_cls G q1
          rw [q2] at hfc
          obtain ⟨kA, comp, k1, k2, k3, -⟩ := hRAr
          cases hkr.symm.trans k1
          cases hkkr.symm.trans k2
          obtain ⟨kE, hkE, -⟩ := Vm.findClass_spec k3
          obtain ⟨kC', hkC', -⟩ := hal.2.2 _ _ hkC
          obtain ⟨kE', hkE', -⟩ := hal.2.2 _ _ hkE
          refine ⟨rfl, cell, (show T.heap[v]? = some cell by rw [hT]; exact q3), (fun x h => by rw [q5] at h; cases h), ⟨kC', by rw [q4]; exact hkC'⟩, ⟨kE', hkE'⟩, ?_⟩
          show vm₁.assignable cell.cls _ = true
          rw [hal.assignable, q4]
          rcases zst_ok _ hs' with e | e
          · have e' : zcn (tg w (v + 1)) = zel (tg w r) := e
            exact vb_asgS _ _ k3 (by rw [← e']; exact hfc)
          · exact vb_asgC (zc_castable G e) _ _ k3 hfc)
    (g := F0 Γ.m pc la (.int (zi n) :: .int (zi dp) :: .ref (r - 1) :: .int (zi sp) :: .ref (s - 1) :: st.map zcv)) rfl (by show la.size = _; rw [h.1.1]; exact G.maxL.symm) (rest := st.map zcv) rfl (by rw [G.bytes]; exact hd) (by rw [M.1]; omega) (by rw [M.2.2.2.1]; show 2 * 0 + ((st.map zcv).map fun v => v.category).sum + _ ≤ _; omega)
  have e1 : copied (arrV (D.ca (tg w s)) (ln w s) (aV w s)) (arrV (D.ca (tg w r)) (ln w r) (aV w r)) (zi sp) (zi dp) (zi n) = arrV (D.ca (tg w r)) (ln w r) (aV (qC w s sp r dp n) r) := by
    have e2 := va_copied (fun z : Value => z) (D.ca (tg w s)) (D.ca (tg w r)) (n1 := ln w r) (dp := dp.toNat) (aV w s) (aV w r) (show sp.toNat + n.toNat ≤ ln w s by omega)
    have e3 : (fun j => va_cpy (aV w s) (aV w r) sp.toNat dp.toNat n.toNat j) = aV (qC w s sp r dp n) r := funext fun j => (aV_qC ho b1 b2 b3 j).symm
    rw [e3] at e2
    unfold copied
    rw [zi_nat zs, zi_nat zd, zi_nat zn]
    exact e2
  rw [e1] at X' step
  have hl : r - 1 < H.size := (Array.getElem?_eq_some_iff.mp hcr).1
  have hheap : ((T.setVm vm').setCell (r - 1) (arrV (D.ca (tg w r)) (ln w r) (aV (qC w s sp r dp n) r))).heap = H.setIfInBounds (r - 1) (arrV (D.ca (tg w r)) (ln w r) (aV (qC w s sp r dp n) r)) := by rw [← hT]; rfl
  obtain ⟨-, -, g1, g2, g3, g4, g5⟩ := id h
  have hb : D.B0 + 1 ≤ r := (hR.2.2.2.1 r (by omega)).2.2 (by unfold cst; simp [hns]; show tg w r ≠ 34; omega)
  have hself : (H.setIfInBounds (r - 1) (arrV (D.ca (tg w r)) (ln w r) (aV (qC w s sp r dp n) r)))[r - 1]? = some (arrV (D.ca (tg w r)) (ln w r) (aV (qC w s sp r dp n) r)) := by simp [Array.getElem?_setIfInBounds, hl]
  obtain ⟨t, a1, a2⟩ := kk _ rfl la _ (locs ++ _) cells slots ⟨h.1, by
    rw [G.z]
    refine zc_store hR (r := r) (by omega) hb (H' := H.setIfInBounds (r - 1) (arrV (D.ca (tg w r)) (ln w r) (aV (qC w s sp r dp n) r))) (by simp) (fun q hq => by simp [Array.getElem?_setIfInBounds, Ne.symm hq]) (fun _ => rfl) (fun _ => rfl) rfl rfl (sok_qC hR.2.1 ho) (fun _ _ _ _ _ _ _ _ => rfl) (fun q j hq => aV_qCo q j hq) (fun ci x u1 u2 => ?_) (fun _ => hself) (fun c hc => by rw [hself] at hc; cases hc; rfl)
    have := (List.getElem?_eq_some_iff.mp u2).1
    have h33 : zcl.length = 36 := by decide
    omega, by
    rw [G.z]
    intro q hq
    rcases List.mem_append.mp hq with hq | hq
    · have := g1 q hq; rw [G.z] at this; exact this
    · obtain ⟨z, -, hz⟩ := List.mem_map.mp hq
      rw [← hz]
      show D.B0 ≤ r - 1
      omega, by rw [G.z] at g2 ⊢; exact g2, by rw [G.z] at g3 ⊢; exact g3, g4, g5⟩ _ hheap X'
  exact ⟨t, step t a1, a2⟩
end ZCopy
