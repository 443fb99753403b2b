/-! rows of the component's world: references stored, things made, casts, constants -/
section ZCR3
variable {Γ : ZG CW} {cc : ByteArray} {own : String} {nL : Nat} {D : CD} {w : CW} {pc : Nat} {ls : List (Nat × ZA)} {st : List ZA} {d : Nat} {rt : Option FieldType} {name : String} {hh : List (Nat × Nat × Nat × Nat)}
theorem zcl_34 : zcl.length = 36 := by decide
theorem zc_ocell {H : Heap} (hR : RepC D w H) {v : Nat} (h1 : 1 ≤ tg w v) (h2 : tg w v ≤ 35) : ∃ (q : vw_C) (cell : Cell), zcl[tg w v - 1]? = some q ∧ q.1 = zcn (tg w v) ∧ H[v - 1]? = some cell ∧ cell.cls = D.cid (tg w v - 1) ∧ cell.vm = .none ∧ 1 ≤ v := by
  obtain ⟨q, hq⟩ : ∃ q, zcl[tg w v - 1]? = some q := ⟨_, List.getElem?_eq_getElem (by rw [zcl_34]; omega)⟩
  obtain ⟨-, -, -, r3, r4, -⟩ := hR
  obtain ⟨cell, c1, c2, c3, -⟩ := r4 v (tg w v - 1) q (by omega) hq
  exact ⟨q, cell, hq, by rw [zcn_at hq, show tg w v - 1 + 1 = tg w v by omega], c1, c2, c3, (r3 v (by omega)).1⟩
theorem zc_cls (G : ZOk Γ cc own nL (KnC D) (ZC D)) {ci : Nat} {q : vw_C} (h : zcl[ci]? = some q) : ClassAt Γ.s q.1 (D.cid ci) := (G.kn.2.2.1 ci q h).2
theorem zst_r : ∀ q ∈ zstL, 1 ≤ q.2 ∧ q.2 ≤ 35 := by decide
theorem zca_r : ∀ q ∈ zcaL, 1 ≤ q.1 ∧ q.1 ≤ 35 := by decide
theorem znc_r : ∀ q ∈ zncL, 1 ≤ q.1 ∧ q.1 ≤ 35 ∧ zca q.1 q.2 = false := by decide
theorem zc_castable (G : ZOk Γ cc own nL (KnC D) (ZC D)) {C T : String} (h : Cond.castable C T ∈ lw_tbl) : va_Nw (.castable C T) Γ.s := G.kn.2.2.2.2.2.2.2.2.1 _ (List.mem_filter.mpr ⟨h, rfl⟩)
theorem zc_aast {r v : Nat} {i : Int} (G : ZOk Γ cc own nL (KnC D) (ZC D)) (ht : 111 ≤ tg w r ∧ tg w r ≤ 119) (hs : v = 0 ∨ zst (tg w r) (tg w v) = true) (hz : zr i) (h0 : 0 ≤ i) (h1 : i < ln w r) (hd : decode cc pc = .ok (.aastore, 1)) (kk : ∀ w', w' = qR w r i v → ZV Γ w' (pc + 1) ls st) : ZV Γ w pc ls (ar v :: ai i :: ar r :: st) := by
  intro la H locs cells slots h
  have hR := zc_rep G h
  obtain ⟨h5, hc⟩ := zc_cell hR (r := r) (by omega)
  obtain ⟨hA, hRA⟩ := zc_ao G (t := tg w r) (by omega) (by omega) (by omega)
  rw [aty_r ht.1] at hA hRA
  obtain ⟨kA, comp, k1, k2, k3, -⟩ := hRA
  have hin : ¬ (zi i < 0 ∨ (arrV (D.ca (tg w r)) (ln w r) (aV w r)).slots.size ≤ (zi i).toNatClampNeg) := by rw [arrV_size]; exact zi_in hz h0 h1
  have fin : ∀ H' : Heap, H'[r - 1]? = some ((arrV (D.ca (tg w r)) (ln w r) (aV w r)).setSlot (zi i).toNatClampNeg (zrf v)) → H'.size = H.size → (∀ q, q ≠ r - 1 → H'[q]? = H[q]?) → Γ.wk H' (locs ++ [⟨r - 1, (zi i).toNatClampNeg⟩]) cells slots (ZQ Γ) (F0 Γ.m (pc + 1) la (st.map zcv)) := fun H' e1 e2 e3 => kk _ rfl la H' _ cells slots (zc_ast (w' := qR w r i v) G h (by omega) (by omega) hz h0 e1 e2 e3 (fun _ => rfl) (fun _ => rfl) (fun _ _ => rfl) rfl rfl rfl (fun h => sok_qR h r i v) (fun q j hq => aV_qRo q j hq) (fun j => by rw [aV_qR h0 (by omega)]))
  show Γ.wk H locs cells slots (ZQ Γ) (F0 Γ.m pc la (zrf v :: .int (zi i) :: (ar r :: st).map zcv))
  rw [ar_pos h5]
  match v, hs, fin with
  | 0, _, fin => exact va_WaastN G.exec G.bytes hc (hA _ _) (fun q => by cases q) hin rfl rfl hd fin
  | v + 1, hs, fin =>
    have hs' : zst (tg w r) (tg w (v + 1)) = true := by rcases hs with q | q; · omega
                                                        · exact q
    unfold zst at hs'
    rw [List.contains_eq_mem, decide_eq_true_eq] at hs'
    obtain ⟨b1, b2⟩ := zst_r _ hs'
    obtain ⟨q, cell, q1, q2, q3, q4, q5, -⟩ := zc_ocell hR b1 b2
    obtain ⟨hfc, kC, hkC, -⟩ := zc_cls G q1
    obtain ⟨kE, hkE, -⟩ := Vm.findClass_spec k3
    rw [q2] at hfc
    refine W.aast G.exec G.bytes hc (fun q h => by cases h) (fun h => by cases h) k1 k2 rfl hkE ⟨fun z => hin (Or.inl z), Nat.not_le.mp fun z => hin (Or.inr z)⟩ q3 (fun x hx => by rw [q5] at hx; cases hx) (by rw [q4]; exact hkC) ?_ rfl rfl hd fin
    rw [q4]
    rcases zst_ok _ hs' with e | e
    · have e' : zcn (tg w (v + 1)) = zel (tg w r) := e
      exact vb_asgS _ _ k3 (by rw [← e']; exact hfc)
    · exact vb_asgC (zc_castable G e) _ _ k3 hfc
theorem zc_cast {r index : Nat} {T : String} (G : ZOk Γ cc own nL (KnC D) (ZC D)) (hlink : Cond.classLink own index T ∈ lw_all) (hc : r = 0 ∨ zca (tg w r) T = true) (hd : decode cc pc = .ok (.checkcast index, 3)) (kk : ZV Γ w (pc + 3) ls (ar r :: st)) : ZV Γ w pc ls (ar r :: st) := by
  intro la H locs cells slots h
  have hR := zc_rep G h
  have k := kk la H locs cells slots h
  match r, hc, k with
  | 0, _, k => exact lv_castN G.exec G.bytes hd k
  | r + 1, hc, k =>
    have hs' : zca (tg w (r + 1)) T = true := by rcases hc with q | q; · omega
                                                 · exact q
    unfold zca at hs'
    rw [List.contains_eq_mem, decide_eq_true_eq] at hs'
    obtain ⟨b1, b2⟩ := zca_r _ hs'
    obtain ⟨q, cell, q1, q2, q3, q4, q5, -⟩ := zc_ocell hR b1 b2
    have hCA := zc_cls G q1
    have hr : ∃ cell : Cell, H[r]? = some cell ∧ cell.vm.isStatics = false ∧ Γ.s.vm.findClass q.1 = some cell.cls := ⟨cell, q3, by rw [q5]; rfl, by rw [q4]; exact hCA.1⟩
    rw [q2] at hr hCA
    rcases zca_ok _ hs' with e | e
    · have e' : zcn (tg w (r + 1)) = T := e
      rw [e'] at hr hCA
      exact va_castS G.exec G.bytes G.ow (G.kn.2.1 _ hlink _) hCA hr hd k
    · exact va_castY G.exec G.bytes G.ow (G.kn.2.1 _ hlink _) (zc_castable G e) hr hd k
theorem zc_inst {r index : Nat} {T : String} (G : ZOk Γ cc own nL (KnC D) (ZC D)) (hlink : Cond.classLink own index T ∈ lw_all) (hc : r = 0 ∨ zca (tg w r) T = true ∨ znc (tg w r) T = true) (hd : decode cc pc = .ok (.instanceof index, 3)) (kk : ZV Γ w (pc + 3) ls (ai (if zca (tg w r) T = true then 1 else 0) :: st)) : ZV Γ w pc ls (ar r :: st) := by
  intro la H locs cells slots h
  have hR := zc_rep G h
  have k := kk la H locs cells slots h
  match r, hc, k with
  | 0, _, k =>
    have e0 : zca (tg w 0) T = false := by
      rw [hR.2.2.1]
      cases hh : zca 0 T with
      | false => rfl
      | true =>
        unfold zca at hh
        rw [List.contains_eq_mem, decide_eq_true_eq] at hh
        exact absurd (zca_r _ hh).1 (Nat.not_succ_le_zero 0)
    rw [e0] at k
    exact lv_instN G.exec G.bytes hd k
  | r + 1, hc, k =>
    by_cases hs : zca (tg w (r + 1)) T = true
    · rw [if_pos hs] at k
      have hs' := hs
      unfold zca at hs'
      rw [List.contains_eq_mem, decide_eq_true_eq] at hs'
      obtain ⟨b1, b2⟩ := zca_r _ hs'
      obtain ⟨q, cell, q1, q2, q3, q4, q5, -⟩ := zc_ocell hR b1 b2
      have hCA := zc_cls G q1
      have hr : ∃ cell : Cell, H[r]? = some cell ∧ cell.vm.isStatics = false ∧ Γ.s.vm.findClass q.1 = some cell.cls := ⟨cell, q3, by rw [q5]; rfl, by rw [q4]; exact hCA.1⟩
      rw [q2] at hr hCA
      rcases zca_ok _ hs' with e | e
      · have e' : zcn (tg w (r + 1)) = T := e
        rw [e'] at hr hCA
        exact va_instS G.exec G.bytes G.ow (G.kn.2.1 _ hlink _) hCA hr hd k
      · exact va_instY G.exec G.bytes G.ow (G.kn.2.1 _ hlink _) (zc_castable G e) hr hd k
    · rw [if_neg hs] at k
      have hs' : znc (tg w (r + 1)) T = true := by rcases hc with q | q | q; · omega
                                                   · exact absurd q hs
                                                   · exact q
      unfold znc at hs'
      rw [List.contains_eq_mem, decide_eq_true_eq] at hs'
      obtain ⟨b1, b2, -⟩ := znc_r _ hs'
      obtain ⟨q, cell, q1, q2, q3, q4, q5, -⟩ := zc_ocell hR b1 b2
      have hCA := zc_cls G q1
      have hr : ∃ cell : Cell, H[r]? = some cell ∧ cell.vm.isStatics = false ∧ Γ.s.vm.findClass q.1 = some cell.cls := ⟨cell, q3, by rw [q5]; rfl, by rw [q4]; exact hCA.1⟩
      rw [q2] at hr
      exact va_instNo G.exec G.bytes G.ow (G.kn.2.1 _ hlink _) (G.kn.2.2.2.2.2.2.2.2.2.1 _ hs') hr hd k
/-- Object's constructor -/
theorem zc_oinit {r idx d' : Nat} {lim : Nat × Nat} (G : ZOk Γ cc own nL (KnC D) (ZC D)) (M : ZRm Γ (d' + 1) lim rt name hh) (hlink : Cond.methodLink own idx Lib.objectInit ∈ lw_all) (hinst : Cond.instanceMethod Lib.objectInit ∈ lw_all) (hcode : Cond.code Lib.objectInit ⟨#[0xb1]⟩ 1 none ∈ lw_all) (hr : r ≠ 0) (hst : (st.map zcat).sum ≤ 8) (hd : decode cc pc = .ok (.invokespecial idx, 3)) (kk : ZV Γ w (pc + 3) ls st) : ZV Γ w pc ls (ar r :: st) := by
  intro la H locs cells slots h
  rw [ar_pos (by omega)]
  have hcat : (((st.map zcv).map fun v => v.category).sum) ≤ 8 := by
    rw [List.map_map, show ((fun v : Value => v.category) ∘ zcv) = zcat from funext zcv_cat]
    exact hst
  refine W.objInit G.exec G.bytes G.ow (G.kn.2.1 _ hlink _) (G.kn.2.1 _ hinst _) (G.kn.2.1 _ hcode _) rfl (by show la.size = _; rw [h.1.1]; exact G.maxL.symm) rfl hd (by rw [M.1]; omega) ?_ (kk la H locs cells slots h)
  rw [M.2.2.2.1]
  have := zloc_ge (d' + 1)
  show 2 * 0 + ((st.map zcv).map fun v => v.category).sum + 12 ≤ _
  omega
/-- something new: the world behind it -/
theorem zc_born {w' : CW} {t : Nat} {H H' : Heap} (hR : RepC D w H) (hB : D.B0 ≤ D.Hf.size) (ht : t ≠ 0) (e2 : H'.size = H.size + 1) (e3 : ∀ q, q < H.size → H'[q]? = H[q]?)
    (a1 : ∀ q, tg w' q = if q = cz w + 1 then t else tg w q) (a2 : ∀ q, q ≠ cz w + 1 → ln w' q = ln w q) (a3 : ∀ q g, q ≠ cz w + 1 → cV w' q g = cV w q g) (a3' : ∀ q j, q ≠ cz w + 1 → aV w' q j = aV w q j) (a4 : cz w' = cz w + 1) (a6 : w'.2.2.2.2.2.2.2.2 = w.2.2.2.2.2.2.2.2) (a7 : sok w')
    (c1 : ∀ ci x, t = ci + 1 → zcl[ci]? = some x → t_OB (cz w) (D.cid ci) x.2.2 (D.iS ci) H' (fun k => cV w' (cz w + 1) (zfid ci k))) (c2 : 100 ≤ t → H'[cz w]? = some (arrV (D.ca t) (ln w' (cz w + 1)) (aV w' (cz w + 1)))) (hv : ∀ c, H'[cz w]? = some c → c.vm.isStatics = false) : RepC D w' H' := by
  obtain ⟨r0, r1, r2, r3, r4, r5, r6, r7, r8, r9, r10⟩ := hR
  have ne : ∀ q, tg w q ≠ 0 → q ≠ cz w + 1 := fun q hq => by have := (r3 q hq).2.1; omega
  have old : ∀ q, q ≠ cz w + 1 → tg w' q = tg w q := fun q hq => by rw [a1, if_neg hq]
  refine ⟨by rw [e2, a4, r0], a7, by rw [old 0 (by omega)]; exact r2, fun q hq => ?_, fun q ci x h1 h2 => ?_, fun q h1 => ?_, fun q h1 h2 => ?_, by omega, fun h => ?_, a6.trans r9, fun q c h1 h2 => ?_⟩
  rotate_right
  · by_cases e : q = cz w
    · subst e; exact hv c h2
    · have hlt := (Array.getElem?_eq_some_iff.mp h2).1
      rw [e3 q (by omega)] at h2; exact r10 q c h1 h2
  · by_cases e : q = cz w + 1
    · subst e
      exact ⟨by omega, by omega, fun _ => by omega⟩
    · rw [old q e] at hq ⊢
      obtain ⟨b1, b2, b3⟩ := r3 q hq
      exact ⟨b1, by omega, b3⟩
  · by_cases e : q = cz w + 1
    · subst e
      rw [a1, if_pos rfl] at h1
      exact c1 ci x h1 h2
    · rw [old q e] at h1
      have h3 := r4 q ci x h1 h2
      have hb := r3 q (by omega)
      exact (h3.kept (e3 _ (by omega))).to (fun k hk => (a3 q _ e).symm)
  · by_cases e : q = cz w + 1
    · subst e
      rw [a1, if_pos rfl] at h1 ⊢
      exact c2 h1
    · rw [old q e] at h1 ⊢
      have hb := r3 q (by omega)
      rw [e3 _ (by omega), r5 q h1, a2 q e, show aV w' q = aV w q from funext fun i => a3' q i e]
  · rw [e3 q (by omega)]
    by_cases e : q + 1 = cz w + 1
    · rw [a1, if_pos e] at h2
      omega
    · rw [old _ e] at h2
      exact r6 q h1 h2
  · have e8 : lp w' = lp w := congrArg (fun x => x.1) a6
    rw [e8] at h ⊢
    have := r8 h
    rw [old _ (ne _ (by rw [this]; decide))]
    exact this
theorem cV_nO {t n : Nat} (q g : Nat) (h : q ≠ cz w + 1) : cV (nO w t n) q g = cV w q g := by
  have e1 : fI (nO w t n) g q = fI w g q := if_neg h
  have e2 : fR (nO w t n) g q = fR w g q := if_neg h
  unfold cV
  rw [e1, e2]
theorem aV_nA {t n : Nat} (q j : Nat) (h : q ≠ cz w + 1) : aV (nA w t n) q j = aV w q j := by
  have e1 : aI (nA w t n) q j = aI w q j := if_neg h
  have e2 : aR (nA w t n) q j = aR w q j := if_neg h
  have e3 : tg (nA w t n) q = tg w q := if_neg h
  unfold aV
  rw [e1, e2, e3]
theorem sok_nO (h : sok w) (hR : ∀ q, q = cz w + 1 → tg w q = 0) (t n : Nat) (ht : t < 100) : sok (nO w t n) := by
  refine ⟨fun g q => ?_, fun q j => ?_, h.2.2⟩
  · show if fk g = 1 then zrl (if q = cz w + 1 then 0 else fI w g q) else zr (if q = cz w + 1 then 0 else fI w g q)
    by_cases e : q = cz w + 1
    · rw [if_pos e]
      split
      · exact ⟨by decide, by decide⟩
      · exact ⟨by decide, by decide⟩
    · rw [if_neg e]; exact h.1 g q
  · have h2 := h.2.1 q j
    show if (if q = cz w + 1 then t else tg w q) = 103 then zrl (aI w q j) else zr (aI w q j)
    by_cases e : q = cz w + 1
    · rw [if_pos e, if_neg (by omega)]
      rw [hR q e, if_neg (by decide)] at h2
      exact h2
    · rw [if_neg e]; exact h2
theorem sok_nA (h : sok w) (t n : Nat) (hn : n ≤ 1000000) : sok (nA w t n) := by
  refine ⟨h.1, fun q j => ?_, fun q => ?_⟩
  · show if (if q = cz w + 1 then t else tg w q) = 103 then zrl (if q = cz w + 1 then 0 else aI w q j) else zr (if q = cz w + 1 then 0 else aI w q j)
    by_cases e : q = cz w + 1
    · rw [if_pos e, if_pos e]
      split
      · exact ⟨by decide, by decide⟩
      · exact ⟨by decide, by decide⟩
    · rw [if_neg e, if_neg e]; exact h.2.1 q j
  · show (if q = cz w + 1 then n else ln w q) ≤ 1000000
    split
    · exact hn
    · exact h.2.2 q
theorem zc_new {ci t n index : Nat} {q : vw_C} (G : ZOk Γ cc own nL (KnC D) (ZC D)) (M : ZRm Γ d D.lim rt name hh) (hq : zcl[ci]? = some q) (ht : t = ci + 1) (hns : t ≤ 33) (hn : n = q.2.2) (hlink : Cond.classLink own index q.1 ∈ lw_all) (hins : Cond.instantiable q.1 n ∈ lw_all) (hini : Cond.initialized q.1 ∈ lw_all) (hroom : cz w + 1 ≤ mz w ∧ cu w + n ≤ mu w)
    (hd : decode cc pc = .ok (.new index, 3)) (kk : ∀ w', w' = nO w t n → ZV Γ w' (pc + 3) ls (ar (cz w + 1) :: st)) : ZV Γ w pc ls st := by
  intro la H locs cells slots h
  have hR := zc_rep G h
  obtain ⟨M1, M2, M3, M4, M5, M6, -⟩ := M
  obtain ⟨-, -, g1, g2, g3, g4, g5⟩ := id h
  rw [G.z] at g1 g2 g3
  have g2 : cells + Γ.c0 = cz w := g2
  have g3 : slots + Γ.n0 = cu w := g3
  obtain ⟨r0, r1, r2, r3, r4, r5, r6, r7, r8, r9, r10⟩ := id hR
  have l1 : mz w = D.lim.1 := congrArg (fun x => x.2.1) r9
  have l2 : mu w = D.lim.2 := congrArg (fun x => x.2.2.1) r9
  have hKn := G.kn.2.2.1 ci q hq
  have hts : ∀ w ∈ lw_all, w.before Γ.args Γ.s = true := fun w hw => G.kn.2.1 w hw Γ.args
  have h0 : ∀ q, q = cz w + 1 → tg w q = 0 := fun q hq => by
    by_cases e : tg w q = 0
    · exact e
    · have := (r3 q e).2.1; omega
  refine W.newcK G.exec G.bytes G.ow (hts _ hlink) (hts _ hins) (hts _ hini) (g := F0 Γ.m pc la (st.map zcv)) rfl hd (by omega) (by omega) (zc_cls G hq).1 (h := cz w) r0 fun H' kC e0 e1 e2 e3 => ?_
  refine kk _ rfl la H' _ _ _ ⟨h.1, ?_, by rw [G.z]; exact g1, by rw [G.z]; show cells + 1 + Γ.c0 = cz w + 1; omega, by rw [G.z]; show slots + n + Γ.n0 = cu w + n; omega, by omega, by omega⟩
  rw [G.z]
  obtain ⟨ty, hty⟩ := zcl_ty q (List.mem_of_getElem? hq)
  have hb := u_born (args := Γ.args) ty hts (zcl_in q (List.mem_of_getElem? hq)) hKn e0 e1 hty
  refine zc_born hR G.kn.1 (t := t) (by omega) (by omega) (fun x hx => e3 x (by omega)) (fun _ => rfl) (fun _ _ => rfl) (fun x g hx => cV_nO x g hx) (fun x j hx => ?_) rfl rfl (sok_nO r1 h0 t n (by omega)) (fun ci' x t1 t2 => ?_) (fun t1 => by omega) (fun c hc => by rw [e1] at hc; cases hc; rfl)
  · unfold aV
    have : tg (nO w t n) x = tg w x := if_neg hx
    rw [this]
    rfl
  · obtain rfl : ci' = ci := by omega
    cases hq.symm.trans t2
    refine hb.to fun k hk => ?_
    obtain ⟨-, z2⟩ := zcl_at hq
    obtain ⟨z3, -⟩ := z2 k hk
    have hlt : zfid ci' k < zfds.length := by
      have hh := hty k hk
      rcases Nat.lt_or_ge (zfid ci' k) zfds.length with y | y
      · exact y
      · exfalso
        have : zfd (zfid ci' k) = ("", "", "") := by unfold zfd; simp [List.getD, List.getElem?_eq_none y]
        rw [this] at z3
        have z4 : (q.2.1 k).2.2.1 = "" := by simpa using congrArg (fun x => x.2.2) z3
        rw [z4] at hh
        rw [show parseFieldDescriptor "" = none by decide] at hh
        cases hh
    have z5 := zfd_at hlt
    have z6 : (q.2.1 k).2.2.1 = (zfd (zfid ci' k)).2.2 := by rw [← z3]
    rw [← z6, hty k hk] at z5
    have z7 : defaultValue (ty k) = if fk (zfid ci' k) = 1 then .long 0 else if fk (zfid ci' k) = 3 then .null else .int 0 := Option.some.inj z5
    rw [z7]
    have y1 : fI (nO w (ci' + 1) n) (zfid ci' k) (cz w + 1) = 0 := if_pos rfl
    have y2 : fR (nO w (ci' + 1) n) (zfid ci' k) (cz w + 1) = 0 := if_pos rfl
    show _ = cV (nO w t n) (cz w + 1) (zfid ci' k)
    rw [ht]
    unfold cV
    rw [y1, y2]
    rfl
end ZCR3
