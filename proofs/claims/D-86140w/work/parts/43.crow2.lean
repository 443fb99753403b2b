/-! rows of the component's world: fields written, arrays -/
section ZCR2
theorem aty_101 : aty 101 = .byte := rfl
theorem aty_102 : aty 102 = .int := rfl
theorem aty_103 : aty 103 = .long := rfl
theorem aty_104 : aty 104 = .boolean := rfl
theorem aty_106 : aty 106 = .byte := rfl
theorem aty_r {t : Nat} (h : 111 ≤ t) : aty t = .object (zel t) := by
  unfold aty
  rw [if_neg (by omega), if_neg (by omega), if_neg (by omega), if_neg (by omega), if_neg (by omega)]
theorem sok_pI {w : CW} (h : sok w) (f r : Nat) {v : Int} (hv : if fk f = 1 then zrl v else zr v) : sok (pI w f r v) := by
  refine ⟨fun g q => ?_, h.2.1, h.2.2⟩
  show if fk g = 1 then zrl (if g = f ∧ q = r then v else fI w g q) else zr (if g = f ∧ q = r then v else fI w g q)
  by_cases e : g = f ∧ q = r
  · rw [if_pos e]
    rw [e.1]; exact hv
  · rw [if_neg e]
    exact h.1 g q
theorem sok_pR {w : CW} (h : sok w) (f r v : Nat) : sok (pR w f r v) := h
theorem sok_qI {w : CW} (h : sok w) {r : Nat} (i : Int) {v : Int} (hv : if tg w r = 103 then zrl v else zr v) : sok (qI w r i v) := by
  refine ⟨h.1, fun q j => ?_, h.2.2⟩
  show if tg w q = 103 then zrl (if q = r ∧ j = i then v else aI w q j) else zr (if q = r ∧ j = i then v else aI w q j)
  by_cases e : q = r ∧ j = i
  · rw [if_pos e]
    rw [e.1]; exact hv
  · rw [if_neg e]
    exact h.2.1 q j
theorem sok_qR {w : CW} (h : sok w) (r : Nat) (i : Int) (v : Nat) : sok (qR w r i v) := h
theorem fI_pI (w : CW) (f r g q : Nat) (v : Int) : fI (pI w f r v) g q = if g = f ∧ q = r then v else fI w g q := rfl
theorem fR_pR (w : CW) (f r g q : Nat) (v : Nat) : fR (pR w f r v) g q = if g = f ∧ q = r then v else fR w g q := rfl
theorem aI_qI (w : CW) (r q : Nat) (i j v : Int) : aI (qI w r i v) q j = if q = r ∧ j = i then v else aI w q j := rfl
theorem aR_qR (w : CW) (r q : Nat) (i j : Int) (v : Nat) : aR (qR w r i v) q j = if q = r ∧ j = i then v else aR w q j := rfl
theorem cV_pI {w : CW} {f r : Nat} {v : Int} (q g : Nat) (h : ¬ (g = f ∧ q = r)) : cV (pI w f r v) q g = cV w q g := by
  unfold cV
  rw [fI_pI, if_neg h]
  rfl
theorem cV_pR {w : CW} {f r : Nat} {v : Nat} (q g : Nat) (h : ¬ (g = f ∧ q = r)) : cV (pR w f r v) q g = cV w q g := by
  unfold cV
  rw [fR_pR, if_neg h]
  rfl
variable {Γ : ZG CW} {cc : ByteArray} {own : String} {nL : Nat} {D : CD} {w : CW} {pc : Nat} {ls : List (Nat × ZA)} {st : List ZA} {d : Nat} {lim : Nat × Nat} {rt : Option FieldType} {name : String} {hh : List (Nat × Nat × Nat × Nat)}
theorem zc_putI {a : Int} {f r index : Nat} {ref o nm ds : String} {ty : FieldType} (G : ZOk Γ cc own nL (KnC D) (ZC D)) (M : ZRm Γ d lim rt name hh) (hf : hP f (tg w r) = true) (hfd : zfd f = (o, nm, ds)) (hlink : Cond.fieldLink own index ref nm ds ∈ lw_all) (hsame : ref = o ∨ Cond.sameField ref o nm ds ∈ lw_all)
    (hfin : ffin f = false ∨ (ffin f = true ∧ name = "<init>" ∧ o = own)) (hty : parseFieldDescriptor ds = some ty) (hn : narrow ty (zcv (ai a)) = zcv (ai a)) (hfit : fits ty (zcv (ai a)) = true) (h1 : fk f ≠ 1) (h3 : fk f ≠ 3) (ha : zr a)
    (hd : decode cc pc = .ok (.putfield index, 3)) (kk : ∀ w', w' = pI w f r a → ZV Γ w' (pc + 3) ls st) : ZV Γ w pc ls (ai a :: ar r :: st) :=
  zc_put (v := ai a) (w' := pI w f r a) G M hf hfd hlink hsame hfin hty hn hfit (fun _ => rfl) (fun _ => rfl) (fun _ _ => rfl) rfl rfl rfl (fun h => sok_pI h f r (by rw [if_neg h1]; exact ha)) (fun q g h => cV_pI q g h) (by rw [cV_I h1 h3, fI_pI, if_pos ⟨rfl, rfl⟩]) hd (kk _ rfl)
theorem zc_putL {a : Int} {f r index : Nat} {ref o nm ds : String} {ty : FieldType} (G : ZOk Γ cc own nL (KnC D) (ZC D)) (M : ZRm Γ d lim rt name hh) (hf : hP f (tg w r) = true) (hfd : zfd f = (o, nm, ds)) (hlink : Cond.fieldLink own index ref nm ds ∈ lw_all) (hsame : ref = o ∨ Cond.sameField ref o nm ds ∈ lw_all)
    (hfin : ffin f = false ∨ (ffin f = true ∧ name = "<init>" ∧ o = own)) (hty : parseFieldDescriptor ds = some ty) (hn : narrow ty (zcv (al a)) = zcv (al a)) (hfit : fits ty (zcv (al a)) = true) (h1 : fk f = 1) (ha : zrl a)
    (hd : decode cc pc = .ok (.putfield index, 3)) (kk : ∀ w', w' = pI w f r a → ZV Γ w' (pc + 3) ls st) : ZV Γ w pc ls (al a :: ar r :: st) :=
  zc_put (v := al a) (w' := pI w f r a) G M hf hfd hlink hsame hfin hty hn hfit (fun _ => rfl) (fun _ => rfl) (fun _ _ => rfl) rfl rfl rfl (fun h => sok_pI h f r (by rw [if_pos h1]; exact ha)) (fun q g h => cV_pI q g h) (by rw [cV_L h1, fI_pI, if_pos ⟨rfl, rfl⟩]) hd (kk _ rfl)
theorem zc_putR {a : Nat} {f r index : Nat} {ref o nm ds : String} {ty : FieldType} (G : ZOk Γ cc own nL (KnC D) (ZC D)) (M : ZRm Γ d lim rt name hh) (hf : hP f (tg w r) = true) (hfd : zfd f = (o, nm, ds)) (hlink : Cond.fieldLink own index ref nm ds ∈ lw_all) (hsame : ref = o ∨ Cond.sameField ref o nm ds ∈ lw_all)
    (hfin : ffin f = false ∨ (ffin f = true ∧ name = "<init>" ∧ o = own)) (hty : parseFieldDescriptor ds = some ty) (href : (∃ n, ty = .object n) ∨ ∃ t, ty = .array t) (h3 : fk f = 3)
    (hd : decode cc pc = .ok (.putfield index, 3)) (kk : ∀ w', w' = pR w f r a → ZV Γ w' (pc + 3) ls st) : ZV Γ w pc ls (ar a :: ar r :: st) :=
  zc_put (v := ar a) (w' := pR w f r a) G M hf hfd hlink hsame hfin hty (by rcases href with ⟨n, rfl⟩ | ⟨n, rfl⟩ <;> cases a <;> rfl) (by rcases href with ⟨n, rfl⟩ | ⟨n, rfl⟩ <;> cases a <;> rfl) (fun _ => rfl) (fun _ => rfl) (fun _ _ => rfl) rfl rfl rfl (fun h => sok_pR h f r a) (fun q g h => cV_pR q g h) (by rw [cV_R h3, fR_pR, if_pos ⟨rfl, rfl⟩]) hd (kk _ rfl)
theorem zc_cell {H : Heap} (hR : RepC D w H) {r : Nat} (ht : 100 ≤ tg w r) : 1 ≤ r ∧ H[r - 1]? = some (arrV (D.ca (tg w r)) (ln w r) (aV w r)) := by
  obtain ⟨-, -, -, r3, -, r5, -⟩ := hR
  exact ⟨(r3 r (by omega)).1, r5 r ht⟩
theorem zc_ao (G : ZOk Γ cc own nL (KnC D) (ZC D)) {t : Nat} (h1 : 101 ≤ t) (h2 : t ≤ 119) (h3 : t < 107 ∨ 111 ≤ t) : ArrOfT Γ.s (D.ca t) (aty t) ∧ va_RA Γ.s (D.ca t) (aty t) := G.kn.2.2.2.1 t h1 h2 h3
theorem aV_at {r : Nat} {i : Int} (h0 : 0 ≤ i) (h1 : i < ln w r) (cA : ClassId) : (arrV cA (ln w r) (aV w r)).slots[i.toNat]? = some (aV w r i.toNat) := arrV_read _ _ (by omega)
theorem aV_I {r i : Nat} (h1 : tg w r ≠ 103) (h2 : tg w r < 110) : aV w r i = .int (zi (aI w r i)) := by unfold aV; rw [if_neg h1, if_neg (by omega)]
theorem aV_L {r i : Nat} (h1 : tg w r = 103) : aV w r i = .long (zj (aI w r i)) := by unfold aV; rw [if_pos h1]
theorem aV_R {r i : Nat} (h1 : 110 ≤ tg w r) : aV w r i = zrf (aR w r i) := by unfold aV; rw [if_neg (by omega), if_pos h1]
theorem zc_iald {i : Int} {r : Nat} (G : ZOk Γ cc own nL (KnC D) (ZC D)) (ht : tg w r = 102) (hz : zr i) (h0 : 0 ≤ i) (h1 : i < ln w r) (hd : decode cc pc = .ok (.iaload, 1)) (kk : ZV Γ w (pc + 1) ls (ai (aI w r i) :: st)) : ZV Γ w pc ls (ai i :: ar r :: st) := by
  intro la H locs cells slots h
  obtain ⟨h5, hc⟩ := zc_cell (zc_rep G h) (r := r) (by omega)
  have hA := (zc_ao G (t := 102) (by omega) (by omega) (by omega)).1
  show Γ.wk H locs cells slots (ZQ Γ) (F0 Γ.m pc la (.int (zi i) :: (ar r :: st).map zcv))
  rw [ar_pos h5]
  refine W.iald (v := .int (zi (aI w r i))) G.exec G.bytes hc (by rw [ht]; exact hA _ _) (fun q => by cases q) (by rw [arrV_size]; exact zi_in hz h0 h1) ?_ rfl rfl hd (kk la H locs cells slots h)
  rw [zi_nat hz, aV_at h0 h1, aV_I (by omega) (by omega), show ((i.toNat : Nat) : Int) = i by omega]
theorem zc_lald {i : Int} {r : Nat} (G : ZOk Γ cc own nL (KnC D) (ZC D)) (ht : tg w r = 103) (hz : zr i) (h0 : 0 ≤ i) (h1 : i < ln w r) (hd : decode cc pc = .ok (.laload, 1)) (kk : ZV Γ w (pc + 1) ls (al (aI w r i) :: st)) : ZV Γ w pc ls (ai i :: ar r :: st) := by
  intro la H locs cells slots h
  obtain ⟨h5, hc⟩ := zc_cell (zc_rep G h) (r := r) (by omega)
  have hA := (zc_ao G (t := 103) (by omega) (by omega) (by omega)).1
  show Γ.wk H locs cells slots (ZQ Γ) (F0 Γ.m pc la (.int (zi i) :: (ar r :: st).map zcv))
  rw [ar_pos h5]
  refine W.lald (v := .long (zj (aI w r i))) G.exec G.bytes hc (by rw [ht]; exact hA _ _) (fun q => by cases q) (by rw [arrV_size]; exact zi_in hz h0 h1) ?_ rfl rfl hd (kk la H locs cells slots h)
  rw [zi_nat hz, aV_at h0 h1, aV_L ht, show ((i.toNat : Nat) : Int) = i by omega]
theorem zc_bald {i : Int} {r : Nat} (G : ZOk Γ cc own nL (KnC D) (ZC D)) (ht : tg w r = 101 ∨ tg w r = 104 ∨ tg w r = 106) (hz : zr i) (h0 : 0 ≤ i) (h1 : i < ln w r) (hd : decode cc pc = .ok (.baload, 1)) (kk : ZV Γ w (pc + 1) ls (ai (aI w r i) :: st)) : ZV Γ w pc ls (ai i :: ar r :: st) := by
  intro la H locs cells slots h
  obtain ⟨h5, hc⟩ := zc_cell (zc_rep G h) (r := r) (by omega)
  show Γ.wk H locs cells slots (ZQ Γ) (F0 Γ.m pc la (.int (zi i) :: (ar r :: st).map zcv))
  rw [ar_pos h5]
  have hv : (arrV (D.ca (tg w r)) (ln w r) (aV w r)).slots[(zi i).toNatClampNeg]? = some (.int (zi (aI w r i))) := by
    rw [zi_nat hz, aV_at h0 h1, aV_I (by omega) (by omega), show ((i.toNat : Nat) : Int) = i by omega]
  rcases ht with ht | ht | ht
  · have hA := (zc_ao G (t := 101) (by omega) (by omega) (by omega)).1
    exact W.bald (v := .int (zi (aI w r i))) G.exec G.bytes hc (by rw [ht]; exact hA _ _) (fun q => by cases q) (by rw [arrV_size]; exact zi_in hz h0 h1) hv rfl rfl hd (kk la H locs cells slots h)
  · have hA := (zc_ao G (t := 104) (by omega) (by omega) (by omega)).1
    exact W.zald (v := .int (zi (aI w r i))) G.exec G.bytes hc (by rw [ht]; exact hA _ _) (fun q => by cases q) (by rw [arrV_size]; exact zi_in hz h0 h1) hv rfl rfl hd (kk la H locs cells slots h)
  · have hA := (zc_ao G (t := 106) (by omega) (by omega) (by omega)).1
    exact W.bald (v := .int (zi (aI w r i))) G.exec G.bytes hc (by rw [ht]; exact hA _ _) (fun q => by cases q) (by rw [arrV_size]; exact zi_in hz h0 h1) hv rfl rfl hd (kk la H locs cells slots h)
theorem zc_aald {i : Int} {r : Nat} (G : ZOk Γ cc own nL (KnC D) (ZC D)) (ht : 111 ≤ tg w r ∧ tg w r ≤ 119) (hz : zr i) (h0 : 0 ≤ i) (h1 : i < ln w r) (hd : decode cc pc = .ok (.aaload, 1)) (kk : ZV Γ w (pc + 1) ls (ar (aR w r i) :: st)) : ZV Γ w pc ls (ai i :: ar r :: st) := by
  intro la H locs cells slots h
  obtain ⟨h5, hc⟩ := zc_cell (zc_rep G h) (r := r) (by omega)
  have hA := (zc_ao G (t := tg w r) (by omega) (by omega) (by omega)).1
  rw [aty_r ht.1] at hA
  show Γ.wk H locs cells slots (ZQ Γ) (F0 Γ.m pc la (.int (zi i) :: (ar r :: st).map zcv))
  rw [ar_pos h5]
  refine W.aald (v := zrf (aR w r i)) G.exec G.bytes hc (hA _ _) rfl (fun q => by cases q) (by rw [arrV_size]; exact zi_in hz h0 h1) ?_ rfl rfl hd (kk la H locs cells slots h)
  rw [zi_nat hz, aV_at h0 h1, aV_R (by omega), show ((i.toNat : Nat) : Int) = i by omega]
theorem zc_alen {r : Nat} (G : ZOk Γ cc own nL (KnC D) (ZC D)) (ht : 101 ≤ tg w r ∧ tg w r ≤ 119 ∧ (tg w r < 107 ∨ 111 ≤ tg w r)) (hd : decode cc pc = .ok (.arraylength, 1)) (kk : ZV Γ w (pc + 1) ls (ai (ln w r) :: st)) : ZV Γ w pc ls (ar r :: st) := by
  intro la H locs cells slots h
  obtain ⟨h5, hc⟩ := zc_cell (zc_rep G h) (r := r) (by omega)
  have hA := (zc_ao G (t := tg w r) (by omega) (by omega) (by omega)).1
  rw [ar_pos h5]
  refine W.alen (n := zi (ln w r)) G.exec G.bytes hc (hA _ _) ?_ rfl rfl hd (kk la H locs cells slots h)
  rw [arrV_size]
  unfold zi
  exact (Int32.ofInt_eq_ofNat).symm
theorem zc_lnr {w : CW} (h : sok w) (r : Nat) : zr (ln w r) := by have := h.2.2 r; unfold zr; omega
/-- a store into an array of ours: the world behind it -/
theorem zc_ast {r : Nat} {i : Int} {v : Value} {w' : CW} {la : Array Slot} {H H' : Heap} {locs : List Loc} {cells slots : Nat} (G : ZOk Γ cc own nL (KnC D) (ZC D)) (h : ZH Γ w ls la H locs cells slots) (ht : 100 ≤ tg w r) (hns : tg w r ≠ 106) (hz : zr i) (h0 : 0 ≤ i)
    (e1 : H'[r - 1]? = some ((arrV (D.ca (tg w r)) (ln w r) (aV w r)).setSlot (zi i).toNatClampNeg v)) (e2 : H'.size = H.size) (e3 : ∀ q, q ≠ r - 1 → H'[q]? = H[q]?)
    (a1 : ∀ q, tg w' q = tg w q) (a2 : ∀ q, ln w' q = ln w q) (a3 : ∀ q g, cV w' q g = cV w q g) (a4 : cz w' = cz w) (a5 : cu w' = cu w) (a6 : w'.2.2.2.2.2.2.2.2 = w.2.2.2.2.2.2.2.2) (a7 : sok w → sok w') (b1 : ∀ q j, q ≠ r → aV w' q j = aV w q j) (b2 : ∀ j : Nat, aV w' r j = if j = i.toNat then v else aV w r j) :
    ZH Γ w' ls la H' (locs ++ [⟨r - 1, (zi i).toNatClampNeg⟩]) cells slots := by
  have hR := zc_rep G h
  obtain ⟨-, -, g1, g2, g3, g4, g5⟩ := id h
  have ht0 : tg w r ≠ 0 := by omega
  have hb : D.B0 + 1 ≤ r := (hR.2.2.2.1 r ht0).2.2 (by unfold cst; simp [hns]; show tg w r ≠ 34; omega)
  refine ⟨h.1, ?_, ?_, ?_, ?_, g4, g5⟩
  · rw [G.z]
    refine zc_store hR ht0 hb e2 e3 a1 a2 a4 a6 (a7 hR.2.1) (fun q' ci' x hq' _ _ k' _ => a3 q' _) (fun q' j hq' => b1 q' j hq') (fun ci' x t1 t2 => ?_) (fun t1 => ?_) (fun c hc => by rw [e1] at hc; cases hc; rfl)
    · have := (List.getElem?_eq_some_iff.mp t2).1
      have h33 : zcl.length = 36 := by decide
      omega
    · rw [e1, arrV_store, zi_nat hz]
      congr 2
      funext j
      unfold updV
      rw [b2 j]
  · rw [G.z]
    intro q' hq'
    rcases List.mem_append.mp hq' with hq' | hq'
    · have := g1 q' hq'; rw [G.z] at this; exact this
    · rcases List.mem_singleton.mp hq' with rfl
      show D.B0 ≤ r - 1
      omega
  · rw [G.z] at g2 ⊢; show _ = cz w'; rw [a4]; exact g2
  · rw [G.z] at g3 ⊢; show _ = cu w'; rw [a5]; exact g3
theorem aV_qIo {r : Nat} {i v : Int} (q j : Nat) (h : q ≠ r) : aV (qI w r i v) q j = aV w q j := by
  have e : aI (qI w r i v) q j = aI w q j := by rw [aI_qI, if_neg (fun z : q = r ∧ (j : Int) = i => h z.1)]
  unfold aV
  rw [e]
  rfl
theorem aV_qRo {r : Nat} {i : Int} {v : Nat} (q j : Nat) (h : q ≠ r) : aV (qR w r i v) q j = aV w q j := by
  have e : aR (qR w r i v) q j = aR w q j := by rw [aR_qR, if_neg (fun z : q = r ∧ (j : Int) = i => h z.1)]
  unfold aV
  rw [e]
  rfl
theorem aV_qI {r : Nat} {i v : Int} (h0 : 0 ≤ i) (hr : tg w r < 110) (j : Nat) : aV (qI w r i v) r j = if j = i.toNat then (if tg w r = 103 then .long (zj v) else .int (zi v)) else aV w r j := by
  by_cases e : j = i.toNat
  · have e2 : (j : Int) = i := by omega
    have e3 : aI (qI w r i v) r j = v := by rw [aI_qI, if_pos (show r = r ∧ (j : Int) = i from ⟨rfl, e2⟩)]
    rw [if_pos e]
    unfold aV
    rw [e3]
    show (if tg w r = 103 then _ else if 110 ≤ tg w r then _ else _) = _
    rw [if_neg (show ¬ 110 ≤ tg w r by omega)]
  · have e2 : ¬ (j : Int) = i := by omega
    have e3 : aI (qI w r i v) r j = aI w r j := by rw [aI_qI, if_neg (fun z : r = r ∧ (j : Int) = i => e2 z.2)]
    rw [if_neg e]
    unfold aV
    rw [e3]
    rfl
theorem aV_qR {r : Nat} {i : Int} {v : Nat} (h0 : 0 ≤ i) (hr : 110 ≤ tg w r) (j : Nat) : aV (qR w r i v) r j = if j = i.toNat then zrf v else aV w r j := by
  by_cases e : j = i.toNat
  · have e2 : (j : Int) = i := by omega
    have e3 : aR (qR w r i v) r j = v := by rw [aR_qR, if_pos (show r = r ∧ (j : Int) = i from ⟨rfl, e2⟩)]
    rw [if_pos e]
    unfold aV
    rw [e3]
    show (if tg w r = 103 then _ else if 110 ≤ tg w r then _ else _) = _
    rw [if_neg (show ¬ tg w r = 103 by omega), if_pos hr]
  · have e2 : ¬ (j : Int) = i := by omega
    have e3 : aR (qR w r i v) r j = aR w r j := by rw [aR_qR, if_neg (fun z : r = r ∧ (j : Int) = i => e2 z.2)]
    rw [if_neg e]
    unfold aV
    rw [e3]
    rfl
theorem zc_iast {r : Nat} {i v : Int} (G : ZOk Γ cc own nL (KnC D) (ZC D)) (ht : tg w r = 102) (hz : zr i) (hv : zr v) (h0 : 0 ≤ i) (h1 : i < ln w r) (hd : decode cc pc = .ok (.iastore, 1)) (kk : ∀ w', w' = qI w r i v → ZV Γ w' (pc + 1) ls st) : ZV Γ w pc ls (ai v :: ai i :: ar r :: st) := by
  intro la H locs cells slots h
  obtain ⟨h5, hc⟩ := zc_cell (zc_rep G h) (r := r) (by omega)
  have hA := (zc_ao G (t := 102) (by omega) (by omega) (by omega)).1
  show Γ.wk H locs cells slots (ZQ Γ) (F0 Γ.m pc la (.int (zi v) :: .int (zi i) :: (ar r :: st).map zcv))
  rw [ar_pos h5]
  exact W.iast G.exec G.bytes hc (by rw [ht]; exact hA _ _) (fun q => by cases q) (by rw [arrV_size]; exact zi_in hz h0 h1) rfl rfl hd (fun H' e1 e2 e3 => kk _ rfl la H' _ cells slots (zc_ast (w' := qI w r i v) G h (by omega) (by omega) hz h0 e1 e2 e3 (fun _ => rfl) (fun _ => rfl) (fun _ _ => rfl) rfl rfl rfl (fun h => sok_qI h i (by rw [if_neg (by omega)]; exact hv)) (fun q j hq => aV_qIo q j hq) (fun j => by rw [aV_qI h0 (by omega), if_neg (show ¬ tg w r = 103 by omega)])))
theorem zc_last {r : Nat} {i v : Int} (G : ZOk Γ cc own nL (KnC D) (ZC D)) (ht : tg w r = 103) (hz : zr i) (hv : zrl v) (h0 : 0 ≤ i) (h1 : i < ln w r) (hd : decode cc pc = .ok (.lastore, 1)) (kk : ∀ w', w' = qI w r i v → ZV Γ w' (pc + 1) ls st) : ZV Γ w pc ls (al v :: ai i :: ar r :: st) := by
  intro la H locs cells slots h
  obtain ⟨h5, hc⟩ := zc_cell (zc_rep G h) (r := r) (by omega)
  have hA := (zc_ao G (t := 103) (by omega) (by omega) (by omega)).1
  show Γ.wk H locs cells slots (ZQ Γ) (F0 Γ.m pc la (.long (zj v) :: .int (zi i) :: (ar r :: st).map zcv))
  rw [ar_pos h5]
  exact W.last G.exec G.bytes hc (by rw [ht]; exact hA _ _) (fun q => by cases q) (by rw [arrV_size]; exact zi_in hz h0 h1) rfl rfl hd (fun H' e1 e2 e3 => kk _ rfl la H' _ cells slots (zc_ast (w' := qI w r i v) G h (by omega) (by omega) hz h0 e1 e2 e3 (fun _ => rfl) (fun _ => rfl) (fun _ _ => rfl) rfl rfl rfl (fun h => sok_qI h i (by rw [if_pos ht]; exact hv)) (fun q j hq => aV_qIo q j hq) (fun j => by rw [aV_qI h0 (by omega), if_pos ht])))
theorem zn_b (a : Int) : narrow .byte (.int (zi a)) = .int (zi (i_b a)) := by
  rw [i_b_def]
  rw [zi_of]
  rfl
theorem zc_bast {r : Nat} {i v : Int} (G : ZOk Γ cc own nL (KnC D) (ZC D)) (ht : tg w r = 101 ∨ tg w r = 104) (hz : zr i) (h0 : 0 ≤ i) (h1 : i < ln w r) (hd : decode cc pc = .ok (.bastore, 1)) (kk : ∀ w', w' = qI w r i (if tg w r = 104 then zb v else i_b v) → ZV Γ w' (pc + 1) ls st) : ZV Γ w pc ls (ai v :: ai i :: ar r :: st) := by
  intro la H locs cells slots h
  obtain ⟨h5, hc⟩ := zc_cell (zc_rep G h) (r := r) (by omega)
  show Γ.wk H locs cells slots (ZQ Γ) (F0 Γ.m pc la (.int (zi v) :: .int (zi i) :: (ar r :: st).map zcv))
  rw [ar_pos h5]
  rcases ht with ht | ht
  · have hA := (zc_ao G (t := 101) (by omega) (by omega) (by omega)).1
    exact W.bast G.exec G.bytes hc (by rw [ht]; exact hA _ _) (fun q => by cases q) (by rw [arrV_size]; exact zi_in hz h0 h1) rfl rfl hd (fun H' e1 e2 e3 => kk _ rfl la H' _ cells slots (zc_ast (w' := qI w r i (if tg w r = 104 then zb v else i_b v)) G h (by omega) (by omega) hz h0 e1 e2 e3 (fun _ => rfl) (fun _ => rfl) (fun _ _ => rfl) rfl rfl rfl (fun h => sok_qI h i (by rw [if_neg (by omega), if_neg (by omega)]; exact i_b_r _)) (fun q j hq => aV_qIo q j hq) (fun j => by rw [aV_qI h0 (by omega), if_neg (show ¬ tg w r = 103 by omega), if_neg (show ¬ tg w r = 104 by omega), zn_b])))
  · have hA := (zc_ao G (t := 104) (by omega) (by omega) (by omega)).1
    exact W.zast G.exec G.bytes hc (by rw [ht]; exact hA _ _) (fun q => by cases q) (by rw [arrV_size]; exact zi_in hz h0 h1) rfl rfl hd (fun H' e1 e2 e3 => kk _ rfl la H' _ cells slots (zc_ast (w' := qI w r i (if tg w r = 104 then zb v else i_b v)) G h (by omega) (by omega) hz h0 e1 e2 e3 (fun _ => rfl) (fun _ => rfl) (fun _ _ => rfl) rfl rfl rfl (fun h => sok_qI h i (by rw [if_neg (by omega), if_pos ht]; unfold zr zb; omega)) (fun q j hq => aV_qIo q j hq) (fun j => by rw [aV_qI h0 (by omega), if_neg (show ¬ tg w r = 103 by omega), if_pos ht, ← zb_zi]; rfl)))
end ZCR2
