/-! rows of the component's world -/
section ZCR
theorem zcl_at {ci : Nat} {q : vw_C} (hq : zcl[ci]? = some q) : (zfidL.getD ci []).length = q.2.2 ∧ ∀ k, k < q.2.2 → ((q.2.1 k).1, (q.2.1 k).2.1, (q.2.1 k).2.2.1) = zfd (zfid ci k) ∧ (q.2.1 k).2.2.2 = ffin (zfid ci k) := by
  have h := List.all_eq_true.mp zcl_ok ci (List.mem_range.mpr (List.getElem?_eq_some_iff.mp hq).1)
  rw [hq] at h
  simp only [Bool.and_eq_true, decide_eq_true_eq, List.all_eq_true, List.mem_range] at h
  exact h
theorem zfd_at {f : Nat} (hf : f < zfds.length) : (parseFieldDescriptor (zfd f).2.2).map defaultValue = some (if fk f = 1 then .long 0 else if fk f = 3 then .null else .int 0) := by
  have h := List.all_eq_true.mp zfd_ok f (List.mem_range.mpr hf)
  exact of_decide_eq_true h
theorem zcl_len : zcl.length = zfidL.length := by decide +kernel
theorem hF_at {f t : Nat} (h : hF f t = true) : ∃ ci q k, t = ci + 1 ∧ zcl[ci]? = some q ∧ k < q.2.2 ∧ zfid ci k = f := by
  unfold hF at h
  simp only [Bool.and_eq_true, decide_eq_true_eq, List.contains_eq_mem] at h
  obtain ⟨h0, h1⟩ := h
  have hl : t - 1 < zfidL.length := by
    rcases Nat.lt_or_ge (t - 1) zfidL.length with q | q
    · exact q
    · have : zfidL.getD (t - 1) [] = [] := by simp [List.getD, List.getElem?_eq_none q]
      rw [this] at h1
      exact absurd h1 List.not_mem_nil
  obtain ⟨q, hq⟩ : ∃ q, zcl[t - 1]? = some q := ⟨_, List.getElem?_eq_getElem (by rw [zcl_len]; exact hl)⟩
  obtain ⟨e1, e2⟩ := zcl_at hq
  obtain ⟨k, hk, hk2⟩ := List.getElem_of_mem h1
  refine ⟨t - 1, q, k, by omega, hq, by rw [← e1]; exact hk, ?_⟩
  unfold zfid
  rw [List.getD, List.getElem?_eq_getElem hk]
  exact hk2
/-- the cell of an object that has the field f -/
theorem zc_obj {D : CD} {w : CW} {H : Heap} (hR : RepC D w H) {f r : Nat} (hf : hF f (tg w r) = true) : ∃ (ci : Nat) (q : vw_C) (k : Nat) (cell : Cell), zcl[ci]? = some q ∧ tg w r = ci + 1 ∧ k < q.2.2 ∧ zfid ci k = f ∧ 1 ≤ r ∧ H[r - 1]? = some cell ∧ cell.cls = D.cid ci ∧ cell.vm = .none ∧ (∀ j, j < q.2.2 → cell.slots[D.iS ci j]? = some (cV w r (zfid ci j))) ∧ ((q.2.1 k).1, (q.2.1 k).2.1, (q.2.1 k).2.2.1) = zfd f ∧ (q.2.1 k).2.2.2 = ffin f := by
  obtain ⟨ci, q, k, h1, h2, h3, h4⟩ := hF_at hf
  obtain ⟨-, -, -, r3, r4, -⟩ := hR
  obtain ⟨cell, c1, c2, c3, c4⟩ := r4 r ci q h1 h2
  obtain ⟨-, e2⟩ := zcl_at h2
  obtain ⟨e3, e4⟩ := e2 k h3
  refine ⟨ci, q, k, cell, h2, h1, h3, h4, (r3 r (by omega)).1, c1, c2, c3, c4, by rw [← h4]; exact e3, by rw [← h4]; exact e4⟩
theorem ar_pos {r : Nat} (h : 1 ≤ r) (st : List ZA) : (ar r :: st).map zcv = .ref (r - 1) :: st.map zcv := by
  obtain ⟨n, rfl⟩ : ∃ n, r = n + 1 := ⟨r - 1, by omega⟩
  rfl
variable {Γ : ZG CW} {cc : ByteArray} {own : String} {nL : Nat} {D : CD} {w : CW} {pc : Nat} {ls : List (Nat × ZA)} {st : List ZA}
theorem zc_rep (G : ZOk Γ cc own nL (KnC D) (ZC D)) {la : Array Slot} {H : Heap} {locs : List Loc} {cells slots : Nat} (h : ZH Γ w ls la H locs cells slots) : RepC D w H := by
  have h2 := h.2.1
  rw [G.z] at h2
  exact h2
theorem zc_sok (G : ZOk Γ cc own nL (KnC D) (ZC D)) (k : sok w → ZV Γ w pc ls st) : ZV Γ w pc ls st := fun la H locs cells slots h => k (zc_rep G h).2.1 la H locs cells slots h
theorem sok.i {w : CW} (h : sok w) (f r : Nat) (hf : fk f ≠ 1) : zr (fI w f r) := by have := h.1 f r; rw [if_neg hf] at this; exact this
theorem sok.l {w : CW} (h : sok w) (f r : Nat) (hf : fk f = 1) : zrl (fI w f r) := by have := h.1 f r; rw [if_pos hf] at this; exact this
theorem sok.a {w : CW} (h : sok w) {r : Nat} (i : Int) (hr : tg w r ≠ 103) : zr (aI w r i) := by have := h.2.1 r i; rw [if_neg hr] at this; exact this
theorem sok.al {w : CW} (h : sok w) {r : Nat} (i : Int) (hr : tg w r = 103) : zrl (aI w r i) := by have := h.2.1 r i; rw [if_pos hr] at this; exact this
theorem zc_get {v : ZA} {f r index : Nat} {ref o nm ds : String} (G : ZOk Γ cc own nL (KnC D) (ZC D)) (hf : hF f (tg w r) = true) (hfd : zfd f = (o, nm, ds)) (hlink : Cond.fieldLink own index ref nm ds ∈ lw_all) (hsame : ref = o ∨ Cond.sameField ref o nm ds ∈ lw_all) (hv : cV w r f = zcv v) (hd : decode cc pc = .ok (.getfield index, 3)) (kk : ZV Γ w (pc + 3) ls (v :: st)) : ZV Γ w pc ls (ar r :: st) := by
  intro la H locs cells slots h
  obtain ⟨ci, q, k, cell, h1, h2, h3, h4, h5, c1, c2, c3, c4, e3, e4⟩ := zc_obj (zc_rep G h) hf
  rw [hfd] at e3
  simp only [Prod.mk.injEq] at e3
  obtain ⟨e5, e6, e7⟩ := e3
  have hK1 := G.kn.2.1
  have hts : ∀ w ∈ lw_all, w.before Γ.args Γ.s = true := fun w hw => hK1 w hw Γ.args
  obtain ⟨hS, hfc, kC, hkC, hkind⟩ := G.kn.2.2.1 ci q h1
  obtain ⟨cf, kf, fi, fd, hi, hsl⟩ := hS k h3
  have hst := (u_facts hfc hkC (u_lays hts (zcl_in q (List.mem_of_getElem? h1)) h3) hi).1
  have hi2 : Γ.s.fieldFound? ref nm ds = some (cf, kf, fi, fd) := by
    rw [e5, e6, e7] at hi
    rcases hsame with rfl | hs
    · exact hi
    · exact u_same (hts _ hs) _ hi
  rw [ar_pos h5]
  exact W.getf G.exec G.bytes G.ow (hts _ hlink) hi2 hst c1 (by rw [c3]; exact fun h => by cases h) (v := zcv v) (by rw [hsl, c4 k h3, h4, hv]) rfl rfl hd (kk la H locs cells slots h)
theorem zc_getN {v : ZA} {f r index : Nat} {ref o nm ds host : String} (G : ZOk Γ cc own nL (KnC D) (ZC D)) (hf : hF f (tg w r) = true) (hfd : zfd f = (o, nm, ds)) (hlink : Cond.fieldLinkNest own index ref nm ds host ∈ lw_tbl) (hsame : ref = o ∨ Cond.sameField ref o nm ds ∈ lw_all) (hv : cV w r f = zcv v) (hd : decode cc pc = .ok (.getfield index, 3)) (kk : ZV Γ w (pc + 3) ls (v :: st)) : ZV Γ w pc ls (ar r :: st) := by
  intro la H locs cells slots h
  obtain ⟨ci, q, k, cell, h1, h2, h3, h4, h5, c1, c2, c3, c4, e3, e4⟩ := zc_obj (zc_rep G h) hf
  rw [hfd] at e3
  simp only [Prod.mk.injEq] at e3
  obtain ⟨e5, e6, e7⟩ := e3
  have hK1 := G.kn.2.1
  have hts : ∀ w ∈ lw_all, w.before Γ.args Γ.s = true := fun w hw => hK1 w hw Γ.args
  obtain ⟨hS, hfc, kC, hkC, hkind⟩ := G.kn.2.2.1 ci q h1
  obtain ⟨cf, kf, fi, fd, hi, hsl⟩ := hS k h3
  have hst := (u_facts hfc hkC (u_lays hts (zcl_in q (List.mem_of_getElem? h1)) h3) hi).1
  have hi2 : Γ.s.fieldFound? ref nm ds = some (cf, kf, fi, fd) := by
    rw [e5, e6, e7] at hi
    rcases hsame with rfl | hs
    · exact hi
    · exact u_same (hts _ hs) _ hi
  rw [ar_pos h5]
  exact va_Wgetf G.exec G.bytes G.ow (va_Nw.use (A := Γ.args) rfl (G.kn.2.2.2.2.2.1 _ (List.mem_filter.mpr ⟨hlink, rfl⟩))) hi2 hst c1 (by rw [c3]; exact fun h => by cases h) (v := zcv v) (by rw [hsl, c4 k h3, h4, hv]) rfl rfl hd (kk la H locs cells slots h)
theorem cV_I {w : CW} {f r : Nat} (h1 : fk f ≠ 1) (h3 : fk f ≠ 3) : cV w r f = zcv (ai (fI w f r)) := by unfold cV; rw [if_neg h1, if_neg h3]; rfl
theorem cV_L {w : CW} {f r : Nat} (h1 : fk f = 1) : cV w r f = zcv (al (fI w f r)) := by unfold cV; rw [if_pos h1]; rfl
theorem cV_R {w : CW} {f r : Nat} (h3 : fk f = 3) : cV w r f = zcv (ar (fR w f r)) := by unfold cV; rw [if_neg (by rw [h3]; decide), if_pos h3]; rfl
/-- the heap around stays when a cell of ours is written -/
theorem zc_store {D : CD} {w w' : CW} {H H' : Heap} {r : Nat} (hR : RepC D w H) (ht : tg w r ≠ 0) (hb : D.B0 + 1 ≤ r) (e2 : H'.size = H.size) (e3 : ∀ q, q ≠ r - 1 → H'[q]? = H[q]?) (a1 : ∀ q, tg w' q = tg w q) (a2 : ∀ q, ln w' q = ln w q) (a4 : cz w' = cz w) (a6 : w'.2.2.2.2.2.2.2.2 = w.2.2.2.2.2.2.2.2) (a7 : sok w')
    (b1 : ∀ q ci x, q ≠ r → tg w q = ci + 1 → zcl[ci]? = some x → ∀ k, k < x.2.2 → cV w' q (zfid ci k) = cV w q (zfid ci k)) (b2 : ∀ q i, q ≠ r → aV w' q i = aV w q i)
    (c1 : ∀ ci x, tg w r = ci + 1 → zcl[ci]? = some x → t_OB (r - 1) (D.cid ci) x.2.2 (D.iS ci) H' (fun k => cV w' r (zfid ci k))) (c2 : 100 ≤ tg w r → H'[r - 1]? = some (arrV (D.ca (tg w r)) (ln w r) (aV w' r))) (hv : ∀ c, H'[r - 1]? = some c → c.vm.isStatics = false) : RepC D w' H' := by
  obtain ⟨r0, r1, r2, r3, r4, r5, r6, r7, r8, r9, r10⟩ := hR
  have a6' : lp w' = lp w := congrArg (fun x => x.1) a6
  have key : ∀ q, tg w q ≠ 0 → q ≠ r → q - 1 ≠ r - 1 := fun q hq hqr => by have := (r3 q hq).1; have := (r3 r ht).1; omega
  refine ⟨by rw [e2, a4]; exact r0, a7, by rw [a1]; exact r2, fun q hq => by rw [a1] at hq ⊢; rw [a4]; exact r3 q hq, fun q ci x h1 h2 => ?_, fun q h1 => ?_, fun q h1 h2 => ?_, by rw [e2]; exact r7, by rw [a6', a1]; exact r8, a6.trans r9, fun q c h1 h2 => ?_⟩
  rotate_right
  · by_cases e : q = r - 1
    · subst e; exact hv c h2
    · rw [e3 q e] at h2; exact r10 q c h1 h2
  · rw [a1] at h1
    by_cases e : q = r
    · subst e; exact c1 ci x h1 h2
    · have h3 := r4 q ci x h1 h2
      exact (h3.kept (e3 _ (key q (by omega) e))).to (fun k hk => (b1 q ci x e h1 h2 k hk).symm)
  · rw [a1] at h1
    rw [a1, a2]
    by_cases e : q = r
    · subst e; exact c2 h1
    · rw [e3 _ (key q (by omega) e), r5 q h1, show aV w' q = aV w q from funext fun i => b2 q i e]
  · rw [a1] at h2
    rw [e3 q (by intro e; rw [e] at h2; have := (r3 r ht).1; rw [show r - 1 + 1 = r by omega] at h2; exact h2.elim ht (by omega)), r6 q h1 h2]
theorem zc_put {v : ZA} {w' : CW} {f r index : Nat} {ref o nm ds : String} {ty : FieldType} {d : Nat} {lim : Nat × Nat} {rt : Option FieldType} {name : String} {hh : List (Nat × Nat × Nat × Nat)} (G : ZOk Γ cc own nL (KnC D) (ZC D)) (M : ZRm Γ d lim rt name hh) (hf : hP f (tg w r) = true) (hfd : zfd f = (o, nm, ds)) (hlink : Cond.fieldLink own index ref nm ds ∈ lw_all) (hsame : ref = o ∨ Cond.sameField ref o nm ds ∈ lw_all)
    (hfin : ffin f = false ∨ (ffin f = true ∧ name = "<init>" ∧ o = own)) (hty : parseFieldDescriptor ds = some ty) (hn : narrow ty (zcv v) = zcv v) (hfit : fits ty (zcv v) = true)
    (a1 : ∀ q, tg w' q = tg w q) (a2 : ∀ q, ln w' q = ln w q) (a3 : ∀ q i, aV w' q i = aV w q i) (a4 : cz w' = cz w) (a5 : cu w' = cu w) (a6 : w'.2.2.2.2.2.2.2.2 = w.2.2.2.2.2.2.2.2) (a7 : sok w → sok w') (b1 : ∀ q g, ¬ (g = f ∧ q = r) → cV w' q g = cV w q g) (b2 : cV w' r f = zcv v)
    (hd : decode cc pc = .ok (.putfield index, 3)) (kk : ZV Γ w' (pc + 3) ls st) : ZV Γ w pc ls (v :: ar r :: st) := by
  unfold hP at hf
  simp only [Bool.and_eq_true, decide_eq_true_eq] at hf
  obtain ⟨hf, hns⟩ := hf
  intro la H locs cells slots h
  have hR := zc_rep G h
  obtain ⟨ci, q, k, cell, h1, h2, h3, h4, h5, c1, c2, c3, c4, e3, e4⟩ := zc_obj hR hf
  rw [hfd] at e3
  simp only [Prod.mk.injEq] at e3
  obtain ⟨e5, e6, e7⟩ := e3
  have hK1 := G.kn.2.1
  have hts : ∀ w ∈ lw_all, w.before Γ.args Γ.s = true := fun w hw => hK1 w hw Γ.args
  have hqm := List.mem_of_getElem? h1
  obtain ⟨ty0, hty0⟩ := zcl_ty q hqm
  have hap := va_apart (own := own) (D := (D.cid, D.iS)) (cl := zcl) (tys := []) (ci := ci) (C := q.1) (T := q.2.1) (N := q.2.2) hts (zcl_in q hqm) ty0 hty0 (zcl_nm q hqm) ⟨fun c x hx => G.kn.2.2.1 c x hx, fun k x hx => by simp at hx⟩ h1
  obtain ⟨hS, hfc, kC, hkC, hkind⟩ := G.kn.2.2.1 ci q h1
  obtain ⟨cf, kf, fi, fd, hi, hsl⟩ := hS k h3
  have hst := (u_facts hfc hkC (u_lays hts (zcl_in q hqm) h3) hi).1
  have hlay := hts _ (zcl_in q hqm _ (u_in_lay h3))
  unfold u_lay at hlay
  obtain ⟨-, -, g1, g2, g3, g4, g5⟩ := id h
  have ht0 : tg w r ≠ 0 := by omega
  have hz : ∀ ci', tg w r = ci' + 1 → ci' = ci := fun ci' e => by omega
  have hb : D.B0 + 1 ≤ r := (hR.2.2.2.1 r ht0).2.2 (by
    have := (List.getElem?_eq_some_iff.mp h1).1
    have h33 : zcl.length = 36 := by decide
    unfold cst; simp [hns]; omega)
  -- the world behind
  have fin : ∀ H' : Heap, H'[r - 1]? = some (cell.setSlot fd.slot (zcv v)) → H'.size = H.size → (∀ q, q ≠ r - 1 → H'[q]? = H[q]?) → Γ.wk H' (locs ++ [⟨r - 1, fd.slot⟩]) cells slots (ZQ Γ) (F0 Γ.m (pc + 3) la (st.map zcv)) := by
    intro H' e1 e2 e3
    refine kk la H' _ cells slots ⟨h.1, ?_, ?_, ?_, ?_, g4, g5⟩
    · rw [G.z]
      refine zc_store hR ht0 hb e2 e3 a1 a2 a4 a6 (a7 hR.2.1) (fun q' ci' x hq' _ _ k' _ => b1 q' _ (fun e => hq' e.2)) (fun q' i hq' => a3 q' i) (fun ci' x t1 t2 => ?_) (fun t1 => ?_) (fun c hc => by rw [e1] at hc; cases hc; show cell.vm.isStatics = false; rw [c3]; rfl)
      · obtain rfl := hz ci' t1
        cases h1.symm.trans t2
        refine ⟨_, e1, c2, c3, fun j hj => ?_⟩
        rw [hsl, t_set c4 (fun a b ha hb hab => hap a b ha hb hab) h3 (zcv v) j hj]
        unfold updV
        by_cases e : j = k
        · rw [if_pos e]; show _ = some (cV w' r (zfid ci' j)); rw [e, h4, b2]
        · rw [if_neg e]
          show some (cV w r (zfid ci' j)) = some (cV w' r (zfid ci' j))
          refine congrArg some (b1 r _ (fun z => ?_)).symm
          have hne := hap j k hj h3 e
          have z1 := z.1
          rw [← h4] at z1
          have e8 := ((zcl_at h1).2 j hj).1
          have e9 := ((zcl_at h1).2 k h3).1
          rw [z1, ← e9] at e8
          simp only [Prod.mk.injEq] at e8
          exact zcl_nm q hqm j hj k h3 e e8.2.1
      · have := (List.getElem?_eq_some_iff.mp h1).1
        have h33 : zcl.length = 36 := by decide
        omega
    · rw [G.z]
      intro q' hq'
      rcases List.mem_append.mp hq' with hq' | hq'
      · have := g1 q' hq'; rw [G.z] at this; exact this
      · rcases List.mem_singleton.mp hq' with rfl
        show D.B0 ≤ r - 1
        omega
    · rw [G.z] at g2 ⊢; show _ = cz w'; rw [a4]; exact g2
    · rw [G.z] at g3 ⊢; show _ = cu w'; rw [a5]; exact g3
  show Γ.wk H locs cells slots (ZQ Γ) (F0 Γ.m pc la (zcv v :: (ar r :: st).map zcv))
  rw [ar_pos h5]
  have hi2 : Γ.s.fieldFound? ref nm ds = some (cf, kf, fi, fd) := by
    have hi2 := hi
    rw [e5, e6, e7] at hi2
    rcases hsame with rfl | hs
    · exact hi2
    · exact u_same (hts _ hs) _ hi2
  rcases hfin with hfin | ⟨hfin, hnm, rfl⟩
  · rw [if_neg (by rw [e4, hfin]; decide)] at hlay
    have h6 := u_store hfc hkC hkind hlay hi (by rw [e7]; exact hty) hn hfit
    exact W.putK G.exec G.bytes (f := fd) ⟨G.ow, hts _ hlink, ⟨_, _, _, hi2⟩, hst⟩ (by rw [c2]; exact h6) c1 c3 (by rw [hsl]; exact k2_hasslot (c4 k h3)) rfl rfl hd fin
  · rw [if_pos (by rw [e4, hfin])] at hlay
    have hcf : Γ.m.cls = cf := by
      obtain ⟨_, _, c', _, _, _, -, -, hf', -, -, -, hown2, -⟩ := Cond.laysFinal_spec hlay
      have e1 : c' = cf := by have := hi.symm.trans hf'; simp at this; exact this.1.symm
      rw [e5] at hown2
      rw [← e1]; exact Option.some.inj (G.ow.symm.trans hown2)
    have h6 := u_fits hfc hkC hkind (Or.inr hlay) hi (by rw [e7]; exact hty) hn hfit
    exact W.putFinK G.exec G.bytes G.ow (hts _ hlink) hi2 hst hcf (M.2.2.2.2.2.2.2.1.trans hnm) (by rw [c2]; exact h6) c1 c3 (by rw [hsl]; exact k2_hasslot (c4 k h3)) rfl rfl hd fin
end ZCR
