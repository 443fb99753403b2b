/-! entering a private method, and a method of an interface -/
section ZEnter2
variable {Γ : ZG CW} {cc : ByteArray} {own : String} {nL : Nat} {D : CD} {w : CW} {pc : Nat} {ls : List (Nat × ZA)} {st as : List ZA} {y : MethodName} {cw : Cond} {bytes : ByteArray} {maxL index n r : Nat} {rt : Option FieldType} {hh : List (Nat × Nat × Nat × Nat)} {C : String}
theorem zc_word (G : ZOk Γ cc own nL (KnC D) (ZC D)) {q : Cond} (hm : q ∈ znwO) : q.before Γ.args Γ.s = true := by
  have h := List.all_eq_true.mp znwO_ok q hm
  rw [Bool.and_eq_true] at h
  exact va_Nw.use h.2 (G.kn.2.2.2.2.2.2.2.2.2.2.2.2.2.1 q hm)
/-- an object of the tag t has the class zcn t -/
theorem zc_rc (G : ZOk Γ cc own nL (KnC D) (ZC D)) {t : Nat} (hr : r ≠ 0) (ht : tg w r = t) (h1 : 1 ≤ t) (h2 : t ≤ 35) (hC : zcn t = C) : ZRc Γ w r C := by
  subst hC
  subst ht
  refine ⟨hr, fun H hR => ?_⟩
  rw [G.z] at hR
  obtain ⟨q, cell, q1, q2, q3, q4, q5, q6⟩ := zc_ocell hR h1 h2
  obtain ⟨f1, k, f2, -⟩ := zc_cls G q1
  rw [q2] at f1
  exact ⟨cell, q3, by rw [q5]; rfl, by rw [q4]; exact f1, k, by rw [q4]; exact f2⟩
theorem zen_P (G : ZOk Γ cc own nL (KnC D) (ZC D)) (hlink : (Cond.methodLink own index y).before Γ.args Γ.s = true) (hinst : (Cond.instanceMethod y).before Γ.args Γ.s = true) (hpriv : Cond.privateMethod y ∈ lw_tbl) {z x : MethodName} {C3 : String} (hz : (Cond.selects C3 x z).before Γ.args Γ.s = true) (hzc : z.cls = y.cls) (hcw : ZCw cw y bytes maxL rt hh) (hcode : cw.before Γ.args Γ.s = true) (hy : ZMd y n) {C2 : String} (hr : ZRc Γ w r C2) (hlen : as.length = n)
    (hd : decode cc pc = .ok (.invokevirtual index, 3)) : ZEn Γ w pc ls y 3 (ar r :: as) st := by
  intro la H locs cells slots T h hT X
  obtain ⟨hr0, hrc⟩ := hr
  obtain ⟨cellB, hcell, hobj, hcls, -⟩ := hrc H h.2.1
  obtain ⟨mk, methM, hnamed, hmethM, hstM, habM⟩ := Cond.instanceMethod_spec hinst
  have hsigM := hcw.sig hcode hnamed hmethM
  have hselP : selectMethod Γ.e.platform Γ.s.vm cellB.cls mk = .method mk := selectMethod_private hmethM (Cond.privateMethod_at (zc_word G (List.mem_filter.mpr ⟨hpriv, rfl⟩)) mk methM hnamed hmethM)
  obtain ⟨kP, hkP, hkPi⟩ : ∃ kP, Γ.s.vm.classes[mk.cls]? = some kP ∧ kP.isInterface = false := by
    have h2 := findClass_of_methodNamed hnamed
    obtain ⟨c2, r2, m2, q1, q2, q3, q4, kP, hkP, hkPi⟩ := Cond.selects_spec hz
    have h4 := findClass_of_methodNamed q3
    rw [hzc] at h4
    have h5 := Option.some.inj (h2.symm.trans h4)
    rw [h5]
    exact ⟨kP, hkP, hkPi⟩
  obtain ⟨vm₁, X₁, hstep₁⟩ := X.invokevirtual G.exec G.ow hlink hnamed hmethM hstM hkP hkPi ⟨hy.1, hy.2.1⟩ (a := r - 1) (cell := cellB) (by rw [hT]; exact hcell)
    (fun z h => by rw [h] at hobj; cases hobj) hselP hmethM habM hkP hkPi (g := F0 Γ.m pc la (((ar r :: as).reverse ++ st).map zcv)) rfl (argsL := as.map zcv) (rest := st.map zcv) (by rw [List.length_map, hlen]; exact hy.len hsigM) (zstk r hr0 as st) (by rw [G.bytes]; exact hd)
  refine ⟨vm₁, mk, _, X₁, X₁.named hnamed, by rw [G.bytes]; exact hd, fun tg h => hstep₁ _ fun acts => ?_⟩
  rw [doInvoke_state]
  rw [zargs r hr0] at h
  exact h
/-- a method of an interface: the receiver's class selects y -/
theorem zen_F {x : MethodName} {count : Nat} (G : ZOk Γ cc own nL (KnC D) (ZC D)) (hlink : Cond.methodLink own index x ∈ lw_all) (hdecl : Cond.declares x ∈ lw_tbl) (hface : Cond.interfaceMethod x.cls x.cls x.name x.desc ∈ lw_tbl) (hsel : Cond.selects C x y ∈ lw_all) (hinst : Cond.instanceMethod y ∈ lw_all) (hpub : Cond.publicMethod y ∈ lw_tbl) (hunh : Cond.unhidden C x.name x.desc ∈ lw_tbl) (hcast : Cond.castable C x.cls ∈ lw_tbl) (hx : x.cls ≠ "java/lang/invoke/MethodHandle" ∧ x.cls ≠ "java/lang/invoke/VarHandle") (hxy : y.desc = x.desc) (hcw : ZCw cw y bytes maxL rt hh) (hcode : cw.before Γ.args Γ.s = true) (hy : ZMd y n) (hr : ZRc Γ w r C) (hlen : as.length = n)
    (hd : decode cc pc = .ok (.invokeinterface index count, 5)) : ZEn Γ w pc ls y 5 (ar r :: as) st := by
  intro la H locs cells slots T h hT X
  obtain ⟨hr0, hrc⟩ := hr
  obtain ⟨cellB, hcell, hobj, hcls, kB, hkB⟩ := hrc H h.2.1
  have K : ∀ {q : Cond}, q ∈ lw_all → q.before Γ.args Γ.s = true := fun hq => G.kn.2.1 _ hq _
  obtain ⟨r0, rm, hn, hrm, hstR, hsigR⟩ := Cond.declares_spec (va_Nw.use (A := Γ.args) rfl (G.kn.2.2.2.2.2.2.2.1 _ (List.mem_filter.mpr ⟨hdecl, rfl⟩)))
  obtain ⟨cL, kL, r1, hcL, hkL, hiL, hfoundL, hn1⟩ := Cond.interfaceMethod_spec (zc_word G (List.mem_filter.mpr ⟨hface, rfl⟩))
  cases hn.symm.trans hn1
  have hr0cls : r0.cls = cL := Option.some.inj ((findClass_of_methodNamed hn).symm.trans hcL)
  obtain ⟨hnameR, hdescR⟩ := name_of_methodNamed hn hrm
  obtain ⟨mk, methM, hnamed, hmethM, -, habM⟩ := Cond.instanceMethod_spec (K hinst)
  obtain ⟨c2, r2, m2, q1, q2, q3, q4, -⟩ := Cond.selects_spec (K hsel)
  cases hcls.symm.trans q1
  cases hfoundL.symm.trans q2
  cases hnamed.symm.trans q3
  have hselP : selectMethod Γ.e.platform Γ.s.vm cellB.cls r0 = .method mk := by rw [Launch.admits_selectMethod X.admits]; exact q4
  have hpubM : hasFlag methM.accessFlags Acc.public_ = true := Cond.publicMethod_spec hnamed hmethM (zc_word G (List.mem_filter.mpr ⟨hpub, rfl⟩))
  have hway : ((cellB.cls :: Γ.s.vm.superclasses cellB.cls).any fun k => (declaredIn Γ.s.vm rm.name rm.desc k).any fun (_, z) => z.isPrivate || z.isStatic) = false := by
    rw [hnameR, hdescR]; exact Cond.unhidden_spec hcls (zc_word G (List.mem_filter.mpr ⟨hunh, rfl⟩))
  obtain ⟨c3, t3, w1, w2, w3⟩ := Cond.castable_spec (va_Nw.use (A := Γ.args) rfl (zc_castable G hcast))
  cases hcls.symm.trans w1
  cases hcL.symm.trans w2
  obtain ⟨vm₁, X₁, hstep₁⟩ := X.invokeinterface G.exec G.ow (K hlink) hn hrm hstR (by rw [hr0cls]; exact hkL) hiL hx (a := r - 1) (cell := cellB) (kcell := kB) (by rw [hT]; exact hcell)
    (fun z h => by rw [h] at hobj; cases hobj) hkB (by rw [hr0cls]; exact w3) hselP hmethM hway hpubM habM (g := F0 Γ.m pc la (((ar r :: as).reverse ++ st).map zcv)) rfl (argsL := as.map zcv) (rest := st.map zcv) (by rw [List.length_map, hlen]; exact hy.len (by rw [hxy]; exact hsigR)) (zstk r hr0 as st) (by rw [G.bytes]; exact hd)
  refine ⟨vm₁, mk, _, X₁, X₁.named hnamed, by rw [G.bytes]; exact hd, fun tg h => hstep₁ _ fun acts => ?_⟩
  rw [doInvoke_state]
  rw [zargs r hr0] at h
  exact h
end ZEnter2
