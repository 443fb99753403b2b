/-! how the callee of each kind of invoke is entered -/
section ZEnter
theorem zstk (r : Nat) (hr : r ≠ 0) (as st : List ZA) : ((ar r :: as).reverse ++ st).map zcv = (as.map zcv).reverse ++ .ref (r - 1) :: st.map zcv := by
  obtain ⟨n, rfl⟩ : ∃ n, r = n + 1 := ⟨r - 1, by omega⟩
  simp [zcv, zrf]
theorem zstkS (as st : List ZA) : (as.reverse ++ st).map zcv = (as.map zcv).reverse ++ st.map zcv := by simp
theorem zargs (r : Nat) (hr : r ≠ 0) (as : List ZA) : ((ar r :: as).map zcv) = .ref (r - 1) :: as.map zcv := by
  obtain ⟨n, rfl⟩ : ∃ n, r = n + 1 := ⟨r - 1, by omega⟩
  rfl
theorem ZCw.sig {cw : Cond} {y : MethodName} {bytes : ByteArray} {maxL : Nat} {ret : Option FieldType} {hh : List (Nat × Nat × Nat × Nat)} (h : ZCw cw y bytes maxL ret hh) {args : Array Value} {s : State} {m : MethodId} {meth : Method} (hc : cw.before args s = true) (hn : s.methodNamed? y = some m) (hm : s.vm.method? m = some meth) : parseMethodDescriptor y.desc = some meth.sig := by
  rcases h with ⟨rfl, rfl⟩ | rfl
  · obtain ⟨meth', c, h1, -, -, -, -, -, -, h8⟩ := Cond.code_spec hn hc
    cases hm.symm.trans h1
    exact h8
  · obtain ⟨m9, meth', c, hn9, h1, -, -, -, -, -, -, h8⟩ := Cond.codeWith_spec hc
    cases hn.symm.trans hn9
    cases hm.symm.trans h1
    exact h8
/-- a method's name is plain, and has n arguments -/
def ZMd (y : MethodName) (n : Nat) : Prop := y.cls ≠ "java/lang/invoke/MethodHandle" ∧ y.cls ≠ "java/lang/invoke/VarHandle" ∧ (parseMethodDescriptor y.desc).map (fun d => d.parameters.length) = some n
theorem ZMd.len {y : MethodName} {n : Nat} (h : ZMd y n) {sig : MethodDescriptor} (hs : parseMethodDescriptor y.desc = some sig) : n = sig.parameters.length := by
  have h2 := h.2.2
  rw [hs] at h2
  exact (Option.some.inj h2).symm
variable {ω : Type} {Γ : ZG ω} {cc : ByteArray} {own : String} {nL : Nat} {Kn : State → Prop} {Z : ZWi ω} {w : ω} {pc : Nat} {ls : List (Nat × ZA)} {st as : List ZA}
/-- the reference r has the class C -/
def ZRc (Γ : ZG ω) (w : ω) (r : Nat) (C : String) : Prop := r ≠ 0 ∧ ∀ H, Γ.Z.Rp w H → ∃ cell : Cell, H[r - 1]? = some cell ∧ cell.vm.isStatics = false ∧ Γ.s.vm.findClass C = some cell.cls ∧ ∃ k, Γ.s.vm.classes[cell.cls]? = some k
variable {y : MethodName} {cw : Cond} {bytes : ByteArray} {maxL index n r : Nat} {rt : Option FieldType} {hh : List (Nat × Nat × Nat × Nat)} {C : String}
theorem zen_V (G : ZOk Γ cc own nL Kn Z) (hlink : (Cond.methodLink own index y).before Γ.args Γ.s = true) (hinst : (Cond.instanceMethod y).before Γ.args Γ.s = true) (hsel : (Cond.selects C y y).before Γ.args Γ.s = true) (hcw : ZCw cw y bytes maxL rt hh) (hcode : cw.before Γ.args Γ.s = true) (hy : ZMd y n) (hr : ZRc Γ w r C) (hlen : as.length = n)
    (hd : decode cc pc = .ok (.invokevirtual index, 3)) : ZEn Γ w pc ls y 3 (ar r :: as) st := by
  intro la H locs cells slots T h hT X
  obtain ⟨hr0, hrc⟩ := hr
  obtain ⟨cellB, hcell, hobj, hcls, -⟩ := hrc H h.2.1
  obtain ⟨mk, methM, hnamed, hmethM, hstM, habM⟩ := Cond.instanceMethod_spec hinst
  have hsigM := hcw.sig hcode hnamed hmethM
  obtain ⟨c2, r2, m2, q1, q2, q3, q4, kP, hkP, hkPi⟩ := Cond.selects_spec hsel
  cases hcls.symm.trans q1
  cases (State.methodFound?_of_named hnamed ⟨hy.1, hy.2.1⟩).symm.trans q2
  cases hnamed.symm.trans q3
  have hselP : selectMethod Γ.e.platform Γ.s.vm cellB.cls mk = .method mk := by rw [Launch.admits_selectMethod X.admits]; exact q4
  obtain ⟨vm₁, X₁, hstep₁⟩ := X.invokevirtual G.exec G.ow hlink hnamed hmethM hstM hkP hkPi ⟨hy.1, hy.2.1⟩ (a := r - 1) (cell := cellB) (by rw [hT]; exact hcell)
    (fun z h => by rw [h] at hobj; cases hobj) hselP hmethM habM hkP hkPi (g := F0 Γ.m pc la (((ar r :: as).reverse ++ st).map zcv)) rfl (argsL := as.map zcv) (rest := st.map zcv) (by rw [List.length_map, hlen]; exact hy.len hsigM) (zstk r hr0 as st) (by rw [G.bytes]; exact hd)
  refine ⟨vm₁, mk, _, X₁, X₁.named hnamed, by rw [G.bytes]; exact hd, fun tg h => hstep₁ _ fun acts => ?_⟩
  rw [doInvoke_state]
  rw [zargs r hr0] at h
  exact h
theorem zen_VN {host : String} (G : ZOk Γ cc own nL Kn Z) (hlink : (Cond.methodLinkNest own index y host).before Γ.args Γ.s = true) (hinst : (Cond.instanceMethod y).before Γ.args Γ.s = true) (hsel : (Cond.selects C y y).before Γ.args Γ.s = true) (hcw : ZCw cw y bytes maxL rt hh) (hcode : cw.before Γ.args Γ.s = true) (hy : ZMd y n) (hr : ZRc Γ w r C) (hlen : as.length = n)
    (hd : decode cc pc = .ok (.invokevirtual index, 3)) : ZEn Γ w pc ls y 3 (ar r :: as) st := by
  intro la H locs cells slots T h hT X
  obtain ⟨hr0, hrc⟩ := hr
  obtain ⟨cellB, hcell, hobj, hcls, -⟩ := hrc H h.2.1
  obtain ⟨mk, methM, hnamed, hmethM, hstM, habM⟩ := Cond.instanceMethod_spec hinst
  have hsigM := hcw.sig hcode hnamed hmethM
  obtain ⟨c2, r2, m2, q1, q2, q3, q4, kP, hkP, hkPi⟩ := Cond.selects_spec hsel
  cases hcls.symm.trans q1
  cases (State.methodFound?_of_named hnamed ⟨hy.1, hy.2.1⟩).symm.trans q2
  cases hnamed.symm.trans q3
  have hselP : selectMethod Γ.e.platform Γ.s.vm cellB.cls mk = .method mk := by rw [Launch.admits_selectMethod X.admits]; exact q4
  obtain ⟨vm₁, X₁, hstep₁⟩ := X.invokevirtualNest G.exec G.ow hlink hnamed hmethM hstM hkP hkPi ⟨hy.1, hy.2.1⟩ (a := r - 1) (cell := cellB) (by rw [hT]; exact hcell)
    (fun z h => by rw [h] at hobj; cases hobj) hselP hmethM habM hkP hkPi (g := F0 Γ.m pc la (((ar r :: as).reverse ++ st).map zcv)) rfl (argsL := as.map zcv) (rest := st.map zcv) (by rw [List.length_map, hlen]; exact hy.len hsigM) (zstk r hr0 as st) (by rw [G.bytes]; exact hd)
  refine ⟨vm₁, mk, _, X₁, X₁.named hnamed, by rw [G.bytes]; exact hd, fun tg h => hstep₁ _ fun acts => ?_⟩
  rw [doInvoke_state]
  rw [zargs r hr0] at h
  exact h
theorem zen_S (G : ZOk Γ cc own nL Kn Z) (hlink : (Cond.methodLink own index y).before Γ.args Γ.s = true) (hstat : (Cond.static y).before Γ.args Γ.s = true) (hinit : (Cond.initialized y.cls).before Γ.args Γ.s = true) (hnm : ∃ mk, Γ.s.methodNamed? y = some mk) (hcw : ZCw cw y bytes maxL rt hh) (hcode : cw.before Γ.args Γ.s = true) (hy : ZMd y n) (hlen : as.length = n)
    (hd : decode cc pc = .ok (.invokestatic index, 3)) : ZEn Γ w pc ls y 3 as st := by
  intro la H locs cells slots T h hT X
  obtain ⟨mk, hnamed⟩ := hnm
  obtain ⟨methM, cM, hmethM, -⟩ := hcw.spec hcode hnamed
  have hsigM := hcw.sig hcode hnamed hmethM
  have hstatic : methM.isStatic = true := Cond.static_spec hnamed hmethM hstat
  obtain ⟨kP, hkP, -⟩ := className_of_methodNamed hnamed
  have hinitP : kP.init = .initialized := Cond.initialized_spec (findClass_of_methodNamed hnamed) hkP hinit
  obtain ⟨vm₁, X₁, hstep₁⟩ := X.invokestatic G.exec G.ow hlink hnamed hmethM hstatic hkP hinitP ⟨hy.1, hy.2.1⟩ (g := F0 Γ.m pc la ((as.reverse ++ st).map zcv)) rfl (argsL := as.map zcv) (rest := st.map zcv) (by rw [List.length_map, hlen]; exact hy.len hsigM) (zstkS as st) (by rw [G.bytes]; exact hd)
  refine ⟨vm₁, mk, _, X₁, X₁.named hnamed, by rw [G.bytes]; exact hd, fun tg h => hstep₁ _ fun acts => ?_⟩
  rw [doInvoke_state]
  exact h
theorem zen_SN {host : String} (G : ZOk Γ cc own nL Kn Z) (hlink : (Cond.methodLinkNest own index y host).before Γ.args Γ.s = true) (hstat : (Cond.static y).before Γ.args Γ.s = true) (hinit : (Cond.initialized y.cls).before Γ.args Γ.s = true) (hnm : ∃ mk, Γ.s.methodNamed? y = some mk) (hcw : ZCw cw y bytes maxL rt hh) (hcode : cw.before Γ.args Γ.s = true) (hy : ZMd y n) (hlen : as.length = n)
    (hd : decode cc pc = .ok (.invokestatic index, 3)) : ZEn Γ w pc ls y 3 as st := by
  intro la H locs cells slots T h hT X
  obtain ⟨mk, hnamed⟩ := hnm
  obtain ⟨methM, cM, hmethM, -⟩ := hcw.spec hcode hnamed
  have hsigM := hcw.sig hcode hnamed hmethM
  have hstatic : methM.isStatic = true := Cond.static_spec hnamed hmethM hstat
  obtain ⟨kP, hkP, -⟩ := className_of_methodNamed hnamed
  have hinitP : kP.init = .initialized := Cond.initialized_spec (findClass_of_methodNamed hnamed) hkP hinit
  obtain ⟨vm₁, X₁, hstep₁⟩ := X.invokestaticNest G.exec G.ow hlink hnamed hmethM hstatic hkP hinitP ⟨hy.1, hy.2.1⟩ (g := F0 Γ.m pc la ((as.reverse ++ st).map zcv)) rfl (argsL := as.map zcv) (rest := st.map zcv) (by rw [List.length_map, hlen]; exact hy.len hsigM) (zstkS as st) (by rw [G.bytes]; exact hd)
  refine ⟨vm₁, mk, _, X₁, X₁.named hnamed, by rw [G.bytes]; exact hd, fun tg h => hstep₁ _ fun acts => ?_⟩
  rw [doInvoke_state]
  exact h
theorem zen_I (G : ZOk Γ cc own nL Kn Z) (hy1 : y.name = "<init>") (hlink : (Cond.methodLink own index y).before Γ.args Γ.s = true) (hinst : (Cond.instanceMethod y).before Γ.args Γ.s = true) (hcode : (Cond.code y bytes maxL none).before Γ.args Γ.s = true) (hy : ZMd y n) (hr : r ≠ 0) (hlen : as.length = n)
    (hd : decode cc pc = .ok (.invokespecial index, 3)) : ZEn Γ w pc ls y 3 (ar r :: as) st := by
  intro la H locs cells slots T h hT X
  have hpl : Γ.e.platform.magicAccessors = ({} : Platform).magicAccessors := by rw [X.admits.platform]
  obtain ⟨mk, methM, cM, kP, vm₁, hnamed, hmethM, hcodeM, -, hlocalsM, -, hkP, -, hW₁, hstep₁⟩ := Steps.initColdArgs (e := Γ.e) X.here G.exec X.warmed hpl G.ow hy1 ⟨hy.1, hy.2.1⟩ hlink hinst hcode (f := F0 Γ.m pc la (((ar r :: as).reverse ++ st).map zcv)) rfl (argsL := as.map zcv) (rest := st.map zcv) (fun sig hs => by rw [List.length_map, hlen]; exact hy.len hs) (zstk r hr as st) (by rw [G.bytes]; exact hd)
  have X₁ := X.noted hW₁
  refine ⟨vm₁, mk, _, X₁, X₁.named hnamed, by rw [G.bytes]; exact hd, fun tg h => hstep₁ _ fun acts => ?_⟩
  rw [doInvoke_state]
  rw [zargs r hr] at h
  exact h
theorem zen_IN {host : String} (G : ZOk Γ cc own nL Kn Z) (hy1 : y.name = "<init>") (hlink : (Cond.methodLinkNest own index y host).before Γ.args Γ.s = true) (hinst : (Cond.instanceMethod y).before Γ.args Γ.s = true) (hcode : (Cond.code y bytes maxL none).before Γ.args Γ.s = true) (hy : ZMd y n) (hr : r ≠ 0) (hlen : as.length = n)
    (hd : decode cc pc = .ok (.invokespecial index, 3)) : ZEn Γ w pc ls y 3 (ar r :: as) st := by
  intro la H locs cells slots T h hT X
  have hpl : Γ.e.platform.magicAccessors = ({} : Platform).magicAccessors := by rw [X.admits.platform]
  obtain ⟨mk, methM, cM, kP, vm₁, hnamed, hmethM, hcodeM, -, hlocalsM, -, hkP, -, hW₁, hstep₁⟩ := Steps.initColdArgsNest (e := Γ.e) X.here G.exec X.warmed hpl G.ow hy1 ⟨hy.1, hy.2.1⟩ hlink hinst hcode (f := F0 Γ.m pc la (((ar r :: as).reverse ++ st).map zcv)) rfl (argsL := as.map zcv) (rest := st.map zcv) (fun sig hs => by rw [List.length_map, hlen]; exact hy.len hs) (zstk r hr as st) (by rw [G.bytes]; exact hd)
  have X₁ := X.noted hW₁
  refine ⟨vm₁, mk, _, X₁, X₁.named hnamed, by rw [G.bytes]; exact hd, fun tg h => hstep₁ _ fun acts => ?_⟩
  rw [doInvoke_state]
  rw [zargs r hr] at h
  exact h
/-- the named method x is inherited or overridden: the receiver's class selects y -/
theorem zen_U {owner : String} {x : MethodName} (G : ZOk Γ cc own nL Kn Z) (hlink : (Cond.methodLink own index x).before Γ.args Γ.s = true) (hsame : (Cond.sameMethod x.cls owner x.name x.desc).before Γ.args Γ.s = true) (hd0 : va_Decl Γ.s ⟨owner, x.name, x.desc⟩) (howner : owner ≠ "java/lang/invoke/MethodHandle" ∧ owner ≠ "java/lang/invoke/VarHandle") (hsel : (Cond.selects C x y).before Γ.args Γ.s = true) (hinst : (Cond.instanceMethod y).before Γ.args Γ.s = true) (hx : ZMd x n) (hr : ZRc Γ w r C) (hlen : as.length = n)
    (hd : decode cc pc = .ok (.invokevirtual index, 3)) : ZEn Γ w pc ls y 3 (ar r :: as) st := by
  intro la H locs cells slots T h hT X
  obtain ⟨hr0, hrc⟩ := hr
  obtain ⟨cellB, hcell, hobj, hcls, -⟩ := hrc H h.2.1
  obtain ⟨r0, rr, hn, hrm, hstR, hsigR⟩ := hd0
  obtain ⟨cn, ck, r1, hcn, hck, hni, hf, hn1⟩ := Cond.sameMethod_found hsame
  cases hn.symm.trans hn1
  obtain ⟨mk, methM, hnamed, hmethM, -, habM⟩ := Cond.instanceMethod_spec hinst
  obtain ⟨c2, r2, m2, q1, q2, q3, q4, kP, hkP, hkPi⟩ := Cond.selects_spec hsel
  cases hcls.symm.trans q1
  cases hf.symm.trans q2
  cases hnamed.symm.trans q3
  have hselP : selectMethod Γ.e.platform Γ.s.vm cellB.cls r0 = .method mk := by rw [Launch.admits_selectMethod X.admits]; exact q4
  obtain ⟨vm₁, X₁, hstep₁⟩ := X.invokevirtualUp G.exec G.ow hlink hsame howner hn hrm hstR (a := r - 1) (cell := cellB) (by rw [hT]; exact hcell)
    (fun z h => by rw [h] at hobj; cases hobj) hselP hmethM habM hkP hkPi (g := F0 Γ.m pc la (((ar r :: as).reverse ++ st).map zcv)) rfl (argsL := as.map zcv) (rest := st.map zcv) (by rw [List.length_map, hlen]; exact hx.len hsigR) (zstk r hr0 as st) (by rw [G.bytes]; exact hd)
  refine ⟨vm₁, mk, _, X₁, X₁.named hnamed, by rw [G.bytes]; exact hd, fun tg h => hstep₁ _ fun acts => ?_⟩
  rw [doInvoke_state]
  rw [zargs r hr0] at h
  exact h
/-- super.y(..) -/
theorem zen_SU (G : ZOk Γ cc own nL Kn Z) (hlink : (Cond.methodLink own index y).before Γ.args Γ.s = true) (hsame : (Cond.sameMethod y.cls y.cls y.name y.desc).before Γ.args Γ.s = true) (hsup : (Cond.superclass own y.cls).before Γ.args Γ.s = true) (hinst : (Cond.instanceMethod y).before Γ.args Γ.s = true) (hcw : ZCw cw y bytes maxL rt hh) (hcode : cw.before Γ.args Γ.s = true) (hno : y.name ≠ "<init>") (hy : ZMd y n) (hr : ZRc Γ w r C) (hlen : as.length = n)
    (hd : decode cc pc = .ok (.invokespecial index, 3)) : ZEn Γ w pc ls y 3 (ar r :: as) st := by
  intro la H locs cells slots T h hT X
  obtain ⟨hr0, hrc⟩ := hr
  obtain ⟨cellB, hcell, hobj, hcls, kB, hkB⟩ := hrc H h.2.1
  obtain ⟨mk, methM, hnamed, hmethM, hstM, habM⟩ := Cond.instanceMethod_spec hinst
  have hsigM := hcw.sig hcode hnamed hmethM
  obtain ⟨ps, dk, kp, hps, hdk, hkp, hsuper, -, -, hnid⟩ := Cond.superclass_spec G.ow hsup
  have hn : Γ.s.methodNamed? ⟨y.cls, y.name, y.desc⟩ = some mk := hnamed
  have hpm : ps = mk.cls := Option.some.inj (hps.symm.trans (findClass_of_methodNamed hnamed))
  have hsub : Γ.s.vm.isSubclass ps mk.cls = true := by rw [hpm]; simp [Vm.isSubclass, Vm.isSubclassAux]
  obtain ⟨vm₁, X₁, hstep₁⟩ := X.invokespecialUp G.exec G.ow hlink hsame hn hmethM hstM habM hno hdk hnid hps hsuper hsub (a := r - 1) (cell := cellB) (by rw [hT]; exact hcell)
    (fun z h => by rw [h] at hobj; cases hobj) hkB (g := F0 Γ.m pc la (((ar r :: as).reverse ++ st).map zcv)) rfl (argsL := as.map zcv) (rest := st.map zcv) (by rw [List.length_map, hlen]; exact hy.len hsigM) (zstk r hr0 as st) (by rw [G.bytes]; exact hd)
  refine ⟨vm₁, mk, _, X₁, X₁.named hnamed, by rw [G.bytes]; exact hd, fun tg h => hstep₁ _ ?_⟩
  rw [doInvoke_state]
  rw [zargs r hr0] at h
  exact h
end ZEnter
