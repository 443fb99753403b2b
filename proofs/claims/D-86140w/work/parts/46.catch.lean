/-! an exception is caught: the row of the handler table, its class resolved on the way -/
section ZCatch
theorem zh_hit {E : CtlPost} {e : Env} {d : Bool} {acts : List Action} {s : State} {f : JFrame} {a : Addr} {Q : Handler → Pre} {x : ExceptionTableEntry} {t : List ExceptionTableEntry} {c : ClassId} {cell : Cell} (hx : covers x f.pc = true) (h0 : x.catchType ≠ 0) (hl : s.vm.ClassLinks e.platform f.method.cls x.catchType c) (hcell : s.heap[a]? = some cell) (hobj : ∀ k, cell.vm ≠ .statics k)
    (hk : ∃ k, (s.vm.noted f.method.cls x.catchType (.cls c)).classes[cell.cls]? = some k) (hc : ∃ k, (s.vm.noted f.method.cls x.catchType (.cls c)).classes[c]? = some k) (hfit : (s.vm.noted f.method.cls x.catchType (.cls c)).assignable cell.cls c = true) :
    wp (findHandler.go f a (x :: t)) Q E e d acts s ↔ Q (.found x.handlerPc) d acts (s.setVm (s.vm.noted f.method.cls x.catchType (.cls c))) := by
  simp only [covers] at hx
  obtain ⟨ha, ht⟩ := (resolveClass_links e.toSetting hl).op (op := VmOp.resolveClass f.method.cls x.catchType) rfl
  simp [findHandler.go, hx, h0, ha, ht, hcell, hobj, hk, hc, hfit, VmOp.dirties, VmOp.acts]
theorem zh_miss {E : CtlPost} {e : Env} {d : Bool} {acts : List Action} {s : State} {f : JFrame} {a : Addr} {Q : Handler → Pre} {x : ExceptionTableEntry} {t : List ExceptionTableEntry} {c : ClassId} {cell : Cell} (hx : covers x f.pc = true) (h0 : x.catchType ≠ 0) (hl : s.vm.ClassLinks e.platform f.method.cls x.catchType c) (hcell : s.heap[a]? = some cell) (hobj : ∀ k, cell.vm ≠ .statics k)
    (hk : ∃ k, (s.vm.noted f.method.cls x.catchType (.cls c)).classes[cell.cls]? = some k) (hc : ∃ k, (s.vm.noted f.method.cls x.catchType (.cls c)).classes[c]? = some k) (hfit : (s.vm.noted f.method.cls x.catchType (.cls c)).assignable cell.cls c = false) :
    wp (findHandler.go f a (x :: t)) Q E e d acts s ↔ wp (findHandler.go f a t) Q E e d acts (s.setVm (s.vm.noted f.method.cls x.catchType (.cls c))) := by
  simp only [covers] at hx
  obtain ⟨ha, ht⟩ := (resolveClass_links e.toSetting hl).op (op := VmOp.resolveClass f.method.cls x.catchType) rfl
  simp [findHandler.go, hx, h0, ha, ht, hcell, hobj, hk, hc, hfit, VmOp.dirties, VmOp.acts]
def FindsV (e : Env) (s : State) (f : JFrame) (a : Addr) (vm' : Vm) (h : Handler) : Prop :=
  ∀ (Q : Handler → Pre) (E : CtlPost) (d : Bool) (acts : List Action), wp (findHandler f a) Q E e d acts s ↔ Q h d acts (s.setVm vm')
theorem zs_catch {e : Env} {s : State} {a : Addr} {f : JFrame} {r : List Frame} {pc : Nat} {vm' : Vm} (hfind : FindsV e s f a vm' (.found pc)) :
    (stepThrowing e s a (.java f :: r)).Is ((s.setVm vm').setFrames (.java { f with pc := pc, stack := [.ref a] } :: r)) [] := by
  simp only [stepThrowing, searchFrame, vmDo]
  generalize hr : Sem.go _ e false [] s = res
  obtain ⟨as, rfl, ha⟩ := Sem.eq_ok_of hr (a := Handler.found pc) (s' := s.setVm vm') (acts' := []) (by simp [hfind _ _ _ _])
  exact ⟨rfl, ha⟩
theorem zs_caught {tb : Tables} {e : Env} {s target : State} {g : JFrame} {c : Code} {below : List Frame} {a : Addr} {vm' : Vm} (h : At s g.method c below) {pc : Nat} (hfind : FindsV e ((s.setTop g).pushFrame (.throwing a)) g a vm' (.found pc))
    (hrest : Steps tb e below ((s.setVm vm').setTop { g with pc := pc, stack := [.ref a] }) target) :
    Steps tb e below ((s.setTop g).pushFrame (.throwing a)) target := by
  obtain ⟨hgo, hw⟩ := h.throwing a
  refine Steps.head hgo hw ?_
  rw [stepThread_throwing (frames_entered h.top _), (zs_catch (s := (s.setTop g).pushFrame (.throwing a)) hfind).1]
  obtain ⟨g₀, hg⟩ := Option.isSome_iff_exists.mp h.top
  obtain ⟨r, hr⟩ := State.topJava?_eq_some.mp hg
  have hr' : (s.setVm vm').frames = .java g₀ :: r := hr
  rw [State.setTop_of_frames _ hr'] at hrest
  have key : ((((s.setTop g).pushFrame (.throwing a)).setVm vm').setFrames (.java { g with pc := pc, stack := [.ref a] } :: s.frames.tail)) = (s.setVm vm').setFrames (.java { g with pc := pc, stack := [.ref a] } :: r) := by
    rw [State.pushFrame, State.setTop_of_frames _ hr, State.setFrames_setFrames, hr]
    show ((s.setFrames _).setVm vm').setFrames _ = _
    have e1 : ∀ fs, (s.setFrames fs).setVm vm' = (s.setVm vm').setFrames fs := fun fs => rfl
    rw [e1, State.setFrames_setFrames]
    rfl
  rw [key]
  exact hrest
variable {Γ : ZG CW} {cc : ByteArray} {own : String} {nL : Nat} {D : CD} {w : CW} {pc : Nat} {ls : List (Nat × ZA)} {d : Nat} {lim : Nat × Nat} {rt : Option FieldType} {name : String}
theorem zh_at {f : Nat} {t : Nat} {l : List ExceptionTableEntry} {q : Nat × Nat × Nat × Nat} {r : List (Nat × Nat × Nat × Nat)} (h : l.map (fun h => (h.startPc, h.endPc, h.handlerPc, h.catchType)) = q :: r) : ∃ x l', l = x :: l' ∧ (x.startPc, x.endPc, x.handlerPc, x.catchType) = q ∧ l'.map (fun h => (h.startPc, h.endPc, h.handlerPc, h.catchType)) = r := by
  cases l with
  | nil => cases h
  | cons x l' =>
    rw [List.map_cons, List.cons.injEq] at h
    exact ⟨x, l', rfl, h.1, h.2⟩
/-- the first handler of its table takes it -/
theorem zx_catch {x b c tgt ct : Nat} {hh : List (Nat × Nat × Nat × Nat)} {C : String} (G : ZOk Γ cc own nL (KnC D) (ZC D)) (M : ZRm Γ d lim rt name ((b, c, tgt, ct) :: hh)) (h1 : 1 ≤ tg w x) (h2 : tg w x ≤ 35) (hC : zcn (tg w x) = C) (hlink : Cond.classLink own ct C ∈ lw_all) (hct : ct ≠ 0) (hin : b ≤ pc ∧ pc < c) (kk : ZV Γ w tgt ls [ar x]) : ZX Γ w pc ls x := by
  intro la H locs cells slots st T h hT X
  have hR := zc_rep G h
  obtain ⟨q, cell, q1, q2, q3, q4, q5, q6⟩ := zc_ocell hR h1 h2
  have hCA := zc_cls G q1
  rw [q2, hC] at hCA
  have hpl : Γ.e.platform.magicAccessors = ({} : Platform).magicAccessors := by rw [X.admits.platform]
  obtain ⟨c', hc', hcl⟩ := Cond.classLink_spec G.ow (G.kn.2.1 _ hlink Γ.args) Γ.e.platform hpl
  cases hCA.1.symm.trans hc'
  obtain ⟨dk, _, _, kt, hd, _, _, _, _, hkt, _, hopen⟩ := hcl.here
  have hcl₀ := X.warmed.classLinks hcl
  have hW' : Γ.s.WarmedH (T.vm.noted Γ.m.cls ct (.cls (D.cid (tg w x - 1)))) := X.warmed.noted hd hopen (State.rightAt_cls hcl)
  obtain ⟨kt', hkt', -⟩ := hW'.alike.2.2 _ _ hkt
  obtain ⟨y, l', hl, hy, -⟩ := zh_at (f := 0) (t := 0) M.2.2.2.2.2.2.2.2
  simp only [Prod.mk.injEq] at hy
  obtain ⟨y1, y2, y3, y4⟩ := hy
  obtain ⟨t, z1, z2⟩ := kk la H locs cells slots h (T.setVm (T.vm.noted Γ.m.cls ct (.cls (D.cid (tg w x - 1))))) hT (X.noted hW')
  refine ⟨t, ?_, z2⟩
  refine zs_caught (vm' := T.vm.noted Γ.m.cls ct (.cls (D.cid (tg w x - 1)))) (pc := tgt) (by exact X.here) ?_ ?_
  · intro Q E dd acts
    rw [W.findHandler_eq (meth := Γ.meth) (code := Γ.c) (by exact X.method') X.code, hl]
    subst y4
    subst y3
    refine zh_hit (e := Γ.e) (s := (T.setTop (F0 Γ.m pc la st)).pushFrame (.throwing (x - 1))) (f := F0 Γ.m pc la st) (cell := cell) (by simp [covers]; omega) hct hcl₀ (by show T.heap[x - 1]? = _; rw [hT]; exact q3) (fun k hk => by rw [q5] at hk; cases hk) ⟨kt', by rw [q4]; exact hkt'⟩ ⟨kt', hkt'⟩ ?_
    rw [q4]
    exact va_asg _ _
  · have e : ar x = ar ((x - 1) + 1) := by rw [show x - 1 + 1 = x by omega]
    rw [e] at z1
    exact z1
/-- the first handler of its table does not take it, the second does -/
theorem zx_catch2 {x b c tgt ct b2 c2 tgt2 ct2 : Nat} {hh : List (Nat × Nat × Nat × Nat)} {C C2 : String} (G : ZOk Γ cc own nL (KnC D) (ZC D)) (M : ZRm Γ d lim rt name ((b, c, tgt, ct) :: (b2, c2, tgt2, ct2) :: hh)) (h1 : 1 ≤ tg w x) (h2 : tg w x ≤ 35) (hC2 : zcn (tg w x) = C2) (hn : znc (tg w x) C = true) (hlink : Cond.classLink own ct C ∈ lw_all) (hct : ct ≠ 0) (hin : b ≤ pc ∧ pc < c) (hlink2 : Cond.classLink own ct2 C2 ∈ lw_all) (hct2 : ct2 ≠ 0) (hin2 : b2 ≤ pc ∧ pc < c2) (kk : ZV Γ w tgt2 ls [ar x]) : ZX Γ w pc ls x := by
  intro la H locs cells slots st T h hT X
  have hR := zc_rep G h
  obtain ⟨q, cell, q1, q2, q3, q4, q5, q6⟩ := zc_ocell hR h1 h2
  have hCA := zc_cls G q1
  rw [q2, hC2] at hCA
  have hpl : Γ.e.platform.magicAccessors = ({} : Platform).magicAccessors := by rw [X.admits.platform]
  unfold znc at hn
  rw [List.contains_eq_mem, decide_eq_true_eq] at hn
  obtain ⟨c0, t0, f1, f2, f3⟩ := G.kn.2.2.2.2.2.2.2.2.2.1 _ hn
  have f1' : Γ.s.vm.findClass (zcn (tg w x)) = some c0 := f1
  rw [hC2] at f1'
  cases hCA.1.symm.trans f1'
  obtain ⟨c', hc', hcl⟩ := Cond.classLink_spec G.ow (G.kn.2.1 _ hlink Γ.args) Γ.e.platform hpl
  cases f2.symm.trans hc'
  obtain ⟨dk, _, _, kt, hd, _, _, _, _, hkt, _, hopen⟩ := hcl.here
  obtain ⟨c'', hc'', hcl2⟩ := Cond.classLink_spec G.ow (G.kn.2.1 _ hlink2 Γ.args) Γ.e.platform hpl
  cases hCA.1.symm.trans hc''
  obtain ⟨dk2, _, _, kt2, hd2, _, _, _, _, hkt2, _, hopen2⟩ := hcl2.here
  have hcl₀ := X.warmed.classLinks hcl
  have hW' : Γ.s.WarmedH (T.vm.noted Γ.m.cls ct (.cls t0)) := X.warmed.noted hd hopen (State.rightAt_cls hcl)
  obtain ⟨kt', hkt', -⟩ := hW'.alike.2.2 _ _ hkt
  obtain ⟨kx', hkx', -⟩ := hW'.alike.2.2 _ _ hkt2
  have hcl2₀ := hW'.classLinks hcl2
  have hW2 : Γ.s.WarmedH ((T.vm.noted Γ.m.cls ct (.cls t0)).noted Γ.m.cls ct2 (.cls (D.cid (tg w x - 1)))) := hW'.noted hd2 hopen2 (State.rightAt_cls hcl2)
  obtain ⟨kx2, hkx2, -⟩ := hW2.alike.2.2 _ _ hkt2
  obtain ⟨y, l', hl, hy, hl2⟩ := zh_at (f := 0) (t := 0) M.2.2.2.2.2.2.2.2
  obtain ⟨u, l'', hl', hu, -⟩ := zh_at (f := 0) (t := 0) hl2
  simp only [Prod.mk.injEq] at hy hu
  obtain ⟨y1, y2, y3, y4⟩ := hy
  obtain ⟨u1, u2, u3, u4⟩ := hu
  obtain ⟨t, z1, z2⟩ := kk la H locs cells slots h (T.setVm ((T.vm.noted Γ.m.cls ct (.cls t0)).noted Γ.m.cls ct2 (.cls (D.cid (tg w x - 1))))) hT (X.noted hW2)
  refine ⟨t, ?_, z2⟩
  refine zs_caught (vm' := (T.vm.noted Γ.m.cls ct (.cls t0)).noted Γ.m.cls ct2 (.cls (D.cid (tg w x - 1)))) (pc := tgt2) (by exact X.here) ?_ ?_
  · intro Q E dd acts
    rw [W.findHandler_eq (meth := Γ.meth) (code := Γ.c) (by exact X.method') X.code, hl, hl']
    subst y4
    subst u4
    subst u3
    have hcell : T.heap[x - 1]? = some cell := by rw [hT]; exact q3
    refine (zh_miss (e := Γ.e) (s := (T.setTop (F0 Γ.m pc la st)).pushFrame (.throwing (x - 1))) (f := F0 Γ.m pc la st) (cell := cell) (by simp [covers]; omega) hct hcl₀ hcell (fun k hk => by rw [q5] at hk; cases hk) ⟨kx', by rw [q4]; exact hkx'⟩ ⟨kt', hkt'⟩ ?_).trans ?_
    · have := hW'.alike.assignable (D.cid (tg w x - 1)) t0
      show (T.vm.noted Γ.m.cls y.catchType (.cls t0)).assignable cell.cls t0 = false
      rw [q4]
      exact this.trans f3
    · refine zh_hit (e := Γ.e) (s := ((T.setTop (F0 Γ.m pc la st)).pushFrame (.throwing (x - 1))).setVm (T.vm.noted Γ.m.cls y.catchType (.cls t0))) (f := F0 Γ.m pc la st) (cell := cell) (by simp [covers]; omega) hct2 hcl2₀ hcell (fun k hk => by rw [q5] at hk; cases hk) ⟨kx2, by rw [q4]; exact hkx2⟩ ⟨kx2, hkx2⟩ ?_
      rw [q4]
      exact va_asg _ _
  · have e : ar x = ar ((x - 1) + 1) := by rw [show x - 1 + 1 = x by omega]
    rw [e] at z1
    exact z1
end ZCatch
