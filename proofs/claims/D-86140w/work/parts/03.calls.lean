/-! CONTRACTS over an abstract world, that may return or throw; calls by them -/
section ZCalls
/-- a method's arguments as its first locals -/
def zargl : Nat → List ZA → List (Nat × ZA)
  | _, [] => []
  | i, v :: vs => (i, v) :: zargl (if zcat v = 2 then i + 2 else i + 1) vs
theorem zloc_aux (d q : Nat) : 64 * (d + 1) + q = 64 * d + q + 64 := by omega
theorem zloc_s (d : Nat) : zloc (d + 1) = zloc d + 64 := zloc_aux d 10400
theorem zloc_ge (d : Nat) : 10400 ≤ zloc d := Nat.le_add_left _ _
def zroom (d mc ms : Nat) : Room := { frames := d, cells := mc, slots := ms, locals := zloc d }
theorem zroom_locals (d mc ms : Nat) : (zroom d mc ms).locals = zloc d := rfl
/-- the contract: from every state that holds w, with the room, y ends with Q -/
def ZMX {ω : Type} (l : Launch) (Kn : State → Prop) (Z : ZWi ω) (y : MethodName) (cw : Cond) (d : Nat) (lim : Nat × Nat) (as : List ZA) (w : ω) (Q : ZRes → ω → Prop) : Prop :=
  MetFree l y (headSpec [cw] (zroom d (lim.1 - Z.sz w) (lim.2 - Z.us w)))
    (fun a U => a = (as.map zcv).toArray ∧ Kn U ∧ Z.Rp w U.heap ∧ Z.sz w ≤ lim.1 ∧ Z.us w ≤ lim.2)
    (fun _ _ _ _ _ => True)
    (fun _ st o t => ∃ (r : ZRes) (w' : ω) (L : List Loc), o = zoc r ∧ zrok r ∧ Q r w' ∧ Z.Rp w' t.heap ∧ ZFX st t L (Z.sz w' - Z.sz w) (Z.us w' - Z.us w) ∧ (∀ q ∈ L, Z.B0 ≤ q.base) ∧ Z.sz w ≤ Z.sz w' ∧ Z.us w ≤ Z.us w' ∧ Z.sz w' ≤ lim.1 ∧ Z.us w' ≤ lim.2)
/-- a code word, with its bytes and its locals -/
def ZCw (cw : Cond) (y : MethodName) (bytes : ByteArray) (maxL : Nat) (ret : Option FieldType) (hh : List (Nat × Nat × Nat × Nat)) : Prop := (cw = Cond.code y bytes maxL ret ∧ hh = []) ∨ cw = Cond.codeWith y bytes maxL ret hh
theorem ZCw.spec {cw : Cond} {y : MethodName} {bytes : ByteArray} {maxL : Nat} {ret : Option FieldType} {hh : List (Nat × Nat × Nat × Nat)} (h : ZCw cw y bytes maxL ret hh) {args : Array Value} {s : State} {m : MethodId} (hc : cw.before args s = true) (hn : s.methodNamed? y = some m) :
    ∃ meth c, s.vm.method? m = some meth ∧ meth.code = some c ∧ c.code = bytes ∧ c.maxLocals = maxL ∧ meth.sig.returnType = ret ∧ meth.locks = false ∧ c.exceptionTable.toList.map (fun h => (h.startPc, h.endPc, h.handlerPc, h.catchType)) = hh := by
  rcases h with ⟨rfl, rfl⟩ | rfl
  · obtain ⟨meth, c, h1, h2, h3, h4, h5, h6, h7, -⟩ := Cond.code_spec hn hc
    exact ⟨meth, c, h1, h2, h3, h4, h5, h6, by rw [show c.exceptionTable.toList = [] from by simpa using h7]; rfl⟩
  · obtain ⟨m9, meth, c, hn9, h1, h2, h3, h4, h7, h5, h6, -⟩ := Cond.codeWith_spec hc
    cases hn.symm.trans hn9
    exact ⟨meth, c, h1, h2, h3, h4, h5, h6, h7⟩
section
variable {l : Launch} {R : Room} {p : Program} {e : Env} {below : List Frame} {s : State} {sargs : Array Value} {m : MethodId} {meth : Method} {c : Code} {T : State} {locs : List Loc} {cells slots : Nat}
theorem zx_back {ω : Type} {Kn : State → Prop} {Z : ZWi ω} {y : MethodName} {cw : Cond} {d : Nat} {lim : Nat × Nat} {as : List ZA} {w : ω} {Q : ZRes → ω → Prop} {bytes : ByteArray} {maxL : Nat} {ret : Option FieldType} {hh : List (Nat × Nat × Nat × Nat)}
    (X : Stand p l e R s m sargs below meth c T locs cells slots) (hM : ZMX l Kn Z y cw d lim as w Q) (hcw : ZCw cw y bytes maxL ret hh)
    {g : JFrame} {ig : Instr} {len : Nat} {mk : MethodId} (hg : g.method = m) (hsize : g.locals.size = c.maxLocals) (hdg : decode c.code g.pc = .ok (ig, len)) (hW : 2 * g.monitorRoom + (g.stack.map fun v => v.category).sum ≤ 8)
    (hn : T.methodNamed? y = some mk) (hK : ∀ U : State, s.WarmedH U.vm → Kn U) (hRp : Z.Rp w T.heap) (h1 : cw.before (as.map zcv).toArray T = true) (hini : (Cond.initialized y.cls).before (as.map zcv).toArray T = true)
    (hl1 : Z.sz w ≤ lim.1) (hl2 : Z.us w ≤ lim.2) (hfr : d + 1 ≤ R.frames) (hlo : 8 + (maxL + 11) + zloc d ≤ R.locals) (hc1 : cells + (lim.1 - Z.sz w) ≤ R.cells) (hc2 : slots + (lim.2 - Z.us w) ≤ R.slots) :
    ∃ (r : ZRes) (w' : ω) (T' : State) (L : List Loc), Stand p l e R s m sargs below meth c T' (locs ++ L) (cells + (Z.sz w' - Z.sz w)) (slots + (Z.us w' - Z.us w)) ∧ Z.Rp w' T'.heap ∧ zrok r ∧ Q r w' ∧ (∀ q ∈ L, Z.B0 ≤ q.base) ∧ Z.sz w ≤ Z.sz w' ∧ Z.us w ≤ Z.us w' ∧ Z.sz w' ≤ lim.1 ∧ Z.us w' ≤ lim.2 ∧
      (∀ v, r = .inl v → ∀ tg, Steps p.tables e below (T'.setTop { g with pc := g.pc + len, stack := (v.map zcv).toList ++ g.stack }) tg → Steps p.tables e below (doInvoke e (T.setTop g) [] mk (as.map zcv).toArray).1 tg) ∧
      (∀ x, r = .inr x → ∀ tg, Steps p.tables e below ((T'.setTop g).pushFrame (.throwing (x - 1))) tg → Steps p.tables e below (doInvoke e (T.setTop g) [] mk (as.map zcv).toArray).1 tg) := by
  obtain ⟨methY, cY, hmY, hcY, -, hlY, -, -, -⟩ := hcw.spec h1 hn
  obtain ⟨kY, hkY, -⟩ := className_of_methodNamed hn
  have hinitY : kY.init = .initialized := Cond.initialized_spec (findClass_of_methodNamed hn) hkY hini
  have h : At T g.method c below := by rw [hg]; exact X.here
  have hr1 : (zroom d (lim.1 - Z.sz w) (lim.2 - Z.us w)).frames + 1 ≤ R.frames := hfr
  have hr2 : 2 * g.monitorRoom + (g.stack.map fun v => v.category).sum + (cY.maxLocals + 11) + (zroom d (lim.1 - Z.sz w) (lim.2 - Z.us w)).locals ≤ R.locals := by
    rw [hlY, zroom_locals]
    omega
  have happ : (headSpec [cw] (zroom d (lim.1 - Z.sz w) (lim.2 - Z.us w))).appliesLoose y e.platform (T.calling g mk (as.map zcv).toArray) = true :=
    Spec.appliesLoose_calling (g := g) h hdg hn hkY hinitY
      (X.room_calling (g := g) (R' := zroom d (lim.1 - Z.sz w) (lim.2 - Z.us w)) hsize hmY hcY hr1 hr2 hc1 hc2) (atoms_intro (fun q hq => by rcases List.mem_singleton.mp hq with rfl; exact h1))
  obtain ⟨mid, hmid⟩ := h.above
  have hfrm : (T.setTop g).frames = (.java g :: mid) ++ below := by rw [State.frames_setTop' g h.top, hmid]; rfl
  obtain ⟨o, s₂, hsteps, -, hend, hq⟩ := Steps.callFree hM p X.admits X.cas X.clock (acts := []) hfrm happ ⟨rfl, hK _ (show s.WarmedH (T.calling g mk (as.map zcv).toArray).vm from X.warmed), hRp, hl1, hl2⟩ trivial
  have hq' : ∃ (r : ZRes) (w' : ω) (L : List Loc), o = zoc r ∧ zrok r ∧ Q r w' ∧ Z.Rp w' s₂.heap ∧ ZFX (T.calling g mk (as.map zcv).toArray) s₂ L (Z.sz w' - Z.sz w) (Z.us w' - Z.us w) ∧ (∀ q ∈ L, Z.B0 ≤ q.base) ∧ Z.sz w ≤ Z.sz w' ∧ Z.us w ≤ Z.us w' ∧ Z.sz w' ≤ lim.1 ∧ Z.us w' ≤ lim.2 := hq
  rw [State.frames_setTop' g h.top] at hend
  obtain ⟨r, w', L, rfl, hrk, hQ, hRp', ⟨hW₂, hsame⟩, hL, b1, b2, b3, b4⟩ := hq'
  have htail : T.frames.tail = below := X.tail
  cases r with
  | inl v =>
    obtain ⟨e2, q2, q3, q4, q5, q6⟩ := id hsame
    have e3 : s₂ = ({ (T.calling g mk (as.map zcv).toArray).setFrames s₂.frames with heap := s₂.heap, slotsUsed := s₂.slotsUsed } : State).setVm s₂.vm := by
      have : s₂ = ({ s₂ with vm := (T.calling g mk (as.map zcv).toArray).vm } : State).setVm s₂.vm := rfl
      rw [e2] at this
      exact this
    obtain ⟨c₂, i₂, len₂, hc₂, hd₂, hf₂⟩ := hend
    have hW' : T.WarmedH s₂.vm := hW₂
    have hcc : c₂ = c := by
      have h1 : s₂.code? g.method = T.code? g.method := by
        rw [State.code?_eq, State.code?_eq, hW'.alike.method?]
      exact Option.some.inj (hc₂.symm.trans (h1.trans h.code))
    subst hcc
    have hlen : len₂ = len := by rw [hdg] at hd₂; cases hd₂; rfl
    subst hlen
    obtain ⟨g₀, hg0⟩ := Option.isSome_iff_exists.mp h.top
    obtain ⟨r, hr⟩ := State.topJava?_eq_some.mp hg0
    have hs₂ : s₂ = (({ T with heap := s₂.heap, slotsUsed := s₂.slotsUsed } : State).setVm s₂.vm).setTop { g with pc := g.pc + len₂, stack := (v.map zcv).toList ++ g.stack } := by
      have hr' : (({ T with heap := s₂.heap, slotsUsed := s₂.slotsUsed } : State).setVm s₂.vm).frames = .java g₀ :: r := hr
      refine e3.trans ?_
      rw [hf₂, State.calling_eq h.top, State.setFrames_setFrames, State.setTop_of_frames _ hr', hr]
      rfl
    have hsame' : T.sameButNew ({ T with heap := s₂.heap, slotsUsed := s₂.slotsUsed } : State) L (Z.sz w' - Z.sz w) (Z.us w' - Z.us w) := by
      refine ⟨?_, q2, q3, q4, q5, q6⟩
      obtain ⟨t, ht, -⟩ := State.frames_cons hr
      show ({ T with heap := s₂.heap, slotsUsed := s₂.slotsUsed } : State) = { T.setFrames T.frames with heap := s₂.heap, slotsUsed := s₂.slotsUsed }
      rw [State.setFrames_self ht]
    subst hg
    refine ⟨.inl v, w', (({ T with heap := s₂.heap, slotsUsed := s₂.slotsUsed } : State).setVm s₂.vm), L,
      ⟨X.admits, X.cas, X.clock, X.frames, X.room, X.hears, X.method, X.code, (X.here.setHeapUsed s₂.heap s₂.slotsUsed).setVm hW'.alike, X.tail, State.WarmedH.trans X.warmed hW', X.limits, X.bytes, X.same.trans (hsame'.setVm s.vm)⟩, hRp', hrk, hQ, hL, b1, b2, b3, b4, ?_, fun x hx => by cases hx⟩
    intro v' hv tg htg
    cases hv
    rw [← hs₂] at htg
    exact hsteps.trans htg
  | inr x =>
    have hend' : Ended s₂ (.java g :: below) (.threw (x - 1)) := by
      rw [htail] at hend
      exact hend
    obtain ⟨T', X', hWT, -, ht⟩ := X.outOfThrown hg (mk := mk) (a := (as.map zcv).toArray) hend' hW₂ hsame
    have hh : s₂.heap = T'.heap := by
      rw [ht]
      obtain ⟨g₀, hfr0⟩ := X'.frames_eq
      rw [State.setTop_of_frames _ hfr0]
      rfl
    refine ⟨.inr x, w', T', L, X', by rw [← hh]; exact hRp', hrk, hQ, hL, b1, b2, b3, b4, fun v hv => (by cases hv), ?_⟩
    intro x' hx tg htg
    cases hx
    rw [← ht] at htg
    exact hsteps.trans htg
end
section
variable {ω : Type}
theorem zlen (as : List ZA) : (lg_sl (as.map zcv)).length = (as.map zcat).sum := by
  induction as with
  | nil => rfl
  | cons v r ih =>
    have h1 : lg_sl ((v :: r).map zcv) = (if (zcv v).category = 2 then [.val (zcv v), .second] else [.val (zcv v)]) ++ lg_sl (r.map zcv) := rfl
    rw [h1, List.length_append, ih, List.map_cons, List.sum_cons, zcv_cat]
    rcases v with a | a | a <;> rfl
/-- a method's contract out of the walk of its body -/
theorem zx_body {l : Launch} {Kn : State → Prop} {Z : ZWi ω} {y : MethodName} {cw : Cond} {d : Nat} {lim : Nat × Nat} {as : List ZA} {w : ω} {Q : ZRes → ω → Prop} {bytes : ByteArray} {maxL : Nat} {ret : Option FieldType} {hh : List (Nat × Nat × Nat × Nat)}
    (hy : plainName y.cls = true) (hcw : ZCw cw y bytes maxL ret hh) (hKw : ∀ s U : State, s.WarmedH U.vm → Kn s → Kn U) (hlen : (as.map zcat).sum ≤ maxL)
    (body : ∀ Γ : ZG ω, Γ.l = l → Γ.Q = Q → ZOk Γ bytes y.cls maxL Kn Z → ZRm Γ d lim ret y.name hh → ZV Γ w 0 (zargl 0 as) []) : ZMX l Kn Z y cw d lim as w Q := by
  refine MetFree.of_bodyS (code := bytes) (maxLocals := maxL) (ret := ret) hy ?_ ?_
  · intro args s m h hn
    obtain ⟨meth, c, h1, h2, h3, h4, h5, h6, -⟩ := hcw.spec (atoms_spec (ws := [cw]) h cw List.mem_cons_self) hn
    exact ⟨meth, c, h1, h2, h3, h4, h5, h6⟩
  · intro p e s m args below meth c s₁ B hml hP _
    obtain ⟨rfl, hKs, hRp, hl1, hl2⟩ := hP
    have hh0 : s₁.heap = s.heap := by rw [B.state]; rfl
    have hc1 : cw.before (as.map zcv).toArray s = true := atoms_spec (ws := [cw]) B.pre cw List.mem_cons_self
    obtain ⟨meth', c', h1, h2, h3, h4, h5, h6, h7⟩ := hcw.spec hc1 B.named
    cases B.method.symm.trans h1
    have X₀ := Stand.of_body B
    cases X₀.code.symm.trans h2
    let Γ : ZG ω := ((p, l, e, (zroom d (lim.1 - Z.sz w) (lim.2 - Z.us w)), s, m, (as.map zcv).toArray, below, meth, c), Z, maxL, Q, Z.sz w, Z.us w)
    have G : ZOk Γ bytes y.cls maxL Kn Z := ⟨B.exec, B.bytes, hml, findClass_of_methodNamed B.named, B.notSynchronized, fun U hU => hKw s U hU hKs, rfl, rfl, w, hRp, rfl⟩
    have M : ZRm Γ d lim ret y.name hh := ⟨rfl, rfl, rfl, rfl, hl1, hl2, B.returns, (name_of_methodNamed B.named B.method).1, h7⟩
    have V := body Γ rfl rfl G M
    have hls := lv_entry (as.map zcv) (n := maxL) (by rw [zlen]; exact hlen)
    have hargs : ∀ (i : Nat) (vs : List ZA), lv_args i (vs.map zcv) = (zargl i vs).map fun q => (q.1, zcv q.2) := by
      intro i vs
      induction vs generalizing i with
      | nil => rfl
      | cons v r ih => simp only [List.map_cons, lv_args, zargl, zcv_cat, ih]
    rw [hargs] at hls
    obtain ⟨t, hst, r, w', L, e1, e2, e2b, e3, e4, e5, e6, e7, e8, e9, e10⟩ := V _ s.heap [] 0 0 ⟨hls, hRp, (fun q h => by cases h), (Nat.zero_add _), (Nat.zero_add _), Nat.zero_le _, Nat.zero_le _⟩ s₁ hh0 X₀
    refine ⟨t, zoc r, ?_, e1, e2, r, w', L, rfl, e2b, e3, e4, e5, e6, e7, e8, ?_, ?_⟩
    · rw [lg_entry_eq]
      exact hst
    · have : Z.sz w' - Z.sz w ≤ lim.1 - Z.sz w := e9
      have : Z.sz w ≤ Z.sz w' := e7
      omega
    · have : Z.us w' - Z.us w ≤ lim.2 - Z.us w := e10
      have : Z.us w ≤ Z.us w' := e8
      omega
end
end ZCalls
