/-! division by zero: the machine makes its exception -/
section ZDiv
theorem zs_rebase {p : Program} {l : Launch} {e : Env} {R : Room} {s : State} {m : MethodId} {args : Array Value} {below : List Frame} {meth : Method} {c : Code} {T : State} {locs : List Loc} {cells slots : Nat} (X : Stand p l e R s m args below meth c T locs cells slots) (hc : cells ≤ R.cells) (hs : slots ≤ R.slots) :
    Stand p l e { R with cells := R.cells - cells, slots := R.slots - slots } (T.setFrames (.invoking m args :: below)) m args below meth c T [] 0 0 := by
  obtain ⟨g₀, hfr⟩ := X.frames_eq
  have hcur := State.cur_lt_of_frames hfr
  have hF : (T.setFrames (.invoking m args :: below)).frames = .invoking m args :: below := State.frames_setFrames _ hcur
  have hU : (T.setFrames (.invoking m args :: below)).localsInUse = s.localsInUse := by
    rw [State.localsInUse_invoking hF (meth := meth) (c := c) X.method' X.code, State.localsInUse_invoking X.frames X.method X.code]
  refine ⟨X.admits, X.cas, X.clock, hF, ?_, ?_, X.method', X.code, X.here, X.tail, State.WarmedH.refl _, (State.stackLimits_setFrames _ _ _).symm, (State.stackBytes_setFrames _ _).symm, ?_⟩
  · have h := X.room
    have hcl := X.heapSize
    have hsl := X.used
    have hb := X.book
    simp only [State.hasRoom, Bool.and_eq_true, decide_eq_true_eq, X.frames] at h
    simp only [State.hasRoom, Bool.and_eq_true, decide_eq_true_eq, hF, hU, State.stackLimits_setFrames, State.stackBytes_setFrames, X.limits, X.bytes]
    refine ⟨⟨⟨⟨h.1.1.1.1, h.1.1.1.2⟩, ?_⟩, ?_⟩, hb⟩
    · have := h.1.1.2
      show T.heap.size + (R.cells - cells) ≤ _
      omega
    · have := h.1.2
      show T.slotsUsed + (R.slots - slots) ≤ _
      omega
  · have h := X.hears
    have hal := X.warmed.alike
    unfold State.hears at h ⊢
    cases below with
    | nil =>
      simp only at h ⊢
      have hm : (T.setFrames (.invoking m args :: [])).vm.method? m = some meth := X.method'
      rw [X.method] at h
      rw [hm]; exact h
    | cons f r =>
      have hm : (T.setFrames (.invoking m args :: f :: r)).vm.method? m = some meth := X.method'
      cases f with
      | java g =>
        have hcode : (T.setFrames (.invoking m args :: .java g :: r)).code? g.method = s.code? g.method := by
          rw [State.code?_eq, State.code?_eq]
          show (T.vm.method? g.method).bind _ = _
          rw [Vm.Alike.method? hal]
        simp only at h ⊢
        rw [hcode]; exact h
      | native g => rfl
      | proc g => rfl
      | _ =>
        simp only at h ⊢
        rw [X.method] at h
        rw [hm]; exact h
  · have e0 : (T.setVm (T.setFrames (.invoking m args :: below)).vm) = T := rfl
    rw [e0]
    refine ⟨?_, Nat.le_refl _, Nat.le_refl _, ?_, ?_, fun a c h => ⟨c, h, rfl, rfl, fun _ _ => rfl⟩⟩
    · rw [State.setFrames_setFrames]
      show T = { T.setFrames T.frames with heap := T.heap, slotsUsed := T.slotsUsed }
      have : T.setFrames T.frames = T := State.setFrames_self (t := T.threads[T.cur]) (Array.getElem?_eq_getElem hcur)
      rw [this]
    · show T.slotsUsed = T.slotsUsed + ((T.heap.toList.drop T.heap.size).map (·.slots.size)).sum
      rw [List.drop_of_length_le (by simp)]
      rfl
    · show ((T.heap.toList.drop T.heap.size).map (·.slots.size)).sum ≤ 0
      rw [List.drop_of_length_le (by simp)]
      exact Nat.le_refl _
theorem zs_kept {s u : State} {cells slots : Nat} (h : s.sameButNew u [] cells slots) {a : Nat} (ha : a < s.heap.size) : u.heap[a]? = s.heap[a]? := by
  obtain ⟨c, hc⟩ : ∃ c, s.heap[a]? = some c := ⟨_, Array.getElem?_eq_getElem ha⟩
  obtain ⟨c', h1, h2, h3, h4⟩ := h.2.2.2.2.2 a c hc
  rw [h1, hc, h2]
  have e : c'.slots = c.slots := Array.ext_getElem? fun i => h4 i (fun q => by cases q)
  rw [e]
/-- the world with the machine's own exception -/
def nE (w : CW) : CW := ((fun q => if q = cz w + 3 then 35 else w.1 q), w.2.1, w.2.2.1, w.2.2.2.1, w.2.2.2.2.1, w.2.2.2.2.2.1, cz w + 3, cu w + 19, w.2.2.2.2.2.2.2.2)
variable {Γ : ZG CW} {cc : ByteArray} {own : String} {nL : Nat} {D : CD} {w : CW} {pc : Nat} {ls : List (Nat × ZA)} {st : List ZA} {d : Nat} {rt : Option FieldType} {name : String}
theorem zd_atoms {V : State} {A : Array Value} (hKn : KnC D V) (hHp : ∀ q, q < D.B0 → V.heap[q]? = D.Hf[q]?) : ∀ a ∈ Bundle.messageArmAtoms "java/lang/ArithmeticException" ["java/lang/RuntimeException", "java/lang/Exception"], a.before A V = true := by
  have hK : ∀ {q : Cond}, q ∈ lw_all → q.before A V = true := fun hq => hKn.2.1 _ hq _
  have hT : ∀ {q : Cond}, q ∈ lw_tbl → (match q with | .declares .. => true | .castable .. => true | _ => false) = true → q.before A V = true := by
    intro q hq h
    match q, hq, h with
    | .declares x, hq, _ => exact va_Nw.use rfl (hKn.2.2.2.2.2.2.2.1 _ (List.mem_filter.mpr ⟨hq, rfl⟩))
    | .castable x y, hq, _ => exact va_Nw.use rfl (hKn.2.2.2.2.2.2.2.2.1 _ (List.mem_filter.mpr ⟨hq, rfl⟩))
  have hH : ∀ {q : Cond}, q ∈ zhcL → q.before A V = true := by
    intro q hq
    exact hKn.2.2.2.2.2.2.2.2.2.2.2.2.1 A V rfl hHp q hq
  exact List.forall_mem_cons.mpr ⟨hK q145, List.forall_mem_cons.mpr ⟨hK q258, List.forall_mem_cons.mpr ⟨hK q269, List.forall_mem_cons.mpr ⟨hK q273, List.forall_mem_cons.mpr ⟨hK q276, List.forall_mem_cons.mpr ⟨hK q278, List.forall_mem_cons.mpr ⟨hK q259, List.forall_mem_cons.mpr ⟨hK q260, List.forall_mem_cons.mpr ⟨hK q262, List.forall_mem_cons.mpr ⟨hK q263, List.forall_mem_cons.mpr ⟨hK q261, List.forall_mem_cons.mpr ⟨hK q268, List.forall_mem_cons.mpr ⟨hK q274, List.forall_mem_cons.mpr ⟨hK q294, List.forall_mem_cons.mpr ⟨hK q248, List.forall_mem_cons.mpr ⟨hK q295, List.forall_mem_cons.mpr ⟨hK q250, List.forall_mem_cons.mpr ⟨hK q296, List.forall_mem_cons.mpr ⟨hK q252, List.forall_mem_cons.mpr ⟨hK q264, List.forall_mem_cons.mpr ⟨hH List.mem_cons_self, List.forall_mem_cons.mpr ⟨hK q266, List.forall_mem_cons.mpr ⟨hH (List.mem_cons_of_mem _ List.mem_cons_self), List.forall_mem_cons.mpr ⟨hK q254, List.forall_mem_cons.mpr ⟨hK q1923, List.forall_mem_cons.mpr ⟨hK q1924, List.forall_mem_cons.mpr ⟨hK q293, List.forall_mem_cons.mpr ⟨hK q254, List.forall_mem_cons.mpr ⟨hK q1914, List.forall_mem_cons.mpr ⟨hK q1915, List.forall_mem_cons.mpr ⟨hK q1916, List.forall_mem_cons.mpr ⟨hK q1917, List.forall_mem_cons.mpr ⟨hT q1934 rfl, List.forall_mem_cons.mpr ⟨hK q1917, List.forall_mem_cons.mpr ⟨hK q1918, List.forall_mem_cons.mpr ⟨hK q1919, List.forall_mem_cons.mpr ⟨hK q1920, List.forall_mem_cons.mpr ⟨hT q242 rfl, List.forall_mem_cons.mpr ⟨hK q1920, List.forall_mem_cons.mpr ⟨hK q1921, List.forall_mem_cons.mpr ⟨hK q1922, List.forall_mem_cons.mpr ⟨hK q1923, List.forall_mem_cons.mpr ⟨hT q244 rfl, List.forall_mem_cons.mpr ⟨hK q150, List.forall_mem_cons.mpr ⟨hK q496, List.forall_mem_cons.mpr ⟨hK q467, List.forall_mem_cons.mpr ⟨hK q542, List.forall_mem_cons.mpr ⟨hK q544, List.forall_mem_cons.mpr ⟨hK q543, List.forall_mem_cons.mpr ⟨hK q545, List.forall_mem_cons.mpr ⟨hK q193, List.forall_mem_cons.mpr ⟨hK q1913, List.forall_mem_cons.mpr ⟨hT q1932 rfl, List.forall_mem_cons.mpr ⟨hK q1935, List.forall_mem_cons.mpr ⟨hK q272, List.forall_mem_cons.mpr ⟨hK q1927, List.forall_mem_cons.mpr ⟨hK q1928, List.forall_mem_cons.mpr ⟨hK q1930, List.forall_mem_cons.mpr ⟨hK q1926, List.forall_mem_cons.mpr ⟨hH (List.mem_cons_of_mem _ (List.mem_cons_of_mem _ List.mem_cons_self)), List.forall_mem_cons.mpr ⟨hH (List.mem_cons_of_mem _ (List.mem_cons_of_mem _ (List.mem_cons_of_mem _ List.mem_cons_self))), List.forall_mem_cons.mpr ⟨hK q257, List.forall_mem_cons.mpr ⟨hK q256, List.forall_mem_cons.mpr ⟨hK q1925, fun _ h => absurd h List.not_mem_nil⟩⟩⟩⟩⟩⟩⟩⟩⟩⟩⟩⟩⟩⟩⟩⟩⟩⟩⟩⟩⟩⟩⟩⟩⟩⟩⟩⟩⟩⟩⟩⟩⟩⟩⟩⟩⟩⟩⟩⟩⟩⟩⟩⟩⟩⟩⟩⟩⟩⟩⟩⟩⟩⟩⟩⟩⟩⟩⟩⟩⟩⟩⟩⟩
theorem zd_throw {st' : List ZA} (G : ZOk Γ cc own nL (KnC D) (ZC D)) (M : ZRm Γ d D.lim rt name []) (hl : Γ.l.stackTraces = false) (hd6 : 7 ≤ d) (hst : (st.map zcat).sum ≤ 8) (hroom : cz w + 3 ≤ mz w ∧ cu w + 19 ≤ mu w) (hq : Γ.Q (.inr (cz w + 3)) (nE w))
    (hstep : ∀ (la : Array Slot) (T : State) (locs : List Loc) (cells slots : Nat), Γ.std T locs cells slots → ∀ target, Steps Γ.p.tables Γ.e Γ.below ((T.setTop (F0 Γ.m pc la (st.map zcv))).pushFrame (.throwNew "java/lang/ArithmeticException" (some "/ by zero") none)) target → Steps Γ.p.tables Γ.e Γ.below (T.setTop (F0 Γ.m pc la (st'.map zcv))) target) : ZV Γ w pc ls st' := by
  intro la H locs cells slots h T hT X
  have hR := zc_rep G h
  obtain ⟨r0, r1, r2, r3, r4, r5, r6, r7, r8, r9, r10⟩ := id hR
  obtain ⟨M1, M2, M3, M4, M5, M6, M7, M8, M9⟩ := M
  obtain ⟨hls, -, g1, g2, g3, g4, g5⟩ := id h
  rw [G.z] at g1 g2 g3
  have g2 : cells + Γ.c0 = cz w := g2
  have g3 : slots + Γ.n0 = cu w := g3
  have l1 : mz w = D.lim.1 := congrArg (fun x => x.2.1) r9
  have l2 : mu w = D.lim.2 := congrArg (fun x => x.2.2.1) r9
  have hcat : (((st.map zcv).map fun v => v.category).sum) ≤ 8 := by
    rw [List.map_map, show ((fun v : Value => v.category) ∘ zcv) = zcat from funext zcv_cat]
    exact hst
  have X2 := zs_rebase X g4 g5
  have htr : Γ.e.platform.stackTraces = false := by rw [X.admits.platform]; exact hl
  have hKn2 : KnC D (T.setFrames (.invoking Γ.m Γ.args :: Γ.below)) := G.kw _ X.warmed
  have hHp : ∀ q, q < D.B0 → (T.setFrames (.invoking Γ.m Γ.args :: Γ.below)).heap[q]? = D.Hf[q]? := fun q hq => by
    show T.heap[q]? = _
    rw [hT]
    exact r6 q (Nat.lt_of_lt_of_le hq G.kn.1) (Or.inr hq)
  have hsz : (stringBytes (stringToUtf16 "/ by zero")).size = 9 := by decide +kernel
  have hat2 : ∀ a ∈ Bundle.messageArmAtoms "java/lang/ArithmeticException" ["java/lang/RuntimeException", "java/lang/Exception"], a.before Γ.args (T.setFrames (.invoking Γ.m Γ.args :: Γ.below)) = true := zd_atoms hKn2 hHp
  have hz := zloc_ge d
  obtain ⟨U, u1, u2, u3, u4, ⟨n, u5, u6⟩, cb, cs, ce, u7, u8, u9, u10, u11, u12⟩ := X2.messageArmCells (g := F0 Γ.m pc la (st.map zcv)) G.exec htr (cls := "java/lang/ArithmeticException") (names := ["java/lang/RuntimeException", "java/lang/Exception"]) (text := "/ by zero") (by decide) (by decide) (by decide) (by decide) hat2
    (fun x hx => by cases hx) (by decide +kernel) (by rw [hsz, X.admits.platform]; show ¬ (9 > 2147483645); decide) (by rw [hsz, X.admits.platform]; show ¬ (9 * 1 > 536870912); decide) rfl (by show la.size = _; rw [hls.1]; exact G.maxL.symm) rfl rfl (fun x hx => by
      have h1 : (x.startPc, x.endPc, x.handlerPc, x.catchType) ∈ ([] : List (Nat × Nat × Nat × Nat)) := by rw [← M9]; exact List.mem_map.mpr ⟨x, hx, rfl⟩
      cases h1) (by show 2 + 4 < Γ.R.frames; rw [M1]; omega) (by show 2 * 0 + ((st.map zcv).map fun v => v.category).sum + 10240 ≤ Γ.R.locals; rw [M4]; omega) (by decide) (by show 0 + 3 ≤ Γ.R.cells - cells; omega) (by rw [hsz]; show 0 + (9 + 4 + 6) ≤ Γ.R.slots - slots; omega) G.locks
  rw [hsz] at u5
  rw [hT] at u7 u8 u9
  rw [hT, r0] at u3
  have q1 := (Array.getElem?_eq_some_iff.mp u9).1
  have q2 : U.heap.size ≤ T.heap.size + (0 + 3) := u6.2.2.1
  rw [hT] at q2
  have q3 : ∀ a, a < H.size → U.heap[a]? = H[a]? := fun a ha => by
    have := zs_kept u6 (a := a) (by show a < T.heap.size; rw [hT]; exact ha)
    rw [← hT]; exact this
  have h0 : ∀ q, cz w < q → tg w q = 0 := fun q hq => by
    by_cases e : tg w q = 0
    · exact e
    · have := (r3 q e).2.1; omega
  have old : ∀ q, q ≠ cz w + 3 → tg (nE w) q = tg w q := fun q hq => if_neg hq
  have new : tg (nE w) (cz w + 3) = 35 := if_pos rfl
  have hq35 : zcl[34]? = some (RJ13, TJ13, 0) := rfl
  have hf35 := (hKn2.2.2.1 34 _ hq35).2.1
  have hcls : ce.cls = D.cid 34 := Option.some.inj (u12.cls.symm.trans hf35)
  refine ⟨U, hstep la T locs cells slots X U u1, .inr (cz w + 3), nE w, locs, u2, u3, trivial, hq, ?_, ⟨State.WarmedH.trans X.warmed u4, ?_⟩, ?_, ?_, ?_, ?_, ?_⟩
  · rw [G.z]
    refine ⟨by show U.heap.size = cz w + 3; omega, ⟨r1.1, fun q j => ?_, r1.2.2⟩, by rw [old 0 (by omega)]; exact r2, fun q hq => ?_, fun q ci x h1 h2 => ?_, fun q h1 => ?_, fun q h1 h2 => ?_, by omega, fun h => ?_, r9, fun q c h1 h2 => ?_⟩
    · have h2 := r1.2.1 q j
      show if tg (nE w) q = 103 then zrl (aI w q j) else zr (aI w q j)
      by_cases e : q = cz w + 3
      · rw [e, new, if_neg (by decide)]
        rw [e, h0 _ (by omega), if_neg (by decide)] at h2
        exact h2
      · rw [old q e]; exact h2
    · show 1 ≤ q ∧ q ≤ cz w + 3 ∧ _
      by_cases e : q = cz w + 3
      · subst e
        exact ⟨by omega, by omega, fun _ => by have := G.kn.1; omega⟩
      · rw [old q e] at hq ⊢
        obtain ⟨b1, b2, b3⟩ := r3 q hq
        exact ⟨b1, by omega, b3⟩
    · by_cases e : q = cz w + 3
      · subst e
        rw [new] at h1
        obtain rfl : ci = 34 := by omega
        cases hq35.symm.trans h2
        refine ⟨ce, ?_, hcls, u12.vm, fun k hk => absurd hk (Nat.not_lt_zero k)⟩
        show U.heap[cz w + 3 - 1]? = some ce
        rw [show cz w + 3 - 1 = H.size + 2 by omega]
        exact u9
      · rw [old q e] at h1
        have h3 := r4 q ci x h1 h2
        have hb := r3 q (by omega)
        exact h3.kept (q3 _ (by omega))
    · by_cases e : q = cz w + 3
      · subst e
        rw [new] at h1
        omega
      · rw [old q e] at h1 ⊢
        have hb := r3 q (by omega)
        rw [q3 _ (by omega), r5 q h1]
        congr 2
        funext j
        unfold aV
        rw [old q e]
        rfl
    · rw [q3 q (by omega)]
      by_cases e : q + 1 = cz w + 3
      · omega
      · rw [old _ e] at h2
        exact r6 q h1 h2
    · have := r8 h
      have hne : lp w ≠ cz w + 3 := by
        intro e
        rw [e, h0 _ (by omega)] at this
        exact absurd this (by decide)
      show tg (nE w) (lp w) = tLP
      rw [old _ hne]
      exact this
    · rcases Nat.lt_or_ge q H.size with e | e
      · rw [q3 q e] at h2; exact r10 q c h1 h2
      · have hlt := (Array.getElem?_eq_some_iff.mp h2).1
        rcases (show q = H.size ∨ q = H.size + 1 ∨ q = H.size + 2 by omega) with rfl | rfl | rfl
        · rw [u7] at h2; cases h2; rw [u10.vm]; rfl
        · rw [u8] at h2; cases h2; rw [u11.vm]; rfl
        · rw [u9] at h2; cases h2; rw [u12.vm]; rfl
  · have e1 : (T.setVm Γ.s.vm).sameButNew ({ U with vm := Γ.s.vm } : State) [] (0 + 3) n := by
      have b := State.sameButNew.setVm u6 Γ.s.vm
      obtain ⟨b1, b2, b3, b4, b5, b6⟩ := b
      refine ⟨?_, b2, b3, b4, b5, b6⟩
      have e2 : ((T.setFrames (.invoking Γ.m Γ.args :: Γ.below)).setVm Γ.s.vm).setFrames U.frames = (T.setVm Γ.s.vm).setFrames U.frames := by
        show ((T.setVm Γ.s.vm).setFrames _).setFrames U.frames = _
        rw [State.setFrames_setFrames]
      have b1' : ({ U with vm := Γ.s.vm } : State) = { ((T.setFrames (.invoking Γ.m Γ.args :: Γ.below)).setVm Γ.s.vm).setFrames U.frames with heap := U.heap, slotsUsed := U.slotsUsed } := b1
      rw [e2] at b1'
      exact b1'
    have e3 := (X.same.trans e1).mono (c' := cells + 3) (n' := slots + 19) (by omega) (by omega)
    rw [List.append_nil] at e3
    have k1 : Γ.Z.sz (nE w) - Γ.c0 = cells + 3 := by rw [G.z]; show cz w + 3 - Γ.c0 = _; omega
    have k2 : Γ.Z.us (nE w) - Γ.n0 = slots + 19 := by rw [G.z]; show cu w + 19 - Γ.n0 = _; omega
    rw [k1, k2]
    exact e3
  · rw [G.z]; exact g1
  · rw [G.z]; show Γ.c0 ≤ cz w + 3; omega
  · rw [G.z]; show Γ.n0 ≤ cu w + 19; omega
  · rw [G.z]; show cz w + 3 - Γ.c0 ≤ Γ.R.cells; omega
  · rw [G.z]; show cu w + 19 - Γ.n0 ≤ Γ.R.slots; omega
theorem zv_idiv0 {a : Int} (G : ZOk Γ cc own nL (KnC D) (ZC D)) (M : ZRm Γ d D.lim rt name []) (hl : Γ.l.stackTraces = false) (hd6 : 7 ≤ d) (hst : (st.map zcat).sum ≤ 8) (hroom : cz w + 3 ≤ mz w ∧ cu w + 19 ≤ mu w) (hq : Γ.Q (.inr (cz w + 3)) (nE w)) (hd : decode cc pc = .ok (.idiv, 1)) : ZV Γ w pc ls (ai 0 :: ai a :: st) :=
  zd_throw (st := st) G M hl hd6 hst hroom hq (fun la T locs cells slots X target h => X.idivZero (g := F0 Γ.m pc la (.int 0 :: .int (zi a) :: st.map zcv)) G.exec rfl rfl (by rw [G.bytes]; exact hd) target h)
theorem zv_irem0 {a : Int} (G : ZOk Γ cc own nL (KnC D) (ZC D)) (M : ZRm Γ d D.lim rt name []) (hl : Γ.l.stackTraces = false) (hd6 : 7 ≤ d) (hst : (st.map zcat).sum ≤ 8) (hroom : cz w + 3 ≤ mz w ∧ cu w + 19 ≤ mu w) (hq : Γ.Q (.inr (cz w + 3)) (nE w)) (hd : decode cc pc = .ok (.irem, 1)) : ZV Γ w pc ls (ai 0 :: ai a :: st) :=
  zd_throw (st := st) G M hl hd6 hst hroom hq (fun la T locs cells slots X target h => X.iremZero (g := F0 Γ.m pc la (.int 0 :: .int (zi a) :: st.map zcv)) G.exec rfl rfl (by rw [G.bytes]; exact hd) target h)
end ZDiv
