/-! a body's ends: returns, throws; calls -/
section ZEnds
variable {ω : Type} {Γ : ZG ω} {cc : ByteArray} {own : String} {nL : Nat} {Kn : State → Prop} {Z : ZWi ω} {d : Nat} {lim : Nat × Nat} {name : String} {hh : List (Nat × Nat × Nat × Nat)} {w : ω} {pc : Nat} {ls : List (Nat × ZA)} {st : List ZA}
theorem zh_cells {la : Array Slot} {H : Heap} {locs : List Loc} {cells slots : Nat} (h : ZH Γ w ls la H locs cells slots) : Γ.Z.sz w - Γ.c0 = cells ∧ Γ.Z.us w - Γ.n0 = slots ∧ Γ.c0 ≤ Γ.Z.sz w ∧ Γ.n0 ≤ Γ.Z.us w := by
  obtain ⟨-, -, -, h1, h2, -, -⟩ := h
  omega
theorem zv_iret {ty : FieldType} {v : Int} (hv : zr v) (G : ZOk Γ cc own nL Kn Z) (M : ZRm Γ d lim (some ty) name hh) (hn : narrow ty (.int (zi v)) = .int (zi v)) (hd : decode cc pc = .ok (.ireturn, 1)) (hq : Γ.Q (.inl (some (ai v))) w) : ZV Γ w pc ls [ai v] := by
  intro la H locs cells slots h T hT X
  have hr : Γ.meth.sig.returnType = some ty := M.2.2.2.2.2.2.1
  have hexec := G.exec
  have hb := G.bytes
  obtain ⟨e1, e2, e3, e4⟩ := zh_cells h
  obtain ⟨-, hRp, hlo, -, -, hcR, hsR⟩ := h
  obtain ⟨fs, hret, hrun, hended, hW, hframe⟩ := X.leave (v := some (.int (zi v))) (hlocks := G.locks) (fun h => by rw [hr] at h; cases h)
  have hmeth' : T.vm.method? Γ.m = some Γ.meth := X.method'
  refine ⟨T.setFrames fs, ?_, .inl (some (ai v)), w, locs, hrun, hended, hv, hq, by rw [← hT] at hRp; exact hRp, ⟨hW, by rw [e1, e2]; exact hframe⟩, hlo, e3, e4, by rw [e1]; exact hcR, by rw [e2]; exact hsR⟩
  show Steps Γ.p.tables Γ.e Γ.below (T.setTop (F0 Γ.m pc la [.int (zi v)])) (T.setFrames fs)
  jvm_step X.here [X.here.top, hexec, hb, hd, hmeth', hr, hn]
  (try refine ⟨rfl, ?_⟩); (try refine ⟨rfl, ?_⟩)
  first | (intro acts; rw [hret _ acts rfl rfl rfl]) | rw [hret _ _ rfl rfl rfl]
  exact Steps.refl _
theorem zv_vret (G : ZOk Γ cc own nL Kn Z) (M : ZRm Γ d lim none name hh) (hd : decode cc pc = .ok (.return_, 1)) (hq : Γ.Q (.inl none) w) : ZV Γ w pc ls [] := by
  intro la H locs cells slots h T hT X
  have hr : Γ.meth.sig.returnType = none := M.2.2.2.2.2.2.1
  have hexec := G.exec
  have hb := G.bytes
  obtain ⟨e1, e2, e3, e4⟩ := zh_cells h
  obtain ⟨-, hRp, hlo, -, -, hcR, hsR⟩ := h
  obtain ⟨fs, hret, hrun, hended, hW, hframe⟩ := X.leave (v := none) (hlocks := G.locks) (fun _ => rfl)
  have hmeth' : T.vm.method? Γ.m = some Γ.meth := X.method'
  refine ⟨T.setFrames fs, ?_, .inl none, w, locs, hrun, hended, trivial, hq, by rw [← hT] at hRp; exact hRp, ⟨hW, by rw [e1, e2]; exact hframe⟩, hlo, e3, e4, by rw [e1]; exact hcR, by rw [e2]; exact hsR⟩
  show Steps Γ.p.tables Γ.e Γ.below (T.setTop (F0 Γ.m pc la [])) (T.setFrames fs)
  jvm_step X.here [X.here.top, hexec, hb, hd, hmeth', hr]
  (try refine ⟨rfl, ?_⟩); (try refine ⟨rfl, ?_⟩)
  first | (intro acts; rw [hret _ acts rfl rfl rfl]) | rw [hret _ _ rfl rfl rfl]
  exact Steps.refl _
theorem zv_aret {rt : FieldType} {x : Nat} (G : ZOk Γ cc own nL Kn Z) (M : ZRm Γ d lim (some rt) name hh) (hrt : (∃ n, rt = .object n) ∨ ∃ t, rt = .array t) (hd : decode cc pc = .ok (.areturn, 1)) (hq : Γ.Q (.inl (some (ar x))) w) : ZV Γ w pc ls [ar x] := by
  intro la H locs cells slots h T hT X
  have hr : Γ.meth.sig.returnType = some rt := M.2.2.2.2.2.2.1
  have hexec := G.exec
  have hb := G.bytes
  obtain ⟨e1, e2, e3, e4⟩ := zh_cells h
  obtain ⟨-, hRp, hlo, -, -, hcR, hsR⟩ := h
  obtain ⟨fs, hret, hrun, hended, hW, hframe⟩ := X.leave (v := some (zrf x)) (hlocks := G.locks) (fun h => by rw [hr] at h; cases h)
  have hmeth' : T.vm.method? Γ.m = some Γ.meth := X.method'
  refine ⟨T.setFrames fs, ?_, .inl (some (ar x)), w, locs, hrun, hended, trivial, hq, by rw [← hT] at hRp; exact hRp, ⟨hW, by rw [e1, e2]; exact hframe⟩, hlo, e3, e4, by rw [e1]; exact hcR, by rw [e2]; exact hsR⟩
  show Steps Γ.p.tables Γ.e Γ.below (T.setTop (F0 Γ.m pc la [zrf x])) (T.setFrames fs)
  rcases hrt with ⟨n, rfl⟩ | ⟨t, rfl⟩ <;> cases x <;>
    (dsimp only [zrf] at hret ⊢
     jvm_step X.here [X.here.top, hexec, hb, hd, hmeth', hr]
     (try refine ⟨rfl, ?_⟩); (try refine ⟨rfl, ?_⟩)
     first | (intro acts; rw [hret _ acts rfl rfl rfl]) | rw [hret _ _ rfl rfl rfl]
     exact Steps.refl _)
theorem zv_athrow {x : Nat} (G : ZOk Γ cc own nL Kn Z) (hx : x ≠ 0) (hd : decode cc pc = .ok (.athrow, 1)) (k : ZX Γ w pc ls x) : ZV Γ w pc ls (ar x :: st) := by
  intro la H locs cells slots h T hT X
  obtain ⟨t, h1, h2⟩ := k la H locs cells slots (st.map zcv) T h hT X
  refine ⟨t, ?_, h2⟩
  obtain ⟨n, rfl⟩ : ∃ n, x = n + 1 := ⟨x - 1, by omega⟩
  have hexec := G.exec
  have hb := G.bytes
  show Steps Γ.p.tables Γ.e Γ.below (T.setTop (F0 Γ.m pc la (.ref n :: st.map zcv))) t
  have hdg : decode Γ.c.code (F0 Γ.m pc la (.ref n :: st.map zcv)).pc = .ok (.athrow, 1) := by rw [hb]; exact hd
  jvm_step X.here [hexec, hdg, Op.athrow.wp_sem]
  exact h1
/-- no handler is in reach: the method ends by the exception -/
theorem zx_leave {ret : Option FieldType} {x : Nat} (G : ZOk Γ cc own nL Kn Z) (M : ZRm Γ d lim ret name hh) (hout : hh.all (fun q => !(decide (q.1 ≤ pc) && decide (pc < q.2.1))) = true) (hq : Γ.Q (.inr x) w) : ZX Γ w pc ls x := by
  intro la H locs cells slots st T h hT X
  obtain ⟨e1, e2, e3, e4⟩ := zh_cells h
  obtain ⟨-, hRp, hlo, -, -, hcR, hsR⟩ := h
  have hex := M.2.2.2.2.2.2.2.2
  obtain ⟨q1, q2, q3, q4, q5⟩ := X.leaveThrown (x - 1) (g := F0 Γ.m pc la st) rfl rfl rfl (fun y hy => by
    have h1 : (y.startPc, y.endPc, y.handlerPc, y.catchType) ∈ hh := by rw [← hex]; exact List.mem_map.mpr ⟨y, hy, rfl⟩
    have h2 := List.all_eq_true.mp hout _ h1
    simp [covers] at h2 ⊢
    omega) (hlocks := G.locks)
  exact ⟨_, q1, .inr x, w, locs, q2, q3, trivial, hq, by rw [← hT] at hRp; exact hRp, ⟨q4, by rw [e1, e2]; exact q5⟩, hlo, e3, e4, by rw [e1]; exact hcR, by rw [e2]; exact hsR⟩
/-! calls -/
/-- the callee is entered, with the arguments as, above the stack st -/
def ZEn (Γ : ZG ω) (w : ω) (pc : Nat) (ls : List (Nat × ZA)) (y : MethodName) (len : Nat) (as st : List ZA) : Prop :=
  ∀ (la : Array Slot) (H : Heap) (locs : List Loc) (cells slots : Nat) (T : State), ZH Γ w ls la H locs cells slots → T.heap = H → Γ.std T locs cells slots →
    ∃ (vm₁ : Vm) (mk : MethodId) (ig : Instr), Γ.std (T.setVm vm₁) locs cells slots ∧ (T.setVm vm₁).methodNamed? y = some mk ∧ decode Γ.c.code pc = .ok (ig, len) ∧
      ∀ tg, Steps Γ.p.tables Γ.e Γ.below (doInvoke Γ.e ((T.setVm vm₁).setTop (F0 Γ.m pc la (st.map zcv))) [] mk (as.map zcv).toArray).1 tg → Steps Γ.p.tables Γ.e Γ.below (T.setTop (F0 Γ.m pc la ((as.reverse ++ st).map zcv))) tg
theorem zv_call {y : MethodName} {cw : Cond} {bytes : ByteArray} {maxL len : Nat} {rt rt' : Option FieldType} {hh' : List (Nat × Nat × Nat × Nat)} {as : List ZA} {Qk : ZRes → ω → Prop} (G : ZOk Γ cc own nL Kn Z) (M : ZRm Γ (d + 1) lim rt' name hh)
    (hE : ZEn Γ w pc ls y len as st) (hM : ZMX Γ.l Kn Z y cw d lim as w Qk) (hcw : ZCw cw y bytes maxL rt hh') (hk : ∀ (U : State) (a : Array Value), Kn U → cw.before a U = true ∧ (Cond.initialized y.cls).before a U = true)
    (hm : maxL ≤ 45) (hst : (st.map zcat).sum ≤ 8)
    (kv : ∀ v w', zrok (.inl v) → Qk (.inl v) w' → ZV Γ w' (pc + len) ls (v.toList ++ st)) (kx : ∀ x w', Qk (.inr x) w' → ZX Γ w' pc ls x) : ZV Γ w pc ls (as.reverse ++ st) := by
  intro la H locs cells slots h T hT X
  obtain ⟨vm₁, mk, ig, X₁, hn, hdg, hgo⟩ := hE la H locs cells slots T h hT X
  obtain ⟨M1, M2, M3, M4, M5, M6, -, -, -⟩ := M
  obtain ⟨e1, e2, e3, e4⟩ := zh_cells h
  obtain ⟨hls, hRp, hlo, c1, c2, hcR, hsR⟩ := id h
  have hz := G.z
  have hKT : Kn (T.setVm vm₁) := G.kw _ X₁.warmed
  have hcat : (((st.map zcv).map fun v => v.category).sum) ≤ 8 := by
    rw [List.map_map, show ((fun v : Value => v.category) ∘ zcv) = zcat from funext zcv_cat]
    exact hst
  rw [hz] at e1 e2 e3 e4 hRp hlo c1 c2
  rw [zloc_s] at M4
  obtain ⟨r, w', T', L, X', hRp', hrk, hQ, hL, b1, b2, b3, b4, s1, s2⟩ := zx_back (g := F0 Γ.m pc la (st.map zcv)) X₁ hM hcw rfl (by rw [hls.1]; exact G.maxL.symm) hdg (by show 2 * 0 + ((st.map zcv).map fun v => v.category).sum ≤ 8; omega) hn G.kw (by show Z.Rp w T.heap; rw [hT]; exact hRp) (hk _ _ hKT).1 (hk _ _ hKT).2
    (by omega) (by omega) (by rw [M1]; exact Nat.le_refl _) (by rw [M4]; generalize zloc d = q; omega) (by omega) (by omega)
  have hH' : ∀ la', lv_has la' Γ.nL (ls.map fun q => (q.1, zcv q.2)) → ZH Γ w' ls la' T'.heap (locs ++ L) (cells + (Z.sz w' - Z.sz w)) (slots + (Z.us w' - Z.us w)) := by
    intro la' hl'
    refine ⟨hl', by rw [hz]; exact hRp', ?_, ?_, ?_, ?_, ?_⟩
    · rw [hz]
      intro q hq
      rcases List.mem_append.mp hq with hq | hq
      · exact hlo q hq
      · exact hL q hq
    · rw [hz]; omega
    · rw [hz]; omega
    · omega
    · omega
  cases r with
  | inl v =>
    have kk := kv v w' hrk hQ la T'.heap _ _ _ (hH' la hls) T' rfl X'
    obtain ⟨t, h1, h2⟩ := kk
    refine ⟨t, hgo t (s1 v rfl t ?_), h2⟩
    have e : (v.map zcv).toList ++ st.map zcv = (v.toList ++ st).map zcv := by cases v <;> rfl
    show Steps _ _ _ (T'.setTop (F0 Γ.m (pc + len) la ((v.map zcv).toList ++ st.map zcv))) t
    rw [e]
    exact h1
  | inr x =>
    obtain ⟨t, h1, h2⟩ := kx x w' hQ la T'.heap _ _ _ (st.map zcv) T' (hH' la hls) rfl X'
    exact ⟨t, hgo t (s2 x rfl t h1), h2⟩
/-- what a call's answer must be -/
def zqI (K : Int → ω → Prop) (X : Nat → ω → Prop) : ZRes → ω → Prop
  | .inl (some (.inl v)), w => K v w
  | .inr x, w => X x w
  | _, _ => False
def zqL (K : Int → ω → Prop) (X : Nat → ω → Prop) : ZRes → ω → Prop
  | .inl (some (.inr (.inl v))), w => K v w
  | .inr x, w => X x w
  | _, _ => False
def zqR (K : Nat → ω → Prop) (X : Nat → ω → Prop) : ZRes → ω → Prop
  | .inl (some (.inr (.inr v))), w => K v w
  | .inr x, w => X x w
  | _, _ => False
def zqV (K : ω → Prop) (X : Nat → ω → Prop) : ZRes → ω → Prop
  | .inl none, w => K w
  | .inr x, w => X x w
  | _, _ => False
def zno : Nat → ω → Prop := fun _ _ => False
section
variable {y : MethodName} {cw : Cond} {bytes : ByteArray} {maxL len : Nat} {rt rt' : Option FieldType} {hh' : List (Nat × Nat × Nat × Nat)} {as : List ZA} {X : Nat → ω → Prop}
theorem zv_callI {K : Int → ω → Prop} (G : ZOk Γ cc own nL Kn Z) (M : ZRm Γ (d + 1) lim rt' name hh) (hE : ZEn Γ w pc ls y len as st) (hM : ZMX Γ.l Kn Z y cw d lim as w (zqI K X)) (hcw : ZCw cw y bytes maxL rt hh') (hk : ∀ (U : State) (a : Array Value), Kn U → cw.before a U = true ∧ (Cond.initialized y.cls).before a U = true)
    (hm : maxL ≤ 45) (hst : (st.map zcat).sum ≤ 8) (kv : ∀ v w', zr v → K v w' → ZV Γ w' (pc + len) ls (ai v :: st)) (kx : ∀ x w', X x w' → ZX Γ w' pc ls x) : ZV Γ w pc ls (as.reverse ++ st) := by
  refine zv_call G M hE hM hcw hk hm hst (fun v w' hr h => ?_) (fun x w' h => kx x w' h)
  rcases v with _ | (v | v | v)
  · exact h.elim
  · exact kv v w' hr h
  · exact h.elim
  · exact h.elim
theorem zv_callL {K : Int → ω → Prop} (G : ZOk Γ cc own nL Kn Z) (M : ZRm Γ (d + 1) lim rt' name hh) (hE : ZEn Γ w pc ls y len as st) (hM : ZMX Γ.l Kn Z y cw d lim as w (zqL K X)) (hcw : ZCw cw y bytes maxL rt hh') (hk : ∀ (U : State) (a : Array Value), Kn U → cw.before a U = true ∧ (Cond.initialized y.cls).before a U = true)
    (hm : maxL ≤ 45) (hst : (st.map zcat).sum ≤ 8) (kv : ∀ v w', zrl v → K v w' → ZV Γ w' (pc + len) ls (al v :: st)) (kx : ∀ x w', X x w' → ZX Γ w' pc ls x) : ZV Γ w pc ls (as.reverse ++ st) := by
  refine zv_call G M hE hM hcw hk hm hst (fun v w' hr h => ?_) (fun x w' h => kx x w' h)
  rcases v with _ | (v | v | v)
  · exact h.elim
  · exact h.elim
  · exact kv v w' hr h
  · exact h.elim
theorem zv_callR {K : Nat → ω → Prop} (G : ZOk Γ cc own nL Kn Z) (M : ZRm Γ (d + 1) lim rt' name hh) (hE : ZEn Γ w pc ls y len as st) (hM : ZMX Γ.l Kn Z y cw d lim as w (zqR K X)) (hcw : ZCw cw y bytes maxL rt hh') (hk : ∀ (U : State) (a : Array Value), Kn U → cw.before a U = true ∧ (Cond.initialized y.cls).before a U = true)
    (hm : maxL ≤ 45) (hst : (st.map zcat).sum ≤ 8) (kv : ∀ v w', K v w' → ZV Γ w' (pc + len) ls (ar v :: st)) (kx : ∀ x w', X x w' → ZX Γ w' pc ls x) : ZV Γ w pc ls (as.reverse ++ st) := by
  refine zv_call G M hE hM hcw hk hm hst (fun v w' hr h => ?_) (fun x w' h => kx x w' h)
  rcases v with _ | (v | v | v)
  · exact h.elim
  · exact h.elim
  · exact h.elim
  · exact kv v w' h
theorem zv_callV {K : ω → Prop} (G : ZOk Γ cc own nL Kn Z) (M : ZRm Γ (d + 1) lim rt' name hh) (hE : ZEn Γ w pc ls y len as st) (hM : ZMX Γ.l Kn Z y cw d lim as w (zqV K X)) (hcw : ZCw cw y bytes maxL rt hh') (hk : ∀ (U : State) (a : Array Value), Kn U → cw.before a U = true ∧ (Cond.initialized y.cls).before a U = true)
    (hm : maxL ≤ 45) (hst : (st.map zcat).sum ≤ 8) (kv : ∀ w', K w' → ZV Γ w' (pc + len) ls st) (kx : ∀ x w', X x w' → ZX Γ w' pc ls x) : ZV Γ w pc ls (as.reverse ++ st) := by
  refine zv_call G M hE hM hcw hk hm hst (fun v w' hr h => ?_) (fun x w' h => kx x w' h)
  rcases v with _ | (v | v | v)
  · exact kv w' h
  · exact h.elim
  · exact h.elim
  · exact h.elim
end
end ZEnds
