/-! THE WALKS' OWN JUDGEMENT: a machine frame over an abstract world. References are numbers: 0 is null, r + 1 the cell r. -/
section ZBase
abbrev ZCx : Type := Program × Launch × Env × Room × State × MethodId × Array Value × List Frame × Method × Code
/-- a value: an int, a long, a reference (0: null, r + 1: the cell r) -/
abbrev ZA : Type := Int ⊕ (Int ⊕ Nat)
abbrev ai (z : Int) : ZA := .inl z
abbrev al (z : Int) : ZA := .inr (.inl z)
abbrev ar (r : Nat) : ZA := .inr (.inr r)
abbrev ZRes : Type := Option ZA ⊕ Nat
/-- a world: what it says of a heap; its size; its slots; from where on cells may be written -/
abbrev ZWi (ω : Type) : Type := (ω → Heap → Prop) × (ω → Nat) × (ω → Nat) × Nat
def zi (a : Int) : Int32 := Int32.ofInt a
def zj (a : Int) : Int64 := Int64.ofInt a
def zrf : Nat → Value
  | 0 => .null
  | n + 1 => .ref n
def zcv : ZA → Value
  | .inl a => .int (zi a)
  | .inr (.inl a) => .long (zj a)
  | .inr (.inr r) => zrf r
def zcat : ZA → Nat
  | .inl _ => 1
  | .inr (.inl _) => 2
  | .inr (.inr _) => 1
/-- in range -/
def zr (a : Int) : Prop := -2147483648 ≤ a ∧ a ≤ 2147483647
def zrl (a : Int) : Prop := -9223372036854775808 ≤ a ∧ a ≤ 9223372036854775807
def zok : ZA → Prop
  | .inl a => zr a
  | .inr (.inl a) => zrl a
  | .inr (.inr _) => True
def zoks (as : List ZA) : Prop := ∀ v ∈ as, zok v
def zoc : ZRes → Outcome
  | .inl v => .returned (v.map zcv)
  | .inr x => .threw (x - 1)
def zrok : ZRes → Prop
  | .inl (some v) => zok v
  | _ => True
abbrev ZG (ω : Type) : Type := ZCx × ZWi ω × Nat × (ZRes → ω → Prop) × Nat × Nat
section
variable {ω : Type}
abbrev ZG.p (Γ : ZG ω) : Program := Γ.1.1
abbrev ZG.l (Γ : ZG ω) : Launch := Γ.1.2.1
abbrev ZG.e (Γ : ZG ω) : Env := Γ.1.2.2.1
abbrev ZG.R (Γ : ZG ω) : Room := Γ.1.2.2.2.1
abbrev ZG.s (Γ : ZG ω) : State := Γ.1.2.2.2.2.1
abbrev ZG.m (Γ : ZG ω) : MethodId := Γ.1.2.2.2.2.2.1
abbrev ZG.args (Γ : ZG ω) : Array Value := Γ.1.2.2.2.2.2.2.1
abbrev ZG.below (Γ : ZG ω) : List Frame := Γ.1.2.2.2.2.2.2.2.1
abbrev ZG.meth (Γ : ZG ω) : Method := Γ.1.2.2.2.2.2.2.2.2.1
abbrev ZG.c (Γ : ZG ω) : Code := Γ.1.2.2.2.2.2.2.2.2.2
abbrev ZG.Z (Γ : ZG ω) : ZWi ω := Γ.2.1
abbrev ZWi.Rp (Z : ZWi ω) : ω → Heap → Prop := Z.1
abbrev ZWi.sz (Z : ZWi ω) : ω → Nat := Z.2.1
abbrev ZWi.us (Z : ZWi ω) : ω → Nat := Z.2.2.1
abbrev ZWi.B0 (Z : ZWi ω) : Nat := Z.2.2.2
abbrev ZG.nL (Γ : ZG ω) : Nat := Γ.2.2.1
abbrev ZG.Q (Γ : ZG ω) : ZRes → ω → Prop := Γ.2.2.2.1
abbrev ZG.c0 (Γ : ZG ω) : Nat := Γ.2.2.2.2.1
abbrev ZG.n0 (Γ : ZG ω) : Nat := Γ.2.2.2.2.2
/-- the machine's walk in this context -/
abbrev ZG.wk (Γ : ZG ω) (H : Heap) (locs : List Loc) (cells slots : Nat) (Q : State → Prop) (g : JFrame) : Prop :=
  W Γ.p Γ.l Γ.e Γ.R Γ.s Γ.m Γ.args Γ.below Γ.meth Γ.c H locs cells slots Q g
abbrev ZG.std (Γ : ZG ω) (T : State) (locs : List Loc) (cells slots : Nat) : Prop :=
  Jvm.Stand Γ.p Γ.l Γ.e Γ.R Γ.s Γ.m Γ.args Γ.below Γ.meth Γ.c T locs cells slots
/-- what a walk's end says, thrown or returned: the tables are warmer, nothing old has moved but the slots L -/
def ZFX (first : State) (t : State) (L : List Loc) (k n : Nat) : Prop :=
  first.WarmedH t.vm ∧ first.sameButNew ({ t with vm := first.vm } : State) L k n
def zloc (d : Nat) : Nat := 64 * d + 10400
def ZQ (Γ : ZG ω) : State → Prop := fun t => ∃ (r : ZRes) (w' : ω) (L : List Loc), t.status = .running ∧ Ended t Γ.below (zoc r) ∧ zrok r ∧ Γ.Q r w' ∧ Γ.Z.Rp w' t.heap ∧
  ZFX Γ.s t L (Γ.Z.sz w' - Γ.c0) (Γ.Z.us w' - Γ.n0) ∧ (∀ q ∈ L, Γ.Z.B0 ≤ q.base) ∧ Γ.c0 ≤ Γ.Z.sz w' ∧ Γ.n0 ≤ Γ.Z.us w' ∧ Γ.Z.sz w' - Γ.c0 ≤ Γ.R.cells ∧ Γ.Z.us w' - Γ.n0 ≤ Γ.R.slots
/-- what is known at a point of the walk -/
def ZH (Γ : ZG ω) (w : ω) (ls : List (Nat × ZA)) (la : Array Slot) (H : Heap) (locs : List Loc) (cells slots : Nat) : Prop :=
  lv_has la Γ.nL (ls.map fun q => (q.1, zcv q.2)) ∧ Γ.Z.Rp w H ∧ (∀ q ∈ locs, Γ.Z.B0 ≤ q.base) ∧ cells + Γ.c0 = Γ.Z.sz w ∧ slots + Γ.n0 = Γ.Z.us w ∧ cells ≤ Γ.R.cells ∧ slots ≤ Γ.R.slots
def ZV (Γ : ZG ω) (w : ω) (pc : Nat) (ls : List (Nat × ZA)) (st : List ZA) : Prop :=
  ∀ (la : Array Slot) (H : Heap) (locs : List Loc) (cells slots : Nat), ZH Γ w ls la H locs cells slots → Γ.wk H locs cells slots (ZQ Γ) (F0 Γ.m pc la (st.map zcv))
/-- an exception is on its way at this frame -/
def ZX (Γ : ZG ω) (w : ω) (pc : Nat) (ls : List (Nat × ZA)) (x : Nat) : Prop :=
  ∀ (la : Array Slot) (H : Heap) (locs : List Loc) (cells slots : Nat) (st : List Value) (T : State), ZH Γ w ls la H locs cells slots → T.heap = H → Γ.std T locs cells slots →
    ∃ t, Steps Γ.p.tables Γ.e Γ.below ((T.setTop (F0 Γ.m pc la st)).pushFrame (.throwing (x - 1))) t ∧ ZQ Γ t
/-- what stays the same all through a method's body -/
def ZOk (Γ : ZG ω) (cc : ByteArray) (own : String) (nL : Nat) (Kn : State → Prop) (Z : ZWi ω) : Prop :=
  Γ.p.tables.exec = Jvm.exec ∧ Γ.c.code = cc ∧ Γ.c.maxLocals = Γ.nL ∧ Γ.s.vm.findClass own = some Γ.m.cls ∧ Γ.meth.locks = false ∧ (∀ U : State, Γ.s.WarmedH U.vm → Kn U) ∧ Γ.nL = nL ∧ Γ.Z = Z ∧ ∃ w0, Γ.Z.1 w0 Γ.s.heap ∧ Γ.Z.2.1 w0 = Γ.c0
section
variable {Γ : ZG ω} {cc : ByteArray} {own : String} {nL : Nat} {Kn : State → Prop} {Z : ZWi ω}
theorem ZOk.exec (G : ZOk Γ cc own nL Kn Z) : Γ.p.tables.exec = Jvm.exec := G.1
theorem ZOk.bytes (G : ZOk Γ cc own nL Kn Z) : Γ.c.code = cc := G.2.1
theorem ZOk.maxL (G : ZOk Γ cc own nL Kn Z) : Γ.c.maxLocals = Γ.nL := G.2.2.1
theorem ZOk.ow (G : ZOk Γ cc own nL Kn Z) : Γ.s.vm.findClass own = some Γ.m.cls := G.2.2.2.1
theorem ZOk.locks (G : ZOk Γ cc own nL Kn Z) : Γ.meth.locks = false := G.2.2.2.2.1
theorem ZOk.kw (G : ZOk Γ cc own nL Kn Z) : ∀ U : State, Γ.s.WarmedH U.vm → Kn U := G.2.2.2.2.2.1
theorem ZOk.kn (G : ZOk Γ cc own nL Kn Z) : Kn Γ.s := G.kw _ (State.WarmedH.refl Γ.s)
theorem ZOk.nl (G : ZOk Γ cc own nL Kn Z) : Γ.nL = nL := G.2.2.2.2.2.2.1
theorem ZOk.z (G : ZOk Γ cc own nL Kn Z) : Γ.Z = Z := G.2.2.2.2.2.2.2.1
theorem ZOk.h0 (G : ZOk Γ cc own nL Kn Z) : ∃ w0, Γ.Z.1 w0 Γ.s.heap ∧ Γ.Z.2.1 w0 = Γ.c0 := G.2.2.2.2.2.2.2.2
end
/-- its room, its return type, its name, its handlers -/
def ZRm (Γ : ZG ω) (d : Nat) (lim : Nat × Nat) (ret : Option FieldType) (name : String) (hh : List (Nat × Nat × Nat × Nat)) : Prop :=
  Γ.R.frames = d ∧ Γ.R.cells = lim.1 - Γ.c0 ∧ Γ.R.slots = lim.2 - Γ.n0 ∧ Γ.R.locals = zloc d ∧ Γ.c0 ≤ lim.1 ∧ Γ.n0 ≤ lim.2 ∧ Γ.meth.sig.returnType = ret ∧ Γ.meth.name = name ∧ Γ.c.exceptionTable.toList.map (fun h => (h.startPc, h.endPc, h.handlerPc, h.catchType)) = hh
end
/-- a local's value -/
def zlk : List (Nat × ZA) → Nat → Option ZA
  | [], _ => none
  | q :: r, i => if q.1 = i then some q.2 else zlk r i
theorem zlk_at {la : Array Slot} {n : Nat} {ls : List (Nat × ZA)} {i : Nat} {v : ZA} (h : lv_has la n (ls.map fun q => (q.1, zcv q.2))) (hl : zlk ls i = some v) : la[i]? = some (.val (zcv v)) := by
  have key : ∀ l : List (Nat × ZA), zlk l i = some v → (i, v) ∈ l := by
    intro l
    induction l with
    | nil => intro h; cases h
    | cons q r ih =>
      intro h
      unfold zlk at h
      split at h
      · rename_i e
        cases h
        subst e
        exact List.mem_cons_self
      · exact List.mem_cons_of_mem _ (ih h)
  exact h.2.2 (i, zcv v) (List.mem_map.mpr ⟨(i, v), key ls hl, rfl⟩)
/-- a local is stored -/
def zst1 (ls : List (Nat × ZA)) (i : Nat) (v : ZA) : List (Nat × ZA) := (i, v) :: ls.filter (fun q => !(q.1 == i) && !(q.1 + 1 == i && zcat q.2 == 2))
def zst2 (ls : List (Nat × ZA)) (i : Nat) (v : ZA) : List (Nat × ZA) := (i, v) :: ls.filter (fun q => !(q.1 == i) && (!(q.1 == i + 1) && !(q.1 + 1 == i && zcat q.2 == 2)))
theorem zrf_cat (r : Nat) : (zrf r).category = 1 := by cases r <;> rfl
theorem zcv_cat (v : ZA) : (zcv v).category = zcat v := by
  rcases v with a | a | r
  · rfl
  · rfl
  · exact zrf_cat r
theorem zst1_map (ls : List (Nat × ZA)) (i : Nat) (v : ZA) : (zst1 ls i v).map (fun q => (q.1, zcv q.2)) = (i, zcv v) :: (ls.map fun q => (q.1, zcv q.2)).filter (fun q => !(q.1 == i) && !(q.1 + 1 == i && q.2.category == 2)) := by
  unfold zst1
  rw [List.map_cons, List.filter_map]
  congr 2
  apply List.filter_congr
  intro q _
  simp [zcv_cat]
theorem zst2_map (ls : List (Nat × ZA)) (i : Nat) (v : ZA) : (zst2 ls i v).map (fun q => (q.1, zcv q.2)) = (i, zcv v) :: (ls.map fun q => (q.1, zcv q.2)).filter (fun q => !(q.1 == i) && (!(q.1 == i + 1) && !(q.1 + 1 == i && q.2.category == 2))) := by
  unfold zst2
  rw [List.map_cons, List.filter_map]
  congr 2
  apply List.filter_congr
  intro q _
  simp [zcv_cat]
theorem zst1_has {la : Array Slot} {n i : Nat} {ls ls' : List (Nat × ZA)} {v : ZA} (h : lv_has la n (ls.map fun q => (q.1, zcv q.2))) (hi : i < n) (hc : zcat v = 1) (hl : zst1 ls i v = ls') :
    ∃ la', storeLocals la i (zcv v) = some la' ∧ lv_has la' n (ls'.map fun q => (q.1, zcv q.2)) := by
  subst hl
  rw [zst1_map]
  exact lv_store1 h hi ((zcv_cat v).trans hc)
theorem zst2_has {la : Array Slot} {n i : Nat} {ls ls' : List (Nat × ZA)} {v : ZA} (h : lv_has la n (ls.map fun q => (q.1, zcv q.2))) (hi : i + 1 < n) (hc : zcat v = 2) (hl : zst2 ls i v = ls') :
    ∃ la', storeLocals la i (zcv v) = some la' ∧ lv_has la' n (ls'.map fun q => (q.1, zcv q.2)) := by
  subst hl
  rw [zst2_map]
  exact lv_store2 h hi ((zcv_cat v).trans hc)
/-- fewer locals -/
theorem zls_sub {la : Array Slot} {n : Nat} {ls ls' : List (Nat × ZA)} (h : lv_has la n (ls.map fun q => (q.1, zcv q.2))) (hs : ∀ q ∈ ls', q ∈ ls) : lv_has la n (ls'.map fun q => (q.1, zcv q.2)) := by
  refine ⟨h.1, h.2.1, fun q hq => ?_⟩
  obtain ⟨q0, h0, rfl⟩ := List.mem_map.mp hq
  exact h.2.2 _ (List.mem_map.mpr ⟨q0, hs q0 h0, rfl⟩)
/-! ints as numbers -/
/-- kept shut: no unfolding by comparison -/
theorem zw_ex (f : Int → Int) : Nonempty {g : Int → Int // ∀ a, g a = f a} := ⟨⟨f, fun _ => rfl⟩⟩
noncomputable def zwf (f : Int → Int) : {g : Int → Int // ∀ a, g a = f a} := Classical.choice (zw_ex f)
theorem zw_ex2 (f : Int → Int → Int) : Nonempty {g : Int → Int → Int // ∀ a b, g a b = f a b} := ⟨⟨f, fun _ _ => rfl⟩⟩
noncomputable def zwf2 (f : Int → Int → Int) : {g : Int → Int → Int // ∀ a b, g a b = f a b} := Classical.choice (zw_ex2 f)
noncomputable def w32 (a : Int) : Int := (zwf fun a => (a + 2147483648) % 4294967296 - 2147483648).1 a
noncomputable def w64 (a : Int) : Int := (zwf fun a => (a + 9223372036854775808) % 18446744073709551616 - 9223372036854775808).1 a
theorem w32_def (a : Int) : w32 a = (a + 2147483648) % 4294967296 - 2147483648 := (zwf _).2 a
theorem w64_def (a : Int) : w64 a = (a + 9223372036854775808) % 18446744073709551616 - 9223372036854775808 := (zwf _).2 a
theorem w32_r (a : Int) : zr (w32 a) := by rw [w32_def]; unfold zr; omega
theorem w64_r (a : Int) : zrl (w64 a) := by rw [w64_def]; unfold zrl; omega
theorem w32_id {a : Int} (h : zr a) : w32 a = a := by unfold zr at h; rw [w32_def]; omega
theorem w64_id {a : Int} (h : zrl a) : w64 a = a := by unfold zrl at h; rw [w64_def]; omega
theorem zi_toInt {a : Int} (h : zr a) : (zi a).toInt = a := by
  unfold zr at h
  exact Int32.toInt_ofInt_of_le (by omega) (by omega)
theorem zj_toInt {a : Int} (h : zrl a) : (zj a).toInt = a := by
  unfold zrl at h
  exact Int64.toInt_ofInt_of_le (by omega) (by omega)
theorem zi_of (x : Int32) : zi x.toInt = x := Int32.ofInt_toInt x
theorem zj_of (x : Int64) : zj x.toInt = x := Int64.ofInt_toInt x
theorem zr_of (x : Int32) : zr x.toInt := by
  have h1 := Int32.toInt_lt x
  have h2 := Int32.le_toInt x
  unfold zr
  omega
theorem zrl_of (x : Int64) : zrl x.toInt := by
  have h1 := Int64.toInt_lt x
  have h2 := Int64.le_toInt x
  unfold zrl
  omega
theorem w32_bmod (a : Int) : a.bmod 4294967296 = w32 a := by
  rw [w32_def]
  rw [Int.bmod_def]
  split <;> omega
theorem w64_bmod (a : Int) : a.bmod 18446744073709551616 = w64 a := by
  rw [w64_def]
  rw [Int.bmod_def]
  split <;> omega
theorem zi_w (a : Int) : zi (w32 a) = zi a := by
  apply Int32.toInt_inj.mp
  rw [zi_toInt (w32_r a)]
  unfold zi
  rw [Int32.toInt_ofInt]
  exact (w32_bmod a).symm
theorem zj_w (a : Int) : zj (w64 a) = zj a := by
  apply Int64.toInt_inj.mp
  rw [zj_toInt (w64_r a)]
  unfold zj
  rw [Int64.toInt_ofInt]
  exact (w64_bmod a).symm
theorem zi_add (a b : Int) : zi a + zi b = zi (w32 (a + b)) := by rw [zi_w]; exact (Int32.ofInt_add a b).symm
theorem zi_sub (a b : Int) : zi a - zi b = zi (w32 (a - b)) := by rw [zi_w]; exact (Int32.ofInt_sub a b).symm
theorem zi_mul (a b : Int) : zi a * zi b = zi (w32 (a * b)) := by rw [zi_w]; exact (Int32.ofInt_mul a b).symm
theorem zi_neg (a : Int) : -zi a = zi (w32 (-a)) := by rw [zi_w]; exact (Int32.ofInt_neg a).symm
theorem zj_add (a b : Int) : zj a + zj b = zj (w64 (a + b)) := by rw [zj_w]; exact (Int64.ofInt_add a b).symm
theorem zj_sub (a b : Int) : zj a - zj b = zj (w64 (a - b)) := by rw [zj_w]; exact (Int64.ofInt_sub a b).symm
theorem zj_mul (a b : Int) : zj a * zj b = zj (w64 (a * b)) := by rw [zj_w]; exact (Int64.ofInt_mul a b).symm
theorem zi_lt {a b : Int} (ha : zr a) (hb : zr b) : zi a < zi b ↔ a < b := by rw [Int32.lt_iff_toInt_lt, zi_toInt ha, zi_toInt hb]
theorem zi_le {a b : Int} (ha : zr a) (hb : zr b) : zi a ≤ zi b ↔ a ≤ b := by rw [Int32.le_iff_toInt_le, zi_toInt ha, zi_toInt hb]
theorem zi_eq {a b : Int} (ha : zr a) (hb : zr b) : zi a = zi b ↔ a = b := by rw [← Int32.toInt_inj, zi_toInt ha, zi_toInt hb]
theorem zj_lt {a b : Int} (ha : zrl a) (hb : zrl b) : zj a < zj b ↔ a < b := by rw [Int64.lt_iff_toInt_lt, zj_toInt ha, zj_toInt hb]
theorem zj_eq {a b : Int} (ha : zrl a) (hb : zrl b) : zj a = zj b ↔ a = b := by rw [← Int64.toInt_inj, zj_toInt ha, zj_toInt hb]
noncomputable def i_and (a b : Int) : Int := (zwf2 fun a b => (zi a &&& zi b).toInt).1 a b
theorem i_and_def (a b : Int) : i_and a b = (zi a &&& zi b).toInt := (zwf2 _).2 a b
noncomputable def i_or (a b : Int) : Int := (zwf2 fun a b => (zi a ||| zi b).toInt).1 a b
theorem i_or_def (a b : Int) : i_or a b = (zi a ||| zi b).toInt := (zwf2 _).2 a b
noncomputable def i_xor (a b : Int) : Int := (zwf2 fun a b => (zi a ^^^ zi b).toInt).1 a b
theorem i_xor_def (a b : Int) : i_xor a b = (zi a ^^^ zi b).toInt := (zwf2 _).2 a b
noncomputable def i_shl (a b : Int) : Int := (zwf2 fun a b => (zi a <<< (zi b &&& 31)).toInt).1 a b
theorem i_shl_def (a b : Int) : i_shl a b = (zi a <<< (zi b &&& 31)).toInt := (zwf2 _).2 a b
noncomputable def i_shr (a b : Int) : Int := (zwf2 fun a b => (zi a >>> (zi b &&& 31)).toInt).1 a b
theorem i_shr_def (a b : Int) : i_shr a b = (zi a >>> (zi b &&& 31)).toInt := (zwf2 _).2 a b
noncomputable def i_ushr (a b : Int) : Int := (zwf2 fun a b => ((zi a).toUInt32 >>> ((zi b).toUInt32 &&& Int32.toUInt32 31)).toInt32.toInt).1 a b
theorem i_ushr_def (a b : Int) : i_ushr a b = ((zi a).toUInt32 >>> ((zi b).toUInt32 &&& Int32.toUInt32 31)).toInt32.toInt := (zwf2 _).2 a b
noncomputable def i_div (a b : Int) : Int := (zwf2 fun a b => (zi a / zi b).toInt).1 a b
theorem i_div_def (a b : Int) : i_div a b = (zi a / zi b).toInt := (zwf2 _).2 a b
noncomputable def i_rem (a b : Int) : Int := (zwf2 fun a b => (zi a - zi a / zi b * zi b).toInt).1 a b
theorem i_rem_def (a b : Int) : i_rem a b = (zi a - zi a / zi b * zi b).toInt := (zwf2 _).2 a b
noncomputable def l_and (a b : Int) : Int := (zwf2 fun a b => (zj a &&& zj b).toInt).1 a b
theorem l_and_def (a b : Int) : l_and a b = (zj a &&& zj b).toInt := (zwf2 _).2 a b
noncomputable def l_or (a b : Int) : Int := (zwf2 fun a b => (zj a ||| zj b).toInt).1 a b
theorem l_or_def (a b : Int) : l_or a b = (zj a ||| zj b).toInt := (zwf2 _).2 a b
noncomputable def l_shl (a b : Int) : Int := (zwf2 fun a b => (zj a <<< ((zi b).toInt64 &&& 63)).toInt).1 a b
theorem l_shl_def (a b : Int) : l_shl a b = (zj a <<< ((zi b).toInt64 &&& 63)).toInt := (zwf2 _).2 a b
noncomputable def l_shr (a b : Int) : Int := (zwf2 fun a b => (zj a >>> ((zi b).toInt64 &&& 63)).toInt).1 a b
theorem l_shr_def (a b : Int) : l_shr a b = (zj a >>> ((zi b).toInt64 &&& 63)).toInt := (zwf2 _).2 a b
noncomputable def l_ushr (a b : Int) : Int := (zwf2 fun a b => ((zj a).toUInt64 >>> ((zi b).toInt64.toUInt64 &&& Int64.toUInt64 63)).toInt64.toInt).1 a b
theorem l_ushr_def (a b : Int) : l_ushr a b = ((zj a).toUInt64 >>> ((zi b).toInt64.toUInt64 &&& Int64.toUInt64 63)).toInt64.toInt := (zwf2 _).2 a b
noncomputable def i_b (a : Int) : Int := (zwf fun a => (zi a).toInt8.toInt32.toInt).1 a
theorem i_b_def (a : Int) : i_b a = (zi a).toInt8.toInt32.toInt := (zwf _).2 a
noncomputable def i_c (a : Int) : Int := (zwf fun a => ((zi a).toUInt32 % 65536).toInt32.toInt).1 a
theorem i_c_def (a : Int) : i_c a = ((zi a).toUInt32 % 65536).toInt32.toInt := (zwf _).2 a
theorem i_and_r (a b : Int) : zr (i_and a b) := by rw [i_and_def]; exact zr_of _
theorem i_or_r (a b : Int) : zr (i_or a b) := by rw [i_or_def]; exact zr_of _
theorem i_xor_r (a b : Int) : zr (i_xor a b) := by rw [i_xor_def]; exact zr_of _
theorem i_shl_r (a b : Int) : zr (i_shl a b) := by rw [i_shl_def]; exact zr_of _
theorem i_shr_r (a b : Int) : zr (i_shr a b) := by rw [i_shr_def]; exact zr_of _
theorem i_ushr_r (a b : Int) : zr (i_ushr a b) := by rw [i_ushr_def]; exact zr_of _
theorem i_div_r (a b : Int) : zr (i_div a b) := by rw [i_div_def]; exact zr_of _
theorem i_rem_r (a b : Int) : zr (i_rem a b) := by rw [i_rem_def]; exact zr_of _
theorem l_and_r (a b : Int) : zrl (l_and a b) := by rw [l_and_def]; exact zrl_of _
theorem l_or_r (a b : Int) : zrl (l_or a b) := by rw [l_or_def]; exact zrl_of _
theorem l_shl_r (a b : Int) : zrl (l_shl a b) := by rw [l_shl_def]; exact zrl_of _
theorem l_shr_r (a b : Int) : zrl (l_shr a b) := by rw [l_shr_def]; exact zrl_of _
theorem l_ushr_r (a b : Int) : zrl (l_ushr a b) := by rw [l_ushr_def]; exact zrl_of _
theorem i_b_r (a : Int) : zr (i_b a) := by rw [i_b_def]; exact zr_of _
theorem i_c_r (a : Int) : zr (i_c a) := by rw [i_c_def]; exact zr_of _
def i_z (a : Int) : Int := (vp_nar .boolean (zi a)).toInt
def l_cmp (a b : Int) : Int := if b < a then 1 else if a = b then 0 else -1
theorem l_cmp_r (a b : Int) : zr (l_cmp a b) := by
  unfold l_cmp zr
  split
  · omega
  · split <;> omega
theorem l_cmp_zi {a b : Int} (ha : zrl a) (hb : zrl b) : lg_cmp (zj a) (zj b) = zi (l_cmp a b) := by
  unfold lg_cmp l_cmp
  simp only [gt_iff_lt, zj_lt hb ha, zj_eq ha hb]
  split
  · rfl
  · split <;> rfl
end ZBase
