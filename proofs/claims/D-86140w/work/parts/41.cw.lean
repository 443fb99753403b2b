/-! THE COMPONENT's WORLD: objects and arrays by references (0 null), told by tags (1.. classes of zcl, 101.. arrays); what has no tag is the heap around, which stays -/
section ZCW
/-- tags, lengths, fields (by field number, then reference), arrays (by reference, then place), size, slots, the LetterPost, limits of size and slots, the string literals -/
abbrev CW : Type := (Nat → Nat) × (Nat → Nat) × (Nat → Nat → Int) × (Nat → Nat → Nat) × (Nat → Int → Int) × (Nat → Int → Nat) × Nat × Nat × Nat × Nat × Nat × (Nat → Nat)
def tg (w : CW) (r : Nat) : Nat := w.1 r
def ln (w : CW) (r : Nat) : Nat := w.2.1 r
def fI (w : CW) (f r : Nat) : Int := w.2.2.1 f r
def fR (w : CW) (f r : Nat) : Nat := w.2.2.2.1 f r
def aI (w : CW) (r : Nat) (i : Int) : Int := w.2.2.2.2.1 r i
def aR (w : CW) (r : Nat) (i : Int) : Nat := w.2.2.2.2.2.1 r i
def cz (w : CW) : Nat := w.2.2.2.2.2.2.1
def cu (w : CW) : Nat := w.2.2.2.2.2.2.2.1
def lp (w : CW) : Nat := w.2.2.2.2.2.2.2.2.1
def mz (w : CW) : Nat := w.2.2.2.2.2.2.2.2.2.1
def mu (w : CW) : Nat := w.2.2.2.2.2.2.2.2.2.2.1
def sr (w : CW) (k : Nat) : Nat := w.2.2.2.2.2.2.2.2.2.2.2 k
/-- stores; a new object of tag t with n slots; a new array of tag t and length n -/
def pI (w : CW) (f r : Nat) (v : Int) : CW := (w.1, w.2.1, (fun g q => if g = f ∧ q = r then v else w.2.2.1 g q), w.2.2.2)
def pR (w : CW) (f r : Nat) (v : Nat) : CW := (w.1, w.2.1, w.2.2.1, (fun g q => if g = f ∧ q = r then v else w.2.2.2.1 g q), w.2.2.2.2)
def qI (w : CW) (r : Nat) (i : Int) (v : Int) : CW := (w.1, w.2.1, w.2.2.1, w.2.2.2.1, (fun q j => if q = r ∧ j = i then v else w.2.2.2.2.1 q j), w.2.2.2.2.2)
def qR (w : CW) (r : Nat) (i : Int) (v : Nat) : CW := (w.1, w.2.1, w.2.2.1, w.2.2.2.1, w.2.2.2.2.1, (fun q j => if q = r ∧ j = i then v else w.2.2.2.2.2.1 q j), w.2.2.2.2.2.2)
def nO (w : CW) (t n : Nat) : CW := ((fun q => if q = cz w + 1 then t else w.1 q), w.2.1, (fun g q => if q = cz w + 1 then 0 else w.2.2.1 g q), (fun g q => if q = cz w + 1 then 0 else w.2.2.2.1 g q), w.2.2.2.2.1, w.2.2.2.2.2.1, cz w + 1, cu w + n, w.2.2.2.2.2.2.2.2)
def nA (w : CW) (t n : Nat) : CW := ((fun q => if q = cz w + 1 then t else w.1 q), (fun q => if q = cz w + 1 then n else w.2.1 q), w.2.2.1, w.2.2.2.1, (fun q j => if q = cz w + 1 then 0 else w.2.2.2.2.1 q j), (fun q j => if q = cz w + 1 then 0 else w.2.2.2.2.2.1 q j), cz w + 1, cu w + n, w.2.2.2.2.2.2.2.2)
/-- where it lies: the classes' numbers and slots (by place in zcl), the arrays' classes (by tag), the heap around, from where on it may write -/
abbrev CD : Type := (Nat → ClassId) × (Nat → Nat → Nat) × (Nat → ClassId) × Heap × Nat × Nat × Nat × Nat × (Nat → Nat)
abbrev CD.cid (D : CD) : Nat → ClassId := D.1
abbrev CD.iS (D : CD) : Nat → Nat → Nat := D.2.1
abbrev CD.ca (D : CD) : Nat → ClassId := D.2.2.1
abbrev CD.Hf (D : CD) : Heap := D.2.2.2.1
abbrev CD.B0 (D : CD) : Nat := D.2.2.2.2.1
/-- the LetterPost, the limits, the literals -/
abbrev CD.K (D : CD) : Nat × Nat × Nat × (Nat → Nat) := D.2.2.2.2.2
abbrev CD.lim (D : CD) : Nat × Nat := (D.2.2.2.2.2.2.1, D.2.2.2.2.2.2.2.1)
/-- constants' tags: strings and byte arrays that are there from the start -/
def cst (t : Nat) : Bool := decide (t = tSC) || decide (t = 106)
def cV (w : CW) (r f : Nat) : Value := if fk f = 1 then .long (zj (fI w f r)) else if fk f = 3 then zrf (fR w f r) else .int (zi (fI w f r))
def aV (w : CW) (r i : Nat) : Value := if tg w r = 103 then .long (zj (aI w r i)) else if 110 ≤ tg w r then zrf (aR w r i) else .int (zi (aI w r i))
def sok (w : CW) : Prop := (∀ f r, if fk f = 1 then zrl (fI w f r) else zr (fI w f r)) ∧ (∀ r i, if tg w r = 103 then zrl (aI w r i) else zr (aI w r i)) ∧ ∀ r, ln w r ≤ 1000000
def RepC (D : CD) (w : CW) (H : Heap) : Prop :=
  H.size = cz w ∧ sok w ∧ tg w 0 = 0 ∧ (∀ r, tg w r ≠ 0 → 1 ≤ r ∧ r ≤ cz w ∧ (cst (tg w r) = false → D.B0 + 1 ≤ r)) ∧
  (∀ r ci q, tg w r = ci + 1 → zcl[ci]? = some q → t_OB (r - 1) (D.cid ci) q.2.2 (D.iS ci) H (fun k => cV w r (zfid ci k))) ∧
  (∀ r, 100 ≤ tg w r → H[r - 1]? = some (arrV (D.ca (tg w r)) (ln w r) (aV w r))) ∧
  (∀ q, q < D.Hf.size → tg w (q + 1) = 0 ∨ q < D.B0 → H[q]? = D.Hf[q]?) ∧ D.Hf.size ≤ H.size ∧ (lp w ≠ 0 → tg w (lp w) = tLP) ∧ w.2.2.2.2.2.2.2.2 = D.K ∧ (∀ q c, D.B0 ≤ q → H[q]? = some c → c.vm.isStatics = false)
def ZC (D : CD) : ZWi CW := (RepC D, cz, cu, D.B0)
/-- element types of the arrays, by tag -/
def aty (t : Nat) : FieldType := if t = 101 ∨ t = 106 then .byte else if t = 102 then .int else if t = 103 then .long else if t = 104 then .boolean else if t = 105 then .char else .object (zel t)
/-- words that want their own law under warmer tables -/
def znwF : List Cond := lw_tbl.filter fun w => match w with | .fieldLinkNest .. => true | _ => false
def znwM : List Cond := lw_tbl.filter fun w => match w with | .methodLinkNest .. => true | _ => false
def znwD : List Cond := lw_tbl.filter fun w => match w with | .declares .. => true | _ => false
def znwC : List Cond := lw_tbl.filter fun w => match w with | .castable .. => true | _ => false
/-- statics: their value, or some reference -/
def zstatL : List (String × String × String × Option Int) := [("java/lang/Throwable", "UNASSIGNED_STACK", "[Ljava/lang/StackTraceElement;", none), ("java/lang/Throwable", "SUPPRESSED_SENTINEL", "Ljava/util/List;", none), ("java/lang/String", "COMPACT_STRINGS", "Z", some 1), ("jdk/internal/util/Preconditions", "SIOOBE_FORMATTER", "Ljava/util/function/BiFunction;", none), ("java/lang/StringUTF16", "$assertionsDisabled", "Z", some 1), ("java/lang/StringUTF16", "HI_BYTE_SHIFT", "I", some 0), ("java/lang/StringUTF16", "LO_BYTE_SHIFT", "I", some 8)]
/-- words that look at the statics' cell -/
def zhcL : List Cond := [.laysStatic "java/lang/Throwable" "UNASSIGNED_STACK" "[Ljava/lang/StackTraceElement;", .laysStatic "java/lang/Throwable" "SUPPRESSED_SENTINEL" "Ljava/util/List;", .isRef (.static "java/lang/Throwable" "UNASSIGNED_STACK" "[Ljava/lang/StackTraceElement;"), .isRef (.static "java/lang/Throwable" "SUPPRESSED_SENTINEL" "Ljava/util/List;")]
def znwO : List Cond := lw_tbl.filter fun w => match w with | .privateMethod .. => true | .publicMethod .. => true | .interfaceMethod .. => true | .unhidden .. => true | _ => false
theorem znwO_ok : znwO.all (fun w => w.faceAtom && w.onTables) = true := by decide +kernel
theorem va_Nw.warmO {w : Cond} {s U : State} (hW : s.WarmedH U.vm) (h1 : w.faceAtom = true) (h2 : w.onTables = true) (h : va_Nw w s) : va_Nw w U :=
  va_tabs (A := #[]) h2 (rfl : (s.setVm U.vm).vm = U.vm) (Cond.faceAtom_setVm hW.alike w h1 h)
def KnC (D : CD) (U : State) : Prop :=
  D.B0 ≤ D.Hf.size ∧ zK1 U ∧ (∀ ci q, zcl[ci]? = some q → u_Kn U q.1 q.2.1 q.2.2 (D.cid ci) (D.iS ci)) ∧
  (∀ t, 101 ≤ t → t ≤ 119 → t < 107 ∨ 111 ≤ t → ArrOfT U (D.ca t) (aty t) ∧ va_RA U (D.ca t) (aty t)) ∧ (∀ C ∈ zraN, va_AO C U) ∧
  (∀ w ∈ znwF, va_Nw w U) ∧ (∀ w ∈ znwM, va_Nw w U) ∧ (∀ w ∈ znwD, va_Nw w U) ∧ (∀ w ∈ znwC, va_Nw w U) ∧ (∀ q ∈ zncL, va_Nc (zcn q.1) q.2 U) ∧ (∀ k q, zsrL[k]? = some q → vk_R "LetterPost" q.1 q.2 (D.K.2.2.2 k - 1) U ∧ 1 ≤ D.K.2.2.2 k) ∧ (∀ q ∈ zstatL, ∃ v, va_Z q.1 q.2.1 q.2.2.1 v (fun a => D.B0 ≤ a) U D.Hf ∧ match q.2.2.2 with
    | some x => v = .int (zi x)
    | none => v.isRef = true) ∧ (∀ (A : Array Value) (V : State), V.vm = U.vm → (∀ q, q < D.B0 → V.heap[q]? = D.Hf[q]?) → ∀ w ∈ zhcL, w.before A V = true) ∧ (∀ w ∈ znwO, va_Nw w U) ∧ D.K.1 ≠ 0
theorem KnC.warm {D : CD} (s U : State) (hW : s.WarmedH U.vm) (h : KnC D s) : KnC D U := by
  obtain ⟨h0, h1, h2, h3, h4, h5, h6, h7, h8, h9, h10, h11, h12, h13, h14⟩ := h
  refine ⟨h0, h1.warm hW, fun ci q hq => u_Kn_moved hW.alike (h2 ci q hq), fun t a b c => ⟨arrOfT_moved hW.alike (h3 t a b c).1, (h3 t a b c).2.moved hW.alike⟩, fun C hC => (h4 C hC).moved hW.alike, ?_, ?_, ?_, ?_, fun q hq => (h9 q hq).moved hW.alike, fun k q hq => ⟨(h10 k q hq).1.warm hW, (h10 k q hq).2⟩, fun q hq => by obtain ⟨v, h1, h2⟩ := h11 q hq; exact ⟨v, h1.moved hW.alike, h2⟩, ?_, fun w hw => by
    have h := List.all_eq_true.mp znwO_ok w hw
    rw [Bool.and_eq_true] at h
    exact (h13 w hw).warmO hW h.1 h.2, h14⟩
  rotate_right
  · intro A V hV hH w hw
    have hk : w.steady = true := by
      have : zhcL.all (fun w => w.steady) = true := by decide
      exact List.all_eq_true.mp this w hw
    have h := h12 A (V.setVm s.vm) rfl hH w hw
    have e : V = (V.setVm s.vm).setVm U.vm := by rw [← hV]; rfl
    rw [e]
    have := Cond.value_setVm (args := A) (s := V.setVm s.vm) (vm' := U.vm) (o := none) hW.alike w [] hk
    unfold Cond.before Cond.holds at h ⊢
    rw [this]
    exact h
  · intro w hw
    have h := h5 w hw
    obtain ⟨-, hk⟩ := List.mem_filter.mp hw
    match w, hk, h with
    | .fieldLinkNest _ _ _ _ _ _, _, h => exact h.warmF hW
  · intro w hw
    have h := h6 w hw
    obtain ⟨-, hk⟩ := List.mem_filter.mp hw
    match w, hk, h with
    | .methodLinkNest _ _ _ _, _, h => exact h.warmM hW
  · intro w hw
    have h := h7 w hw
    obtain ⟨-, hk⟩ := List.mem_filter.mp hw
    match w, hk, h with
    | .declares _, _, h => exact h.warmD hW
  · intro w hw
    have h := h8 w hw
    obtain ⟨-, hk⟩ := List.mem_filter.mp hw
    match w, hk, h with
    | .castable _ _, _, h => exact h.warmC hW
end ZCW
