/-! THE REFERENCE's WORLD: its one object's numbers (I: by the field's number) and its arrays' contents (A: by the field's number); all else is a heap that stays -/
section ZTwin
/-- a field's kind: 0 int, 1 long, 2 boolean, 3 int[], 4 long[], 5 boolean[]; its length -/
def tkl : List (Nat × Nat) := [(3, 1600), (0, 0), (0, 0), (0, 0), (1, 0), (0, 0), (0, 0), (0, 0), (0, 0), (2, 0), (0, 0), (0, 0), (4, 24), (3, 24), (3, 24), (3, 96), (0, 0), (3, 1700), (3, 1700), (3, 1700), (3, 1700), (4, 1700), (3, 1700), (3, 1700), (3, 1700), (3, 1700), (3, 1700), (0, 0), (3, 192), (4, 1536), (3, 1536), (0, 0), (0, 0), (3, 8), (3, 8), (3, 8), (3, 8), (3, 8), (3, 8), (5, 8), (3, 64), (0, 0), (4, 12), (3, 12), (3, 36), (3, 12), (3, 12), (3, 192), (3, 192), (3, 192), (3, 768), (3, 768), (3, 384), (3, 192), (3, 192), (3, 192), (4, 192), (3, 192), (3, 192), (3, 576), (3, 576), (0, 0), (3, 40), (3, 40), (3, 41), (0, 0), (3, 33000), (3, 33000), (3, 33000), (5, 33000), (5, 40), (0, 0), (3, 2000), (3, 2000), (3, 2000), (3, 2000), (3, 1700), (3, 13), (3, 13), (3, 13), (3, 3900), (3, 3900), (3, 3900), (3, 3900), (3, 3900), (3, 3900), (3, 3900), (3, 3900), (3, 3900), (3, 3900), (3, 3900), (4, 3900), (5, 3900), (0, 0), (3, 400), (3, 400), (3, 400), (4, 400), (5, 400), (0, 0), (3, 100), (3, 100), (4, 100), (5, 100), (4, 100), (0, 0), (3, 300), (3, 300), (5, 192), (0, 0), (3, 160), (3, 160), (4, 160), (3, 160), (3, 640), (3, 300), (3, 300), (3, 3), (3, 8), (0, 0), (0, 0), (0, 0), (0, 0), (0, 0), (0, 0), (0, 0), (2, 0), (3, 32), (0, 0), (3, 8)]
def tk (f : Nat) : Nat := (tkl.getD f (9, 0)).1
def tl (f : Nat) : Nat := (tkl.getD f (9, 0)).2
abbrev TW : Type := (Nat → Int) × (Nat → Int → Int)
def tI (τ : TW) (f : Nat) : Int := τ.1 f
def tA (τ : TW) (f : Nat) (i : Int) : Int := τ.2 f i
def sI (τ : TW) (f : Nat) (v : Int) : TW := (fun g => if g = f then v else τ.1 g, τ.2)
def sA (τ : TW) (f : Nat) (i v : Int) : TW := (τ.1, fun g j => if g = f ∧ j = i then v else τ.2 g j)
theorem tI_sI (τ : TW) (f g : Nat) (v : Int) : tI (sI τ f v) g = if g = f then v else tI τ g := rfl
theorem tI_sA (τ : TW) (f g : Nat) (i v : Int) : tI (sA τ f i v) g = tI τ g := rfl
theorem tA_sI (τ : TW) (f g : Nat) (v j : Int) : tA (sI τ f v) g j = tA τ g j := rfl
theorem tA_sA (τ : TW) (f g : Nat) (i v j : Int) : tA (sA τ f i v) g j = if g = f ∧ j = i then v else tA τ g j := rfl
/-- a boolean as it is kept -/
def zb (v : Int) : Int := v % 2
theorem zb_zi (v : Int) : vp_nar .boolean (zi v) = zi (zb v) := by
  have h : vp_nar .boolean (zi v) = zi v &&& 1 := rfl
  have h2 : (zi v).toBitVec.toNat = (v % 4294967296).toNat := by
    show (BitVec.ofInt 32 v).toNat = _
    rw [BitVec.toNat_ofInt]
    rfl
  rw [h, pk_and (zi v) 1 (by decide), h2]
  unfold nI zi zb
  have e : (v % 4294967296).toNat % 2 ^ 1 = (v % 2).toNat := by omega
  rw [e]
  have e2 : v % 2 = (((v % 2).toNat : Nat) : Int) := by omega
  rw [show Int32.ofInt (v % 2) = Int32.ofInt (((v % 2).toNat : Nat) : Int) from by rw [← e2]]
  rfl
/-- numbers in range -/
def tok (τ : TW) : Prop := (∀ f, if tk f = 1 then zrl (tI τ f) else zr (tI τ f)) ∧ ∀ f i, if tk f = 4 then zrl (tA τ f i) else zr (tA τ f i)
/-- where it lies: the object's cell, its class, its slots, its arrays' cells, their classes, the heap around -/
abbrev TD : Type := Nat × ClassId × (Nat → Nat) × (Nat → Nat) × (Nat → ClassId) × Heap
abbrev TD.x (D : TD) : Nat := D.1
abbrev TD.cid (D : TD) : ClassId := D.2.1
abbrev TD.iS (D : TD) : Nat → Nat := D.2.2.1
abbrev TD.ad (D : TD) : Nat → Nat := D.2.2.2.1
abbrev TD.ca (D : TD) : Nat → ClassId := D.2.2.2.2.1
abbrev TD.Hf (D : TD) : Heap := D.2.2.2.2.2
def tV (D : TD) (τ : TW) (f : Nat) : Value := if tk f = 1 then .long (zj (tI τ f)) else if 3 ≤ tk f then .ref (D.ad f) else .int (zi (tI τ f))
def tC (τ : TW) (f : Nat) (i : Nat) : Value := if tk f = 4 then .long (zj (tA τ f i)) else .int (zi (tA τ f i))
def RepT (D : TD) (τ : TW) (H : Heap) : Prop :=
  H.size = D.Hf.size ∧ tok τ ∧ t_OB D.x D.cid 130 D.iS H (tV D τ) ∧ (∀ f, f < 130 → 3 ≤ tk f → H[D.ad f]? = some (arrV (D.ca f) (tl f) (tC τ f))) ∧
    ∀ q, q ≠ D.x → (∀ f, f < 130 → 3 ≤ tk f → q ≠ D.ad f) → H[q]? = D.Hf[q]?
/-- the cells are apart, and may be written -/
def TOk (D : TD) (B0 : Nat) : Prop := B0 ≤ D.x ∧ (∀ f, f < 130 → 3 ≤ tk f → B0 ≤ D.ad f ∧ D.ad f ≠ D.x) ∧ ∀ f g, f < 130 → g < 130 → 3 ≤ tk f → 3 ≤ tk g → f ≠ g → D.ad f ≠ D.ad g
/-- the element type -/
def tty (f : Nat) : FieldType := if tk f = 3 then .int else if tk f = 4 then .long else .boolean
def KnT (D : TD) (B0 : Nat) (U : State) : Prop := TOk D B0 ∧ zK1 U ∧ u_Kn U RX1 TX1 130 D.cid D.iS ∧ ∀ f, f < 130 → 3 ≤ tk f → ArrOfT U (D.ca f) (tty f)
theorem KnT.warm {D : TD} {B0 : Nat} (s U : State) (hW : s.WarmedH U.vm) (h : KnT D B0 s) : KnT D B0 U := ⟨h.1, h.2.1.warm hW, u_Kn_moved hW.alike h.2.2.1, fun f h1 h2 => arrOfT_moved hW.alike (h.2.2.2 f h1 h2)⟩
def ZT (D : TD) (B0 : Nat) : ZWi TW := (RepT D, fun _ => D.Hf.size, fun _ => 0, B0)
theorem zi_nat {i : Int} (h : zr i) : (zi i).toNatClampNeg = i.toNat := by
  show (zi i).toInt.toNat = _
  rw [zi_toInt h]
theorem zi_in {i : Int} {n : Nat} (h : zr i) (h0 : 0 ≤ i) (h1 : i < n) : ¬ (zi i < 0 ∨ n ≤ (zi i).toNatClampNeg) := by
  rw [zi_nat h, zc_0, zi_lt h zr_0]
  omega
theorem tok_I {τ : TW} {f : Nat} {v : Int} (h : tok τ) (hv : if tk f = 1 then zrl v else zr v) : tok (sI τ f v) := by
  refine ⟨fun g => ?_, fun g i => h.2 g i⟩
  rw [tI_sI]
  by_cases e : g = f
  · rw [if_pos e, e]; exact hv
  · rw [if_neg e]; exact h.1 g
theorem tok_A {τ : TW} {f : Nat} {i v : Int} (h : tok τ) (hv : if tk f = 4 then zrl v else zr v) : tok (sA τ f i v) := by
  refine ⟨fun g => h.1 g, fun g j => ?_⟩
  rw [tA_sA]
  by_cases e : g = f ∧ j = i
  · rw [if_pos e, e.1]; exact hv
  · rw [if_neg e]; exact h.2 g j
theorem tok.i {τ : TW} (h : tok τ) (f : Nat) (hf : tk f ≠ 1) : zr (tI τ f) := by have := h.1 f; rw [if_neg hf] at this; exact this
theorem tok.l {τ : TW} (h : tok τ) (f : Nat) (hf : tk f = 1) : zrl (tI τ f) := by have := h.1 f; rw [if_pos hf] at this; exact this
theorem tok.a {τ : TW} (h : tok τ) (f : Nat) (i : Int) (hf : tk f ≠ 4) : zr (tA τ f i) := by have := h.2 f i; rw [if_neg hf] at this; exact this
theorem tok.al {τ : TW} (h : tok τ) (f : Nat) (i : Int) (hf : tk f = 4) : zrl (tA τ f i) := by have := h.2 f i; rw [if_pos hf] at this; exact this
variable {Γ : ZG TW} {cc : ByteArray} {nL : Nat} {D : TD} {B0 : Nat} {w : TW} {pc : Nat} {ls : List (Nat × ZA)} {st : List ZA}
theorem zt_rep (G : ZOk Γ cc RX1 nL (KnT D B0) (ZT D B0)) {la : Array Slot} {H : Heap} {locs : List Loc} {cells slots : Nat} (h : ZH Γ w ls la H locs cells slots) : RepT D w H := by
  have h2 := h.2.1
  rw [G.z] at h2
  exact h2
/-- a numbers' walk keeps tok -/
theorem zt_tok (G : ZOk Γ cc RX1 nL (KnT D B0) (ZT D B0)) (k : tok w → ZV Γ w pc ls st) : ZV Γ w pc ls st := fun la H locs cells slots h => k (zt_rep G h).2.1 la H locs cells slots h
theorem zt_get {v : ZA} {k index : Nat} (G : ZOk Γ cc RX1 nL (KnT D B0) (ZT D B0)) (hk : k < 130) (hlink : Cond.fieldLink RX1 index (TX1 k).1 (TX1 k).2.1 (TX1 k).2.2.1 ∈ lw_all) (hv : tV D w k = zcv v) (hd : decode cc pc = .ok (.getfield index, 3)) (kk : ZV Γ w (pc + 3) ls (v :: st)) : ZV Γ w pc ls (ar (D.x + 1) :: st) := by
  intro la H locs cells slots h
  obtain ⟨-, -, ⟨cell, c1, c2, c3, c4⟩, -, -⟩ := zt_rep G h
  obtain ⟨-, hK1, ⟨hS, hfc, kC, hkC, hkind⟩, -⟩ := G.kn
  obtain ⟨cf, kf, fi, fd, hi, hsl⟩ := hS k hk
  have hst := (u_facts hfc hkC (u_lays (args := Γ.args) (fun w hw => hK1 w hw Γ.args) in_X1 hk) hi).1
  exact W.getf G.exec G.bytes G.ow (hK1 _ hlink Γ.args) hi hst c1 (by rw [c3]; exact fun h => by cases h) (v := zcv v) (by rw [hsl, c4 k hk, hv]) rfl rfl hd (kk la H locs cells slots h)
theorem zt_put {v : ZA} {w' : TW} {k index : Nat} {ty : FieldType} (G : ZOk Γ cc RX1 nL (KnT D B0) (ZT D B0)) (hk : k < 130) (hlink : Cond.fieldLink RX1 index (TX1 k).1 (TX1 k).2.1 (TX1 k).2.2.1 ∈ lw_all) (hfin : (TX1 k).2.2.2 = false)
    (hty : parseFieldDescriptor (TX1 k).2.2.1 = some ty) (hn : narrow ty (zcv v) = zcv v) (hfit : fits ty (zcv v) = true) (h1 : tok w → tok w') (h2 : tV D w' k = zcv v) (h3 : ∀ j, j ≠ k → tV D w' j = tV D w j) (h4 : ∀ f, tC w' f = tC w f)
    (hd : decode cc pc = .ok (.putfield index, 3)) (kk : ZV Γ w' (pc + 3) ls st) : ZV Γ w pc ls (v :: ar (D.x + 1) :: st) := by
  intro la H locs cells slots h
  obtain ⟨r1, r2, ⟨cell, c1, c2, c3, c4⟩, r4, r5⟩ := zt_rep G h
  obtain ⟨hT, hK1, hKn, -⟩ := G.kn
  have hts : ∀ w ∈ lw_all, w.before Γ.args Γ.s = true := fun w hw => hK1 w hw Γ.args
  have hap := va_apart (own := RX1) (D := (fun _ => D.cid, fun _ => D.iS)) (cl := [(RX1, TX1, 130)]) (tys := []) (ci := 0) hts in_X1 tyX1 tyX1_ok nmX1 ⟨fun c q hq => by match c, hq with | 0, hq => cases hq; exact hKn, fun k q hq => by simp at hq⟩ rfl
  obtain ⟨hS, hfc, kC, hkC, hkind⟩ := hKn
  obtain ⟨cf, kf, fi, fd, hi, hsl⟩ := hS k hk
  have hst := (u_facts hfc hkC (u_lays hts in_X1 hk) hi).1
  have hlay := hts _ (in_X1 _ (u_in_lay hk))
  unfold u_lay at hlay
  rw [if_neg (by rw [hfin]; decide)] at hlay
  have h6 := u_store hfc hkC hkind hlay hi hty hn hfit
  obtain ⟨-, -, b1, b2, b3, b4, b5⟩ := id h
  refine W.putK G.exec G.bytes (f := fd) ⟨G.ow, hts _ hlink, ⟨_, _, _, hi⟩, hst⟩ (by rw [c2]; exact h6) c1 c3 (by rw [hsl]; exact k2_hasslot (c4 k hk)) rfl rfl hd fun H' e1 e2 e3 => ?_
  rw [hsl] at e1 ⊢
  refine kk la H' _ cells slots ⟨h.1, ?_, ?_, ?_, ?_, b4, b5⟩
  · rw [G.z]
    refine ⟨e2.trans r1, h1 r2, ⟨_, e1, c2, c3, fun j hj => ?_⟩, fun f f1 f2 => ?_, fun q q1 q2 => ?_⟩
    · rw [t_set c4 (fun a b ha hb hab => hap a b ha hb hab) hk (zcv v) j hj]
      unfold updV
      by_cases e : j = k
      · rw [if_pos e, e, h2]
      · rw [if_neg e, h3 j e]
    · rw [e3 _ (hT.2.1 f f1 f2).2, r4 f f1 f2, h4]
    · rw [e3 q q1, r5 q q1 q2]
  · rw [G.z]
    intro q hq
    rcases List.mem_append.mp hq with hq | hq
    · have := b1 q hq; rw [G.z] at this; exact this
    · rcases List.mem_singleton.mp hq with rfl
      exact hT.1
  · rw [G.z] at b2 ⊢; exact b2
  · rw [G.z] at b3 ⊢; exact b3
theorem zt_putI {a : Int} {k index : Nat} (G : ZOk Γ cc RX1 nL (KnT D B0) (ZT D B0)) (hk : k < 130) (hlink : Cond.fieldLink RX1 index (TX1 k).1 (TX1 k).2.1 (TX1 k).2.2.1 ∈ lw_all) (hfin : (TX1 k).2.2.2 = false) (hty : parseFieldDescriptor (TX1 k).2.2.1 = some .int) (h0 : tk k = 0) (ha : zr a)
    (hd : decode cc pc = .ok (.putfield index, 3)) (kk : ∀ w', w' = sI w k a → ZV Γ w' (pc + 3) ls st) : ZV Γ w pc ls (ai a :: ar (D.x + 1) :: st) := by
  refine zt_put (v := ai a) G hk hlink hfin hty rfl rfl (fun h => tok_I h (by rw [if_neg (by rw [h0]; decide)]; exact ha)) ?_ ?_ (fun f => rfl) hd (kk _ rfl)
  · unfold tV
    rw [h0, if_neg (by decide), if_neg (by decide), tI_sI, if_pos rfl]
    rfl
  · intro j hj
    unfold tV
    rw [tI_sI, if_neg hj]
theorem zt_putZ {a : Int} {k index : Nat} (G : ZOk Γ cc RX1 nL (KnT D B0) (ZT D B0)) (hk : k < 130) (hlink : Cond.fieldLink RX1 index (TX1 k).1 (TX1 k).2.1 (TX1 k).2.2.1 ∈ lw_all) (hfin : (TX1 k).2.2.2 = false) (hty : parseFieldDescriptor (TX1 k).2.2.1 = some .boolean) (h0 : tk k = 2) (ha : a = 0 ∨ a = 1)
    (hd : decode cc pc = .ok (.putfield index, 3)) (kk : ∀ w', w' = sI w k a → ZV Γ w' (pc + 3) ls st) : ZV Γ w pc ls (ai a :: ar (D.x + 1) :: st) := by
  refine zt_put (v := ai a) G hk hlink hfin hty (by rcases ha with rfl | rfl <;> decide) (by rcases ha with rfl | rfl <;> decide) (fun h => tok_I h (by rw [if_neg (by rw [h0]; decide)]; unfold zr; omega)) ?_ ?_ (fun f => rfl) hd (kk _ rfl)
  · unfold tV
    rw [h0, if_neg (by decide), if_neg (by decide), tI_sI, if_pos rfl]
    rfl
  · intro j hj
    unfold tV
    rw [tI_sI, if_neg hj]
theorem zt_putL {a : Int} {k index : Nat} (G : ZOk Γ cc RX1 nL (KnT D B0) (ZT D B0)) (hk : k < 130) (hlink : Cond.fieldLink RX1 index (TX1 k).1 (TX1 k).2.1 (TX1 k).2.2.1 ∈ lw_all) (hfin : (TX1 k).2.2.2 = false) (hty : parseFieldDescriptor (TX1 k).2.2.1 = some .long) (h0 : tk k = 1) (ha : zrl a)
    (hd : decode cc pc = .ok (.putfield index, 3)) (kk : ∀ w', w' = sI w k a → ZV Γ w' (pc + 3) ls st) : ZV Γ w pc ls (al a :: ar (D.x + 1) :: st) := by
  refine zt_put (v := al a) G hk hlink hfin hty rfl rfl (fun h => tok_I h (by rw [if_pos h0]; exact ha)) ?_ ?_ (fun f => rfl) hd (kk _ rfl)
  · unfold tV
    rw [h0, if_pos rfl, tI_sI, if_pos rfl]
    rfl
  · intro j hj
    unfold tV
    rw [tI_sI, if_neg hj]
theorem tC_at {f : Nat} {i : Int} (h0 : 0 ≤ i) (h1 : i < tl f) (cA : ClassId) : (arrV cA (tl f) (tC w f)).slots[i.toNat]? = some (if tk f = 4 then .long (zj (tA w f i)) else .int (zi (tA w f i))) := by
  rw [arrV_read _ _ (by omega)]
  unfold tC
  rw [show ((i.toNat : Nat) : Int) = i by omega]
theorem zt_iald {f : Nat} {i : Int} (G : ZOk Γ cc RX1 nL (KnT D B0) (ZT D B0)) (hf : f < 130) (h3 : tk f = 3) (hz : zr i) (h0 : 0 ≤ i) (h1 : i < tl f) (hd : decode cc pc = .ok (.iaload, 1)) (kk : ZV Γ w (pc + 1) ls (ai (tA w f i) :: st)) : ZV Γ w pc ls (ai i :: ar (D.ad f + 1) :: st) := by
  intro la H locs cells slots h
  obtain ⟨-, -, -, r4, -⟩ := zt_rep G h
  obtain ⟨-, -, -, hA⟩ := G.kn
  have hA' := hA f hf (by rw [h3]; decide)
  unfold tty at hA'
  rw [h3, if_pos rfl] at hA'
  exact W.iald (v := .int (zi (tA w f i))) G.exec G.bytes (r4 f hf (by rw [h3]; decide)) (hA' _ _) (fun q => by cases q) (by rw [arrV_size]; exact zi_in hz h0 h1) (by rw [zi_nat hz, tC_at h0 h1, h3, if_neg (by decide)]) rfl rfl hd (kk la H locs cells slots h)
theorem zt_zald {f : Nat} {i : Int} (G : ZOk Γ cc RX1 nL (KnT D B0) (ZT D B0)) (hf : f < 130) (h3 : tk f = 5) (hz : zr i) (h0 : 0 ≤ i) (h1 : i < tl f) (hd : decode cc pc = .ok (.baload, 1)) (kk : ZV Γ w (pc + 1) ls (ai (tA w f i) :: st)) : ZV Γ w pc ls (ai i :: ar (D.ad f + 1) :: st) := by
  intro la H locs cells slots h
  obtain ⟨-, -, -, r4, -⟩ := zt_rep G h
  obtain ⟨-, -, -, hA⟩ := G.kn
  have hA' := hA f hf (by rw [h3]; decide)
  unfold tty at hA'
  rw [h3, if_neg (by decide), if_neg (by decide)] at hA'
  exact W.zald (v := .int (zi (tA w f i))) G.exec G.bytes (r4 f hf (by rw [h3]; decide)) (hA' _ _) (fun q => by cases q) (by rw [arrV_size]; exact zi_in hz h0 h1) (by rw [zi_nat hz, tC_at h0 h1, h3, if_neg (by decide)]) rfl rfl hd (kk la H locs cells slots h)
theorem zt_lald {f : Nat} {i : Int} (G : ZOk Γ cc RX1 nL (KnT D B0) (ZT D B0)) (hf : f < 130) (h3 : tk f = 4) (hz : zr i) (h0 : 0 ≤ i) (h1 : i < tl f) (hd : decode cc pc = .ok (.laload, 1)) (kk : ZV Γ w (pc + 1) ls (al (tA w f i) :: st)) : ZV Γ w pc ls (ai i :: ar (D.ad f + 1) :: st) := by
  intro la H locs cells slots h
  obtain ⟨-, -, -, r4, -⟩ := zt_rep G h
  obtain ⟨-, -, -, hA⟩ := G.kn
  have hA' := hA f hf (by rw [h3]; decide)
  unfold tty at hA'
  rw [h3, if_neg (by decide), if_pos rfl] at hA'
  exact W.lald (v := .long (zj (tA w f i))) G.exec G.bytes (r4 f hf (by rw [h3]; decide)) (hA' _ _) (fun q => by cases q) (by rw [arrV_size]; exact zi_in hz h0 h1) (by rw [zi_nat hz, tC_at h0 h1, h3, if_pos rfl]) rfl rfl hd (kk la H locs cells slots h)
/-- a store into an array: the world behind it -/
theorem zt_ast {f : Nat} {i v : Int} {w' : TW} {la : Array Slot} {H H' : Heap} {locs : List Loc} {cells slots : Nat} (G : ZOk Γ cc RX1 nL (KnT D B0) (ZT D B0)) (hf : f < 130) (h3 : 3 ≤ tk f) (hz : zr i) (h0 : 0 ≤ i) (h1 : i < tl f) (hw : w' = sA w f i v) (hv : if tk f = 4 then zrl v else zr v) (h : ZH Γ w ls la H locs cells slots)
    (e1 : H'[D.ad f]? = some ((arrV (D.ca f) (tl f) (tC w f)).setSlot (zi i).toNatClampNeg (if tk f = 4 then .long (zj v) else .int (zi v)))) (e2 : H'.size = H.size) (e3 : ∀ q, q ≠ D.ad f → H'[q]? = H[q]?) : ZH Γ w' ls la H' (locs ++ [⟨D.ad f, (zi i).toNatClampNeg⟩]) cells slots := by
  subst hw
  obtain ⟨r1, r2, ⟨cell, c1, c2, c3, c4⟩, r4, r5⟩ := zt_rep G h
  obtain ⟨hT, -, -, -⟩ := G.kn
  obtain ⟨-, -, b1, b2, b3, b4, b5⟩ := id h
  refine ⟨h.1, ?_, ?_, ?_, ?_, b4, b5⟩
  · rw [G.z]
    refine ⟨e2.trans r1, tok_A r2 hv, ⟨cell, by rw [e3 _ (hT.2.1 f hf h3).2.symm]; exact c1, c2, c3, c4⟩, fun g g1 g2 => ?_, fun q q1 q2 => ?_⟩
    · by_cases e : g = f
      · subst e
        rw [e1, arrV_store, zi_nat hz]
        congr 2
        funext j
        unfold updV tC
        rw [tA_sA]
        by_cases ej : j = i.toNat
        · have ej2 : (j : Int) = i := by omega
          simp only [if_pos ej, ej2, and_self, if_true]
        · have ej2 : ¬ (j : Int) = i := by omega
          simp only [if_neg ej, ej2, and_false, if_false]
      · rw [e3 _ (hT.2.2 g f g1 hf g2 h3 e), r4 g g1 g2]
        congr 2
        funext j
        unfold tC
        simp only [tA_sA, e, false_and, if_false]
    · rw [e3 q (q2 f hf h3), r5 q q1 q2]
  · rw [G.z]
    intro q hq
    rcases List.mem_append.mp hq with hq | hq
    · have := b1 q hq; rw [G.z] at this; exact this
    · rcases List.mem_singleton.mp hq with rfl
      exact (hT.2.1 f hf h3).1
  · rw [G.z] at b2 ⊢; exact b2
  · rw [G.z] at b3 ⊢; exact b3
theorem zt_iast {f : Nat} {i v : Int} (G : ZOk Γ cc RX1 nL (KnT D B0) (ZT D B0)) (hf : f < 130) (h3 : tk f = 3) (hz : zr i) (hv : zr v) (h0 : 0 ≤ i) (h1 : i < tl f) (hd : decode cc pc = .ok (.iastore, 1)) (kk : ∀ w', w' = sA w f i v → ZV Γ w' (pc + 1) ls st) : ZV Γ w pc ls (ai v :: ai i :: ar (D.ad f + 1) :: st) := by
  intro la H locs cells slots h
  obtain ⟨-, -, -, r4, -⟩ := zt_rep G h
  obtain ⟨-, -, -, hA⟩ := G.kn
  have h3' : 3 ≤ tk f := by rw [h3]; decide
  have hA' := hA f hf h3'
  unfold tty at hA'
  rw [h3, if_pos rfl] at hA'
  exact W.iast G.exec G.bytes (r4 f hf h3') (hA' _ _) (fun q => by cases q) (by rw [arrV_size]; exact zi_in hz h0 h1) rfl rfl hd (fun H' e1 e2 e3 => kk _ rfl la H' _ cells slots (zt_ast G hf h3' hz h0 h1 rfl (by rw [h3, if_neg (by decide)]; exact hv) h (by rw [h3, if_neg (by decide)]; exact e1) e2 e3))
theorem zt_last {f : Nat} {i v : Int} (G : ZOk Γ cc RX1 nL (KnT D B0) (ZT D B0)) (hf : f < 130) (h3 : tk f = 4) (hz : zr i) (hv : zrl v) (h0 : 0 ≤ i) (h1 : i < tl f) (hd : decode cc pc = .ok (.lastore, 1)) (kk : ∀ w', w' = sA w f i v → ZV Γ w' (pc + 1) ls st) : ZV Γ w pc ls (al v :: ai i :: ar (D.ad f + 1) :: st) := by
  intro la H locs cells slots h
  obtain ⟨-, -, -, r4, -⟩ := zt_rep G h
  obtain ⟨-, -, -, hA⟩ := G.kn
  have h3' : 3 ≤ tk f := by rw [h3]; decide
  have hA' := hA f hf h3'
  unfold tty at hA'
  rw [h3, if_neg (by decide), if_pos rfl] at hA'
  exact W.last G.exec G.bytes (r4 f hf h3') (hA' _ _) (fun q => by cases q) (by rw [arrV_size]; exact zi_in hz h0 h1) rfl rfl hd (fun H' e1 e2 e3 => kk _ rfl la H' _ cells slots (zt_ast G hf h3' hz h0 h1 rfl (by rw [if_pos h3]; exact hv) h (by rw [if_pos h3]; exact e1) e2 e3))
theorem zt_zast {f : Nat} {i v : Int} (G : ZOk Γ cc RX1 nL (KnT D B0) (ZT D B0)) (hf : f < 130) (h3 : tk f = 5) (hz : zr i) (h0 : 0 ≤ i) (h1 : i < tl f) (hd : decode cc pc = .ok (.bastore, 1)) (kk : ∀ w', w' = sA w f i (zb v) → ZV Γ w' (pc + 1) ls st) : ZV Γ w pc ls (ai v :: ai i :: ar (D.ad f + 1) :: st) := by
  intro la H locs cells slots h
  obtain ⟨-, -, -, r4, -⟩ := zt_rep G h
  obtain ⟨-, -, -, hA⟩ := G.kn
  have h3' : 3 ≤ tk f := by rw [h3]; decide
  have hA' := hA f hf h3'
  unfold tty at hA'
  rw [h3, if_neg (by decide), if_neg (by decide)] at hA'
  exact W.zast G.exec G.bytes (r4 f hf h3') (hA' _ _) (fun q => by cases q) (by rw [arrV_size]; exact zi_in hz h0 h1) rfl rfl hd (fun H' e1 e2 e3 => kk _ rfl la H' _ cells slots (zt_ast G hf h3' hz h0 h1 rfl (by rw [h3, if_neg (by decide)]; unfold zr zb; omega) h (by rw [h3, if_neg (by decide), ← zb_zi]; exact e1) e2 e3))
end ZTwin
