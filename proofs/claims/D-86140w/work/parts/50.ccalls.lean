/-! calls of the component's methods, by words of the tables -/
section ZCC
variable {Γ : ZG CW} {cc : ByteArray} {own : String} {nL : Nat} {D : CD} {w : CW} {pc : Nat} {ls : List (Nat × ZA)} {st as : List ZA} {y : MethodName} {cw : Cond} {bytes : ByteArray} {maxL index n r : Nat} {rt : Option FieldType} {hh : List (Nat × Nat × Nat × Nat)} {C : String} {p : Nat}
/-- what holds of every world: ranges, and the LetterPost's tag -/
theorem zc_wk (G : ZOk Γ cc own nL (KnC D) (ZC D)) (hp : D.K.1 = p) (k : sok w → (tg w p = 1 ∧ p ≠ 0 ∧ tg w 0 = 0) → ZV Γ w pc ls st) : ZV Γ w pc ls st := fun la H locs cells slots h => by
  have hR := zc_rep G h
  have h0 : D.K.1 ≠ 0 := G.kn.2.2.2.2.2.2.2.2.2.2.2.2.2.2
  have h1 : lp w = D.K.1 := congrArg (fun x => x.1) hR.2.2.2.2.2.2.2.2.2.1
  have h2 := hR.2.2.2.2.2.2.2.2.1 (by rw [h1]; exact h0)
  rw [h1, hp] at h2
  exact k hR.2.1 ⟨h2, by rw [← hp]; exact h0, hR.2.2.1⟩ la H locs cells slots h
theorem hFp {f : Nat} (t : tg w p = 1 ∧ p ≠ 0 ∧ tg w 0 = 0) (h : hF f 1 = true) : hF f (tg w p) = true := by rw [t.1]; exact h
theorem hPp {f : Nat} (t : tg w p = 1 ∧ p ≠ 0 ∧ tg w 0 = 0) (h : hP f 1 = true) : hP f (tg w p) = true := by rw [t.1]; exact h
theorem zne {t : Nat} (h0 : tg w p = 1 ∧ p ≠ 0 ∧ tg w 0 = 0) (h : tg w r = t) (h1 : 1 ≤ t) : r ≠ 0 := by
  intro e
  rw [e, h0.2.2] at h
  omega
theorem zc_hk (hc : cw ∈ lw_all) (hi : Cond.initialized y.cls ∈ lw_all) : ∀ (U : State) (a : Array Value), KnC D U → cw.before a U = true ∧ (Cond.initialized y.cls).before a U = true := fun U a h => ⟨h.2.1 _ hc a, h.2.1 _ hi a⟩
theorem zc_eV (G : ZOk Γ cc own nL (KnC D) (ZC D)) (hl : Cond.methodLink own index y ∈ lw_all) (hi : Cond.instanceMethod y ∈ lw_all) (hs : Cond.selects C y y ∈ lw_all) (hcw : ZCw cw y bytes maxL rt hh) (hc : cw ∈ lw_all) (hy : ZMd y n) (hr : ZRc Γ w r C) (hlen : as.length = n) (hd : decode cc pc = .ok (.invokevirtual index, 3)) : ZEn Γ w pc ls y 3 (ar r :: as) st :=
  zen_V G (G.kn.2.1 _ hl _) (G.kn.2.1 _ hi _) (G.kn.2.1 _ hs _) hcw (G.kn.2.1 _ hc _) hy hr hlen hd
theorem zc_nest {o h : String} {i : Nat} {x : MethodName} (G : ZOk Γ cc own nL (KnC D) (ZC D)) (hl : Cond.methodLinkNest o i x h ∈ lw_tbl) : (Cond.methodLinkNest o i x h).before Γ.args Γ.s = true := va_Nw.use rfl (G.kn.2.2.2.2.2.2.1 _ (List.mem_filter.mpr ⟨hl, rfl⟩))
theorem zc_eVN {host : String} (G : ZOk Γ cc own nL (KnC D) (ZC D)) (hl : Cond.methodLinkNest own index y host ∈ lw_tbl) (hi : Cond.instanceMethod y ∈ lw_all) (hs : Cond.selects C y y ∈ lw_all) (hcw : ZCw cw y bytes maxL rt hh) (hc : cw ∈ lw_all) (hy : ZMd y n) (hr : ZRc Γ w r C) (hlen : as.length = n) (hd : decode cc pc = .ok (.invokevirtual index, 3)) : ZEn Γ w pc ls y 3 (ar r :: as) st :=
  zen_VN G (zc_nest G hl) (G.kn.2.1 _ hi _) (G.kn.2.1 _ hs _) hcw (G.kn.2.1 _ hc _) hy hr hlen hd
theorem zc_eS (G : ZOk Γ cc own nL (KnC D) (ZC D)) (hl : Cond.methodLink own index y ∈ lw_all) (hs : Cond.static y ∈ lw_all) (hini : Cond.initialized y.cls ∈ lw_all) (hc : Cond.code y bytes maxL rt ∈ lw_all) (hy : ZMd y n) (hlen : as.length = n) (hd : decode cc pc = .ok (.invokestatic index, 3)) : ZEn Γ w pc ls y 3 as st :=
  zen_S G (G.kn.2.1 _ hl _) (G.kn.2.1 _ hs _) (G.kn.2.1 _ hini _) (Cond.code_named (G.kn.2.1 _ hc Γ.args)) (Or.inl ⟨rfl, rfl⟩) (G.kn.2.1 _ hc _) hy hlen hd
theorem zc_eSN {host : String} (G : ZOk Γ cc own nL (KnC D) (ZC D)) (hl : Cond.methodLinkNest own index y host ∈ lw_tbl) (hs : Cond.static y ∈ lw_all) (hini : Cond.initialized y.cls ∈ lw_all) (hc : Cond.code y bytes maxL rt ∈ lw_all) (hy : ZMd y n) (hlen : as.length = n) (hd : decode cc pc = .ok (.invokestatic index, 3)) : ZEn Γ w pc ls y 3 as st :=
  zen_SN G (zc_nest G hl) (G.kn.2.1 _ hs _) (G.kn.2.1 _ hini _) (Cond.code_named (G.kn.2.1 _ hc Γ.args)) (Or.inl ⟨rfl, rfl⟩) (G.kn.2.1 _ hc _) hy hlen hd
theorem zc_eI (G : ZOk Γ cc own nL (KnC D) (ZC D)) (hy1 : y.name = "<init>") (hl : Cond.methodLink own index y ∈ lw_all) (hi : Cond.instanceMethod y ∈ lw_all) (hc : Cond.code y bytes maxL none ∈ lw_all) (hy : ZMd y n) (hr : r ≠ 0) (hlen : as.length = n) (hd : decode cc pc = .ok (.invokespecial index, 3)) : ZEn Γ w pc ls y 3 (ar r :: as) st :=
  zen_I G hy1 (G.kn.2.1 _ hl _) (G.kn.2.1 _ hi _) (G.kn.2.1 _ hc _) hy hr hlen hd
theorem zc_eIN {host : String} (G : ZOk Γ cc own nL (KnC D) (ZC D)) (hy1 : y.name = "<init>") (hl : Cond.methodLinkNest own index y host ∈ lw_tbl) (hi : Cond.instanceMethod y ∈ lw_all) (hc : Cond.code y bytes maxL none ∈ lw_all) (hy : ZMd y n) (hr : r ≠ 0) (hlen : as.length = n) (hd : decode cc pc = .ok (.invokespecial index, 3)) : ZEn Γ w pc ls y 3 (ar r :: as) st :=
  zen_IN G hy1 (zc_nest G hl) (G.kn.2.1 _ hi _) (G.kn.2.1 _ hc _) hy hr hlen hd
theorem zc_declD (G : ZOk Γ cc own nL (KnC D) (ZC D)) {x : MethodName} (h : Cond.declares x ∈ lw_tbl) : va_Decl Γ.s x := by
  obtain ⟨r0, rm, hn, hrm, hstR, hsigR⟩ := Cond.declares_spec (va_Nw.use (A := Γ.args) rfl (G.kn.2.2.2.2.2.2.2.1 _ (List.mem_filter.mpr ⟨h, rfl⟩)))
  exact ⟨r0, rm, hn, hrm, hstR, hsigR⟩
theorem zc_declC (G : ZOk Γ cc own nL (KnC D) (ZC D)) {x : MethodName} {b : ByteArray} {m : Nat} {ret : Option FieldType} (hi : Cond.instanceMethod x ∈ lw_all) (hc : Cond.code x b m ret ∈ lw_all) : va_Decl Γ.s x := va_Decl.of (G.kn.2.1 _ hi Γ.args) (G.kn.2.1 _ hc _)
theorem zc_eU {owner : String} {x : MethodName} (G : ZOk Γ cc own nL (KnC D) (ZC D)) (hl : Cond.methodLink own index x ∈ lw_all) (hsame : Cond.sameMethod x.cls owner x.name x.desc ∈ lw_all) (hd0 : va_Decl Γ.s ⟨owner, x.name, x.desc⟩) (howner : owner ≠ "java/lang/invoke/MethodHandle" ∧ owner ≠ "java/lang/invoke/VarHandle") (hs : Cond.selects C x y ∈ lw_all) (hi : Cond.instanceMethod y ∈ lw_all) (hx : ZMd x n) (hr : ZRc Γ w r C) (hlen : as.length = n) (hd : decode cc pc = .ok (.invokevirtual index, 3)) : ZEn Γ w pc ls y 3 (ar r :: as) st :=
  zen_U G (G.kn.2.1 _ hl _) (G.kn.2.1 _ hsame _) hd0 howner (G.kn.2.1 _ hs _) (G.kn.2.1 _ hi _) hx hr hlen hd
theorem zc_eSU (G : ZOk Γ cc own nL (KnC D) (ZC D)) (hl : Cond.methodLink own index y ∈ lw_all) (hsame : Cond.sameMethod y.cls y.cls y.name y.desc ∈ lw_all) (hsup : Cond.superclass own y.cls ∈ lw_all) (hi : Cond.instanceMethod y ∈ lw_all) (hcw : ZCw cw y bytes maxL rt hh) (hc : cw ∈ lw_all) (hno : y.name ≠ "<init>") (hy : ZMd y n) (hr : ZRc Γ w r C) (hlen : as.length = n) (hd : decode cc pc = .ok (.invokespecial index, 3)) : ZEn Γ w pc ls y 3 (ar r :: as) st :=
  zen_SU G (G.kn.2.1 _ hl _) (G.kn.2.1 _ hsame _) (G.kn.2.1 _ hsup _) (G.kn.2.1 _ hi _) hcw (G.kn.2.1 _ hc _) hno hy hr hlen hd
theorem zc_eP {z x : MethodName} {C3 C2 : String} (G : ZOk Γ cc own nL (KnC D) (ZC D)) (hl : Cond.methodLink own index y ∈ lw_all) (hi : Cond.instanceMethod y ∈ lw_all) (hpriv : Cond.privateMethod y ∈ lw_tbl) (hz : Cond.selects C3 x z ∈ lw_all) (hzc : z.cls = y.cls) (hcw : ZCw cw y bytes maxL rt hh) (hc : cw ∈ lw_all) (hy : ZMd y n) (hr : ZRc Γ w r C2) (hlen : as.length = n) (hd : decode cc pc = .ok (.invokevirtual index, 3)) : ZEn Γ w pc ls y 3 (ar r :: as) st :=
  zen_P G (G.kn.2.1 _ hl _) (G.kn.2.1 _ hi _) hpriv (G.kn.2.1 _ hz _) hzc hcw (G.kn.2.1 _ hc _) hy hr hlen hd
/-- values a byte field takes -/
theorem zn_B {v : Int} (h : -128 ≤ v ∧ v ≤ 127) : narrow .byte (.int (zi v)) = .int (zi v) := by
  have h1 : zi v = zi v := rfl
  have z1 : zr v := by unfold zr; omega
  show Value.int (zi v).toInt8.toInt32 = _
  congr 1
  apply Int32.toInt_inj.mp
  rw [Int8.toInt_toInt32, Int32.toInt_toInt8, zi_toInt z1]
  rw [Int.bmod_eq_of_le (by omega) (by omega)]
theorem zf_B {v : Int} (h : -128 ≤ v ∧ v ≤ 127) : fits .byte (.int (zi v)) = true := by
  have z1 : zr v := by unfold zr; omega
  show (-128 ≤ zi v && zi v ≤ 127) = true
  rw [Bool.and_eq_true, decide_eq_true_eq, decide_eq_true_eq]
  constructor
  · exact (zi_le (a := -128) (by unfold zr; omega) z1).mpr h.1
  · exact (zi_le (b := 127) z1 (by unfold zr; omega)).mpr h.2
theorem zf_Z {v : Int} (h : v = 0 ∨ v = 1) : fits .boolean (.int (zi v)) = true := by rcases h with rfl | rfl <;> decide
/-- an int out of an array, a long out of an array (in range whatever the array is) -/
def aN (w : CW) (r : Nat) (i : Int) : Int := if tg w r = 103 then 0 else aI w r i
def aW (w : CW) (r : Nat) (i : Int) : Int := if tg w r = 103 then aI w r i else 0
theorem aN_r (h : sok w) (r : Nat) (i : Int) : zr (aN w r i) := by
  have h2 := h.2.1 r i
  unfold aN
  split
  · exact ⟨by decide, by decide⟩
  · rename_i e; rw [if_neg e] at h2; exact h2
theorem aW_r (h : sok w) (r : Nat) (i : Int) : zrl (aW w r i) := by
  have h2 := h.2.1 r i
  unfold aW
  split
  · rename_i e; rw [if_pos e] at h2; exact h2
  · exact ⟨by decide, by decide⟩
theorem zc_ialdN {i : Int} (G : ZOk Γ cc own nL (KnC D) (ZC D)) (ht : tg w r = 102) (hz : zr i) (h0 : 0 ≤ i) (h1 : i < ln w r) (hd : decode cc pc = .ok (.iaload, 1)) (kk : ZV Γ w (pc + 1) ls (ai (aN w r i) :: st)) : ZV Γ w pc ls (ai i :: ar r :: st) :=
  zc_iald G ht hz h0 h1 hd (by unfold aN at kk; rw [if_neg (by omega)] at kk; exact kk)
theorem zc_baldN {i : Int} (G : ZOk Γ cc own nL (KnC D) (ZC D)) (ht : tg w r = 101 ∨ tg w r = 104 ∨ tg w r = 106) (hz : zr i) (h0 : 0 ≤ i) (h1 : i < ln w r) (hd : decode cc pc = .ok (.baload, 1)) (kk : ZV Γ w (pc + 1) ls (ai (aN w r i) :: st)) : ZV Γ w pc ls (ai i :: ar r :: st) :=
  zc_bald G ht hz h0 h1 hd (by unfold aN at kk; rw [if_neg (by omega)] at kk; exact kk)
theorem zc_laldN {i : Int} (G : ZOk Γ cc own nL (KnC D) (ZC D)) (ht : tg w r = 103) (hz : zr i) (h0 : 0 ≤ i) (h1 : i < ln w r) (hd : decode cc pc = .ok (.laload, 1)) (kk : ZV Γ w (pc + 1) ls (al (aW w r i) :: st)) : ZV Γ w pc ls (ai i :: ar r :: st) :=
  zc_lald G ht hz h0 h1 hd (by unfold aW at kk; rw [if_pos ht] at kk; exact kk)
theorem zn_C {v : Int} (h : 0 ≤ v ∧ v ≤ 65535) : narrow .char (.int (zi v)) = .int (zi v) := by
  have z1 : zr v := by unfold zr; omega
  have e : zi v = zi ((v.toNat : Nat) : Int) := by rw [show ((v.toNat : Nat) : Int) = v by omega]
  have hv : v.toNat ≤ 65535 := by omega
  rw [e]
  generalize v.toNat = n at hv
  show Value.int (zi (n : Int)).toUInt32.toUInt16.toUInt32.toInt32 = _
  congr 1
  have e2 : (zi (n : Int)).toUInt32 = UInt32.ofNat n := by
    unfold zi
    rw [show Int32.ofInt (n : Int) = Int32.ofNat n from Int32.ofInt_eq_ofNat]
    rfl
  rw [e2]
  have e3 : (UInt32.ofNat n).toUInt16.toUInt32 = UInt32.ofNat n := by
    apply UInt32.toNat_inj.mp
    rw [UInt16.toNat_toUInt32, UInt32.toNat_toUInt16, UInt32.toNat_ofNat']
    omega
  rw [e3, ← e2]
  rfl
theorem zc_mmax {x y : Int} {d : Nat} {lim : Nat × Nat} {rt' : Option FieldType} {name : String} {hh' : List (Nat × Nat × Nat × Nat)} (G : ZOk Γ cc own nL (KnC D) (ZC D)) (M : ZRm Γ (d + 1) lim rt' name hh') (hl : Cond.methodLink own index Lib.Math.max.name ∈ lw_all) (hs : Cond.static Lib.Math.max.name ∈ lw_all) (hi : Cond.initialized "java/lang/Math" ∈ lw_all) (hc : Cond.code Lib.Math.max.name Lib.Math.max.code 2 (some .int) ∈ lw_all) (hx : zr x) (hy : zr y) (hst : (st.map zcat).sum ≤ 8) (hd : decode cc pc = .ok (.invokestatic index, 3)) (kk : ZV Γ w (pc + 3) ls (ai (if x < y then y else x) :: st)) : ZV Γ w pc ls (ai y :: ai x :: st) := by
  intro la H locs cells slots h
  have hcat : (((st.map zcv).map fun v => v.category).sum) ≤ 8 := by
    rw [List.map_map, show ((fun v : Value => v.category) ∘ zcv) = zcat from funext zcv_cat]
    exact hst
  have hz := zloc_ge (d + 1)
  refine va_mmax G.exec G.bytes (by rw [h.1.1]; exact G.maxL) G.ow (G.kn.2.1 _ hl _) (G.kn.2.1 _ hs _) (G.kn.2.1 _ hi _) (G.kn.2.1 _ hc _) (by rw [M.1]; omega) (by rw [M.2.2.2.1]; omega) h.2.2.2.2.2.1 h.2.2.2.2.2.2 (x := zi x) (y := zi y) hd ?_
  have k := kk la H locs cells slots h
  have e : zcv (ai (if x < y then y else x)) = .int (if zi x < zi y then zi y else zi x) := by
    by_cases c : x < y
    · rw [if_pos c, if_pos ((zi_lt hx hy).mpr c)]; rfl
    · rw [if_neg c, if_neg (fun q => c ((zi_lt hx hy).mp q))]; rfl
  rw [List.map_cons, e] at k
  exact k
theorem zc_mmin {x y : Int} {d : Nat} {lim : Nat × Nat} {rt' : Option FieldType} {name : String} {hh' : List (Nat × Nat × Nat × Nat)} (G : ZOk Γ cc own nL (KnC D) (ZC D)) (M : ZRm Γ (d + 1) lim rt' name hh') (hl : Cond.methodLink own index Lib.Math.min.name ∈ lw_all) (hs : Cond.static Lib.Math.min.name ∈ lw_all) (hi : Cond.initialized "java/lang/Math" ∈ lw_all) (hc : Cond.code Lib.Math.min.name Lib.Math.min.code 2 (some .int) ∈ lw_all) (hx : zr x) (hy : zr y) (hst : (st.map zcat).sum ≤ 8) (hd : decode cc pc = .ok (.invokestatic index, 3)) (kk : ZV Γ w (pc + 3) ls (ai (if y < x then y else x) :: st)) : ZV Γ w pc ls (ai y :: ai x :: st) := by
  intro la H locs cells slots h
  have hcat : (((st.map zcv).map fun v => v.category).sum) ≤ 8 := by
    rw [List.map_map, show ((fun v : Value => v.category) ∘ zcv) = zcat from funext zcv_cat]
    exact hst
  have hz := zloc_ge (d + 1)
  refine va_mmin G.exec G.bytes (by rw [h.1.1]; exact G.maxL) G.ow (G.kn.2.1 _ hl _) (G.kn.2.1 _ hs _) (G.kn.2.1 _ hi _) (G.kn.2.1 _ hc _) (by rw [M.1]; omega) (by rw [M.2.2.2.1]; omega) h.2.2.2.2.2.1 h.2.2.2.2.2.2 (x := zi x) (y := zi y) hd ?_
  have k := kk la H locs cells slots h
  have e : zcv (ai (if y < x then y else x)) = .int (if zi y < zi x then zi y else zi x) := by
    by_cases c : y < x
    · rw [if_pos c, if_pos ((zi_lt hy hx).mpr c)]; rfl
    · rw [if_neg c, if_neg (fun q => c ((zi_lt hy hx).mp q))]; rfl
  rw [List.map_cons, e] at k
  exact k
theorem zv_bif_eq {c : Prop} [Decidable c] {off : Int} {tgt : Nat} (G : ZOk Γ cc own nL (KnC D) (ZC D)) (ht : (pc : Int) + off = (tgt : Int)) (hd : decode cc pc = .ok (.ifCond .eq off, 3)) (kt : ¬ c → ZV Γ w tgt ls st) (kf : c → ZV Γ w (pc + 3) ls st) : ZV Γ w pc ls (ai (if c then 1 else 0) :: st) :=
  zv_if_eq G (zr_ite (zr_k 1 (by decide) (by decide)) (zr_k 0 (by decide) (by decide))) ht hd (fun q => kt (fun z => by rw [if_pos z] at q; cases q)) (fun q => kf (by
    by_cases z : c
    · exact z
    · rw [if_neg z] at q; exact absurd rfl q))
theorem zv_bif_ne {c : Prop} [Decidable c] {off : Int} {tgt : Nat} (G : ZOk Γ cc own nL (KnC D) (ZC D)) (ht : (pc : Int) + off = (tgt : Int)) (hd : decode cc pc = .ok (.ifCond .ne off, 3)) (kt : c → ZV Γ w tgt ls st) (kf : ¬ c → ZV Γ w (pc + 3) ls st) : ZV Γ w pc ls (ai (if c then 1 else 0) :: st) :=
  zv_if_ne G (zr_ite (zr_k 1 (by decide) (by decide)) (zr_k 0 (by decide) (by decide))) ht hd (fun q => kt (by
    by_cases z : c
    · exact z
    · rw [if_neg z] at q; exact absurd rfl q)) (fun q => kf (fun z => by rw [if_pos z] at q; cases q))
end ZCC
