/-! rows of the plain instructions, printed by tools/gen_rows.py -/
section ZRows
theorem zv_iconst {ω : Type} {Γ : ZG ω} {cc : ByteArray} {own : String} {nL : Nat} {Kn : State → Prop} {Z : ZWi ω} (G : ZOk Γ cc own nL Kn Z) {w : ω} {pc : Nat} {ls : List (Nat × ZA)} {st : List ZA} {n : Int} {a : Int} (hv : Int32.ofInt n = zi a) (hd : decode cc pc = .ok (.iconst n, 1)) (k : ZV Γ w (pc + 1) ls (ai a :: st)) : ZV Γ w pc ls (st) := fun la H locs cells slots h => lv_iconst G.exec G.bytes hd hv (k la H locs cells slots h)
theorem zv_bipush {ω : Type} {Γ : ZG ω} {cc : ByteArray} {own : String} {nL : Nat} {Kn : State → Prop} {Z : ZWi ω} (G : ZOk Γ cc own nL Kn Z) {w : ω} {pc : Nat} {ls : List (Nat × ZA)} {st : List ZA} {n : Int} {a : Int} (hv : (Int8.ofInt n).toInt32 = zi a) (hd : decode cc pc = .ok (.bipush n, 2)) (k : ZV Γ w (pc + 2) ls (ai a :: st)) : ZV Γ w pc ls (st) := fun la H locs cells slots h => lv_bipush G.exec G.bytes hd hv (k la H locs cells slots h)
theorem zv_sipush {ω : Type} {Γ : ZG ω} {cc : ByteArray} {own : String} {nL : Nat} {Kn : State → Prop} {Z : ZWi ω} (G : ZOk Γ cc own nL Kn Z) {w : ω} {pc : Nat} {ls : List (Nat × ZA)} {st : List ZA} {n : Int} {a : Int} (hv : (Int16.ofInt n).toInt32 = zi a) (hd : decode cc pc = .ok (.sipush n, 3)) (k : ZV Γ w (pc + 3) ls (ai a :: st)) : ZV Γ w pc ls (st) := fun la H locs cells slots h => lv_sipush G.exec G.bytes hd hv (k la H locs cells slots h)
theorem zv_lconst {ω : Type} {Γ : ZG ω} {cc : ByteArray} {own : String} {nL : Nat} {Kn : State → Prop} {Z : ZWi ω} (G : ZOk Γ cc own nL Kn Z) {w : ω} {pc : Nat} {ls : List (Nat × ZA)} {st : List ZA} {n : Fin 2} {a : Int} (hv : Int64.ofNat (n : Nat) = zj a) (hd : decode cc pc = .ok (.lconst n, 1)) (k : ZV Γ w (pc + 1) ls (al a :: st)) : ZV Γ w pc ls (st) := fun la H locs cells slots h => lv_lconst G.exec G.bytes hd hv (k la H locs cells slots h)
theorem zv_null {ω : Type} {Γ : ZG ω} {cc : ByteArray} {own : String} {nL : Nat} {Kn : State → Prop} {Z : ZWi ω} (G : ZOk Γ cc own nL Kn Z) {w : ω} {pc : Nat} {ls : List (Nat × ZA)} {st : List ZA}  (hd : decode cc pc = .ok (.aconst_null, 1)) (k : ZV Γ w (pc + 1) ls (ar 0 :: st)) : ZV Γ w pc ls (st) := fun la H locs cells slots h => lv_null G.exec G.bytes hd (k la H locs cells slots h)
theorem zv_ldc {ω : Type} {Γ : ZG ω} {cc : ByteArray} {own : String} {nL : Nat} {Kn : State → Prop} {Z : ZWi ω} (G : ZOk Γ cc own nL Kn Z) {w : ω} {pc : Nat} {ls : List (Nat × ZA)} {st : List ZA} {index : Nat} {v : Int32} {a : Int} (hq : (Jvm.Cond.constant own index v).before Γ.args Γ.s = true) (hv : v = zi a) (hd : decode cc pc = .ok (.ldc index, 2)) (k : ZV Γ w (pc + 2) ls (ai a :: st)) : ZV Γ w pc ls (st) := fun la H locs cells slots h => lv_ldc G.exec G.bytes G.ow hq hd (hv ▸ (k la H locs cells slots h))
theorem zv_ldcw {ω : Type} {Γ : ZG ω} {cc : ByteArray} {own : String} {nL : Nat} {Kn : State → Prop} {Z : ZWi ω} (G : ZOk Γ cc own nL Kn Z) {w : ω} {pc : Nat} {ls : List (Nat × ZA)} {st : List ZA} {index : Nat} {v : Int32} {a : Int} (hq : (Jvm.Cond.constant own index v).before Γ.args Γ.s = true) (hv : v = zi a) (hd : decode cc pc = .ok (.ldc_w index, 3)) (k : ZV Γ w (pc + 3) ls (ai a :: st)) : ZV Γ w pc ls (st) := fun la H locs cells slots h => lv_ldcw G.exec G.bytes G.ow hq hd (hv ▸ (k la H locs cells slots h))
theorem zv_ldc2 {ω : Type} {Γ : ZG ω} {cc : ByteArray} {own : String} {nL : Nat} {Kn : State → Prop} {Z : ZWi ω} (G : ZOk Γ cc own nL Kn Z) {w : ω} {pc : Nat} {ls : List (Nat × ZA)} {st : List ZA} {index : Nat} {v : Int64} {a : Int} (hq : (Jvm.Cond.constantLong own index v).before Γ.args Γ.s = true) (hv : v = zj a) (hd : decode cc pc = .ok (.ldc2_w index, 3)) (k : ZV Γ w (pc + 3) ls (al a :: st)) : ZV Γ w pc ls (st) := fun la H locs cells slots h => lv_ldc2 G.exec G.bytes G.ow hq hd (hv ▸ (k la H locs cells slots h))
theorem zv_iload_n {ω : Type} {Γ : ZG ω} {cc : ByteArray} {own : String} {nL : Nat} {Kn : State → Prop} {Z : ZWi ω} (G : ZOk Γ cc own nL Kn Z) {w : ω} {pc : Nat} {ls : List (Nat × ZA)} {st : List ZA} {k : Fin 4} {i : Nat} {x : Int} (hi : (k : Nat) = i) (hl : zlk ls i = some (ai x)) (hd : decode cc pc = .ok (.iload_n k, 1)) (k : ZV Γ w (pc + 1) ls (ai x :: st)) : ZV Γ w pc ls (st) := fun la H locs cells slots h => lv_iload_n G.exec G.bytes hd hi (zlk_at h.1 hl) (k la H locs cells slots h)
theorem zv_iload {ω : Type} {Γ : ZG ω} {cc : ByteArray} {own : String} {nL : Nat} {Kn : State → Prop} {Z : ZWi ω} (G : ZOk Γ cc own nL Kn Z) {w : ω} {pc : Nat} {ls : List (Nat × ZA)} {st : List ZA} {i : Nat} {x : Int} (hl : zlk ls i = some (ai x)) (hd : decode cc pc = .ok (.iload i, 2)) (k : ZV Γ w (pc + 2) ls (ai x :: st)) : ZV Γ w pc ls (st) := fun la H locs cells slots h => lv_iload G.exec G.bytes hd (zlk_at h.1 hl) (k la H locs cells slots h)
theorem zv_lload_n {ω : Type} {Γ : ZG ω} {cc : ByteArray} {own : String} {nL : Nat} {Kn : State → Prop} {Z : ZWi ω} (G : ZOk Γ cc own nL Kn Z) {w : ω} {pc : Nat} {ls : List (Nat × ZA)} {st : List ZA} {k : Fin 4} {i : Nat} {x : Int} (hi : (k : Nat) = i) (hl : zlk ls i = some (al x)) (hd : decode cc pc = .ok (.lload_n k, 1)) (k : ZV Γ w (pc + 1) ls (al x :: st)) : ZV Γ w pc ls (st) := fun la H locs cells slots h => lv_lload_n G.exec G.bytes hd hi (zlk_at h.1 hl) (k la H locs cells slots h)
theorem zv_lload {ω : Type} {Γ : ZG ω} {cc : ByteArray} {own : String} {nL : Nat} {Kn : State → Prop} {Z : ZWi ω} (G : ZOk Γ cc own nL Kn Z) {w : ω} {pc : Nat} {ls : List (Nat × ZA)} {st : List ZA} {i : Nat} {x : Int} (hl : zlk ls i = some (al x)) (hd : decode cc pc = .ok (.lload i, 2)) (k : ZV Γ w (pc + 2) ls (al x :: st)) : ZV Γ w pc ls (st) := fun la H locs cells slots h => lv_lload G.exec G.bytes hd (zlk_at h.1 hl) (k la H locs cells slots h)
theorem zv_iadd {ω : Type} {Γ : ZG ω} {cc : ByteArray} {own : String} {nL : Nat} {Kn : State → Prop} {Z : ZWi ω} (G : ZOk Γ cc own nL Kn Z) {w : ω} {pc : Nat} {ls : List (Nat × ZA)} {st : List ZA} {x y : Int} (hd : decode cc pc = .ok (.iadd, 1)) (k : ZV Γ w (pc + 1) ls (ai (w32 (x + y)) :: st)) : ZV Γ w pc ls (ai y :: ai x :: st) := by
  intro la H locs cells slots h
  have k' := k la H locs cells slots h
  simp only [List.map_cons, zcv] at k' ⊢
  rw [← zi_add] at k'
  exact lv_iadd G.exec G.bytes hd k'
theorem zv_isub {ω : Type} {Γ : ZG ω} {cc : ByteArray} {own : String} {nL : Nat} {Kn : State → Prop} {Z : ZWi ω} (G : ZOk Γ cc own nL Kn Z) {w : ω} {pc : Nat} {ls : List (Nat × ZA)} {st : List ZA} {x y : Int} (hd : decode cc pc = .ok (.isub, 1)) (k : ZV Γ w (pc + 1) ls (ai (w32 (x - y)) :: st)) : ZV Γ w pc ls (ai y :: ai x :: st) := by
  intro la H locs cells slots h
  have k' := k la H locs cells slots h
  simp only [List.map_cons, zcv] at k' ⊢
  rw [← zi_sub] at k'
  exact lv_isub G.exec G.bytes hd k'
theorem zv_imul {ω : Type} {Γ : ZG ω} {cc : ByteArray} {own : String} {nL : Nat} {Kn : State → Prop} {Z : ZWi ω} (G : ZOk Γ cc own nL Kn Z) {w : ω} {pc : Nat} {ls : List (Nat × ZA)} {st : List ZA} {x y : Int} (hd : decode cc pc = .ok (.imul, 1)) (k : ZV Γ w (pc + 1) ls (ai (w32 (x * y)) :: st)) : ZV Γ w pc ls (ai y :: ai x :: st) := by
  intro la H locs cells slots h
  have k' := k la H locs cells slots h
  simp only [List.map_cons, zcv] at k' ⊢
  rw [← zi_mul] at k'
  exact lv_imul G.exec G.bytes hd k'
theorem zv_iand {ω : Type} {Γ : ZG ω} {cc : ByteArray} {own : String} {nL : Nat} {Kn : State → Prop} {Z : ZWi ω} (G : ZOk Γ cc own nL Kn Z) {w : ω} {pc : Nat} {ls : List (Nat × ZA)} {st : List ZA} {x y : Int} (hd : decode cc pc = .ok (.iand, 1)) (k : ZV Γ w (pc + 1) ls (ai (i_and x y) :: st)) : ZV Γ w pc ls (ai y :: ai x :: st) := by
  intro la H locs cells slots h
  have k' := k la H locs cells slots h
  simp only [List.map_cons, zcv] at k' ⊢
  rw [i_and_def] at k'; rw [zi_of] at k'
  exact lv_iand G.exec G.bytes hd k'
theorem zv_ior {ω : Type} {Γ : ZG ω} {cc : ByteArray} {own : String} {nL : Nat} {Kn : State → Prop} {Z : ZWi ω} (G : ZOk Γ cc own nL Kn Z) {w : ω} {pc : Nat} {ls : List (Nat × ZA)} {st : List ZA} {x y : Int} (hd : decode cc pc = .ok (.ior, 1)) (k : ZV Γ w (pc + 1) ls (ai (i_or x y) :: st)) : ZV Γ w pc ls (ai y :: ai x :: st) := by
  intro la H locs cells slots h
  have k' := k la H locs cells slots h
  simp only [List.map_cons, zcv] at k' ⊢
  rw [i_or_def] at k'; rw [zi_of] at k'
  exact lv_ior G.exec G.bytes hd k'
theorem zv_ixor {ω : Type} {Γ : ZG ω} {cc : ByteArray} {own : String} {nL : Nat} {Kn : State → Prop} {Z : ZWi ω} (G : ZOk Γ cc own nL Kn Z) {w : ω} {pc : Nat} {ls : List (Nat × ZA)} {st : List ZA} {x y : Int} (hd : decode cc pc = .ok (.ixor, 1)) (k : ZV Γ w (pc + 1) ls (ai (i_xor x y) :: st)) : ZV Γ w pc ls (ai y :: ai x :: st) := by
  intro la H locs cells slots h
  have k' := k la H locs cells slots h
  simp only [List.map_cons, zcv] at k' ⊢
  rw [i_xor_def] at k'; rw [zi_of] at k'
  exact lv_ixor G.exec G.bytes hd k'
theorem zv_ishl {ω : Type} {Γ : ZG ω} {cc : ByteArray} {own : String} {nL : Nat} {Kn : State → Prop} {Z : ZWi ω} (G : ZOk Γ cc own nL Kn Z) {w : ω} {pc : Nat} {ls : List (Nat × ZA)} {st : List ZA} {x y : Int} (hd : decode cc pc = .ok (.ishl, 1)) (k : ZV Γ w (pc + 1) ls (ai (i_shl x y) :: st)) : ZV Γ w pc ls (ai y :: ai x :: st) := by
  intro la H locs cells slots h
  have k' := k la H locs cells slots h
  simp only [List.map_cons, zcv] at k' ⊢
  rw [i_shl_def] at k'; rw [zi_of] at k'
  exact lv_ishl G.exec G.bytes hd k'
theorem zv_ishr {ω : Type} {Γ : ZG ω} {cc : ByteArray} {own : String} {nL : Nat} {Kn : State → Prop} {Z : ZWi ω} (G : ZOk Γ cc own nL Kn Z) {w : ω} {pc : Nat} {ls : List (Nat × ZA)} {st : List ZA} {x y : Int} (hd : decode cc pc = .ok (.ishr, 1)) (k : ZV Γ w (pc + 1) ls (ai (i_shr x y) :: st)) : ZV Γ w pc ls (ai y :: ai x :: st) := by
  intro la H locs cells slots h
  have k' := k la H locs cells slots h
  simp only [List.map_cons, zcv] at k' ⊢
  rw [i_shr_def] at k'; rw [zi_of] at k'
  exact lv_ishr G.exec G.bytes hd k'
theorem zv_iushr {ω : Type} {Γ : ZG ω} {cc : ByteArray} {own : String} {nL : Nat} {Kn : State → Prop} {Z : ZWi ω} (G : ZOk Γ cc own nL Kn Z) {w : ω} {pc : Nat} {ls : List (Nat × ZA)} {st : List ZA} {x y : Int} (hd : decode cc pc = .ok (.iushr, 1)) (k : ZV Γ w (pc + 1) ls (ai (i_ushr x y) :: st)) : ZV Γ w pc ls (ai y :: ai x :: st) := by
  intro la H locs cells slots h
  have k' := k la H locs cells slots h
  simp only [List.map_cons, zcv] at k' ⊢
  rw [i_ushr_def] at k'; rw [zi_of] at k'
  exact lv_iushr G.exec G.bytes hd rfl k'
theorem zv_ineg {ω : Type} {Γ : ZG ω} {cc : ByteArray} {own : String} {nL : Nat} {Kn : State → Prop} {Z : ZWi ω} (G : ZOk Γ cc own nL Kn Z) {w : ω} {pc : Nat} {ls : List (Nat × ZA)} {st : List ZA} {x : Int} (hd : decode cc pc = .ok (.ineg, 1)) (k : ZV Γ w (pc + 1) ls (ai (w32 (-x)) :: st)) : ZV Γ w pc ls (ai x :: st) := by
  intro la H locs cells slots h
  have k' := k la H locs cells slots h
  simp only [List.map_cons, zcv] at k' ⊢
  rw [← zi_neg] at k'
  exact lv_ineg G.exec G.bytes hd k'
theorem zv_idiv {ω : Type} {Γ : ZG ω} {cc : ByteArray} {own : String} {nL : Nat} {Kn : State → Prop} {Z : ZWi ω} (G : ZOk Γ cc own nL Kn Z) {w : ω} {pc : Nat} {ls : List (Nat × ZA)} {st : List ZA} {x y : Int} (hy : zr y) (hne : ¬ y = 0) (hd : decode cc pc = .ok (.idiv, 1)) (k : ZV Γ w (pc + 1) ls (ai (i_div x y) :: st)) : ZV Γ w pc ls (ai y :: ai x :: st) := by
  intro la H locs cells slots h
  have k' := k la H locs cells slots h
  simp only [List.map_cons, zcv] at k' ⊢
  rw [i_div_def] at k'; rw [zi_of] at k'
  exact lv_idiv G.exec G.bytes hd (fun q => hne ((zi_eq hy (show zr 0 by unfold zr; omega)).mp q)) k'
theorem zv_irem {ω : Type} {Γ : ZG ω} {cc : ByteArray} {own : String} {nL : Nat} {Kn : State → Prop} {Z : ZWi ω} (G : ZOk Γ cc own nL Kn Z) {w : ω} {pc : Nat} {ls : List (Nat × ZA)} {st : List ZA} {x y : Int} (hy : zr y) (hne : ¬ y = 0) (hd : decode cc pc = .ok (.irem, 1)) (k : ZV Γ w (pc + 1) ls (ai (i_rem x y) :: st)) : ZV Γ w pc ls (ai y :: ai x :: st) := by
  intro la H locs cells slots h
  have k' := k la H locs cells slots h
  simp only [List.map_cons, zcv] at k' ⊢
  rw [i_rem_def] at k'; rw [zi_of] at k'
  exact lv_irem G.exec G.bytes hd (fun q => hne ((zi_eq hy (show zr 0 by unfold zr; omega)).mp q)) k'
theorem zv_ladd {ω : Type} {Γ : ZG ω} {cc : ByteArray} {own : String} {nL : Nat} {Kn : State → Prop} {Z : ZWi ω} (G : ZOk Γ cc own nL Kn Z) {w : ω} {pc : Nat} {ls : List (Nat × ZA)} {st : List ZA} {x y : Int} (hd : decode cc pc = .ok (.ladd, 1)) (k : ZV Γ w (pc + 1) ls (al (w64 (x + y)) :: st)) : ZV Γ w pc ls (al y :: al x :: st) := by
  intro la H locs cells slots h
  have k' := k la H locs cells slots h
  simp only [List.map_cons, zcv] at k' ⊢
  rw [← zj_add] at k'
  exact lv_ladd G.exec G.bytes hd k'
theorem zv_lsub {ω : Type} {Γ : ZG ω} {cc : ByteArray} {own : String} {nL : Nat} {Kn : State → Prop} {Z : ZWi ω} (G : ZOk Γ cc own nL Kn Z) {w : ω} {pc : Nat} {ls : List (Nat × ZA)} {st : List ZA} {x y : Int} (hd : decode cc pc = .ok (.lsub, 1)) (k : ZV Γ w (pc + 1) ls (al (w64 (x - y)) :: st)) : ZV Γ w pc ls (al y :: al x :: st) := by
  intro la H locs cells slots h
  have k' := k la H locs cells slots h
  simp only [List.map_cons, zcv] at k' ⊢
  rw [← zj_sub] at k'
  exact lv_lsub G.exec G.bytes hd k'
theorem zv_lmul {ω : Type} {Γ : ZG ω} {cc : ByteArray} {own : String} {nL : Nat} {Kn : State → Prop} {Z : ZWi ω} (G : ZOk Γ cc own nL Kn Z) {w : ω} {pc : Nat} {ls : List (Nat × ZA)} {st : List ZA} {x y : Int} (hd : decode cc pc = .ok (.lmul, 1)) (k : ZV Γ w (pc + 1) ls (al (w64 (x * y)) :: st)) : ZV Γ w pc ls (al y :: al x :: st) := by
  intro la H locs cells slots h
  have k' := k la H locs cells slots h
  simp only [List.map_cons, zcv] at k' ⊢
  rw [← zj_mul] at k'
  exact lv_lmul G.exec G.bytes hd k'
theorem zv_land {ω : Type} {Γ : ZG ω} {cc : ByteArray} {own : String} {nL : Nat} {Kn : State → Prop} {Z : ZWi ω} (G : ZOk Γ cc own nL Kn Z) {w : ω} {pc : Nat} {ls : List (Nat × ZA)} {st : List ZA} {x y : Int} (hd : decode cc pc = .ok (.land, 1)) (k : ZV Γ w (pc + 1) ls (al (l_and x y) :: st)) : ZV Γ w pc ls (al y :: al x :: st) := by
  intro la H locs cells slots h
  have k' := k la H locs cells slots h
  simp only [List.map_cons, zcv] at k' ⊢
  rw [l_and_def] at k'; rw [zj_of] at k'
  exact lv_land G.exec G.bytes hd k'
theorem zv_lor {ω : Type} {Γ : ZG ω} {cc : ByteArray} {own : String} {nL : Nat} {Kn : State → Prop} {Z : ZWi ω} (G : ZOk Γ cc own nL Kn Z) {w : ω} {pc : Nat} {ls : List (Nat × ZA)} {st : List ZA} {x y : Int} (hd : decode cc pc = .ok (.lor, 1)) (k : ZV Γ w (pc + 1) ls (al (l_or x y) :: st)) : ZV Γ w pc ls (al y :: al x :: st) := by
  intro la H locs cells slots h
  have k' := k la H locs cells slots h
  simp only [List.map_cons, zcv] at k' ⊢
  rw [l_or_def] at k'; rw [zj_of] at k'
  exact lv_lor G.exec G.bytes hd k'
theorem zv_lshl {ω : Type} {Γ : ZG ω} {cc : ByteArray} {own : String} {nL : Nat} {Kn : State → Prop} {Z : ZWi ω} (G : ZOk Γ cc own nL Kn Z) {w : ω} {pc : Nat} {ls : List (Nat × ZA)} {st : List ZA} {x y : Int} (hd : decode cc pc = .ok (.lshl, 1)) (k : ZV Γ w (pc + 1) ls (al (l_shl x y) :: st)) : ZV Γ w pc ls (ai y :: al x :: st) := by
  intro la H locs cells slots h
  have k' := k la H locs cells slots h
  simp only [List.map_cons, zcv] at k' ⊢
  rw [l_shl_def] at k'; rw [zj_of] at k'
  exact lv_lshl G.exec G.bytes hd rfl k'
theorem zv_lshr {ω : Type} {Γ : ZG ω} {cc : ByteArray} {own : String} {nL : Nat} {Kn : State → Prop} {Z : ZWi ω} (G : ZOk Γ cc own nL Kn Z) {w : ω} {pc : Nat} {ls : List (Nat × ZA)} {st : List ZA} {x y : Int} (hd : decode cc pc = .ok (.lshr, 1)) (k : ZV Γ w (pc + 1) ls (al (l_shr x y) :: st)) : ZV Γ w pc ls (ai y :: al x :: st) := by
  intro la H locs cells slots h
  have k' := k la H locs cells slots h
  simp only [List.map_cons, zcv] at k' ⊢
  rw [l_shr_def] at k'; rw [zj_of] at k'
  exact lv_lshr G.exec G.bytes hd rfl k'
theorem zv_lushr {ω : Type} {Γ : ZG ω} {cc : ByteArray} {own : String} {nL : Nat} {Kn : State → Prop} {Z : ZWi ω} (G : ZOk Γ cc own nL Kn Z) {w : ω} {pc : Nat} {ls : List (Nat × ZA)} {st : List ZA} {x y : Int} (hd : decode cc pc = .ok (.lushr, 1)) (k : ZV Γ w (pc + 1) ls (al (l_ushr x y) :: st)) : ZV Γ w pc ls (ai y :: al x :: st) := by
  intro la H locs cells slots h
  have k' := k la H locs cells slots h
  simp only [List.map_cons, zcv] at k' ⊢
  rw [l_ushr_def] at k'; rw [zj_of] at k'
  exact lv_lushr G.exec G.bytes hd rfl k'
theorem zv_lcmp {ω : Type} {Γ : ZG ω} {cc : ByteArray} {own : String} {nL : Nat} {Kn : State → Prop} {Z : ZWi ω} (G : ZOk Γ cc own nL Kn Z) {w : ω} {pc : Nat} {ls : List (Nat × ZA)} {st : List ZA} {x y : Int} (hx : zrl x) (hy : zrl y) (hd : decode cc pc = .ok (.lcmp, 1)) (k : ZV Γ w (pc + 1) ls (ai (l_cmp x y) :: st)) : ZV Γ w pc ls (al y :: al x :: st) := by
  intro la H locs cells slots h
  have k' := k la H locs cells slots h
  simp only [List.map_cons, zcv] at k' ⊢
  rw [← l_cmp_zi hx hy] at k'
  exact W.lcmp G.exec G.bytes hd k'
theorem zv_i2l {ω : Type} {Γ : ZG ω} {cc : ByteArray} {own : String} {nL : Nat} {Kn : State → Prop} {Z : ZWi ω} (G : ZOk Γ cc own nL Kn Z) {w : ω} {pc : Nat} {ls : List (Nat × ZA)} {st : List ZA} {x : Int} (hx : zr x) (hd : decode cc pc = .ok (.i2l, 1)) (k : ZV Γ w (pc + 1) ls (al x :: st)) : ZV Γ w pc ls (ai x :: st) := by
  intro la H locs cells slots h
  have k' := k la H locs cells slots h
  simp only [List.map_cons, zcv] at k' ⊢
  exact lv_i2l G.exec G.bytes hd (Int64.toInt_inj.mp (by rw [Int32.toInt_toInt64, zi_toInt hx, zj_toInt (by unfold zr at hx; unfold zrl; omega)])) k'
theorem zv_l2i {ω : Type} {Γ : ZG ω} {cc : ByteArray} {own : String} {nL : Nat} {Kn : State → Prop} {Z : ZWi ω} (G : ZOk Γ cc own nL Kn Z) {w : ω} {pc : Nat} {ls : List (Nat × ZA)} {st : List ZA} {x : Int} (hd : decode cc pc = .ok (.l2i, 1)) (k : ZV Γ w (pc + 1) ls (ai (w32 x) :: st)) : ZV Γ w pc ls (al x :: st) := by
  intro la H locs cells slots h
  have k' := k la H locs cells slots h
  simp only [List.map_cons, zcv] at k' ⊢
  exact lv_l2i G.exec G.bytes hd (by rw [zi_w]; exact Int64.toInt32_ofInt) k'
theorem zv_i2b {ω : Type} {Γ : ZG ω} {cc : ByteArray} {own : String} {nL : Nat} {Kn : State → Prop} {Z : ZWi ω} (G : ZOk Γ cc own nL Kn Z) {w : ω} {pc : Nat} {ls : List (Nat × ZA)} {st : List ZA} {x : Int} (hd : decode cc pc = .ok (.i2b, 1)) (k : ZV Γ w (pc + 1) ls (ai (i_b x) :: st)) : ZV Γ w pc ls (ai x :: st) := by
  intro la H locs cells slots h
  have k' := k la H locs cells slots h
  simp only [List.map_cons, zcv] at k' ⊢
  rw [i_b_def] at k'; rw [zi_of] at k'
  exact lv_i2b G.exec G.bytes hd rfl k'
theorem zv_i2c {ω : Type} {Γ : ZG ω} {cc : ByteArray} {own : String} {nL : Nat} {Kn : State → Prop} {Z : ZWi ω} (G : ZOk Γ cc own nL Kn Z) {w : ω} {pc : Nat} {ls : List (Nat × ZA)} {st : List ZA} {x : Int} (hd : decode cc pc = .ok (.i2c, 1)) (k : ZV Γ w (pc + 1) ls (ai (i_c x) :: st)) : ZV Γ w pc ls (ai x :: st) := by
  intro la H locs cells slots h
  have k' := k la H locs cells slots h
  simp only [List.map_cons, zcv] at k' ⊢
  rw [i_c_def] at k'; rw [zi_of] at k'
  exact lv_i2c G.exec G.bytes hd rfl k'
theorem zv_dup {ω : Type} {Γ : ZG ω} {cc : ByteArray} {own : String} {nL : Nat} {Kn : State → Prop} {Z : ZWi ω} (G : ZOk Γ cc own nL Kn Z) {w : ω} {pc : Nat} {ls : List (Nat × ZA)} {st : List ZA} {a : ZA} (ha : zcat a = 1) (hd : decode cc pc = .ok (.dup, 1)) (k : ZV Γ w (pc + 1) ls (a :: a :: st)) : ZV Γ w pc ls (a :: st) := fun la H locs cells slots h => lv_dup G.exec G.bytes hd ((zcv_cat _).trans ha) (k la H locs cells slots h)
theorem zv_pop {ω : Type} {Γ : ZG ω} {cc : ByteArray} {own : String} {nL : Nat} {Kn : State → Prop} {Z : ZWi ω} (G : ZOk Γ cc own nL Kn Z) {w : ω} {pc : Nat} {ls : List (Nat × ZA)} {st : List ZA} {a : ZA} (ha : zcat a = 1) (hd : decode cc pc = .ok (.pop, 1)) (k : ZV Γ w (pc + 1) ls (st)) : ZV Γ w pc ls (a :: st) := fun la H locs cells slots h => lv_pop G.exec G.bytes hd ((zcv_cat _).trans ha) (k la H locs cells slots h)
theorem zv_dup_x1 {ω : Type} {Γ : ZG ω} {cc : ByteArray} {own : String} {nL : Nat} {Kn : State → Prop} {Z : ZWi ω} (G : ZOk Γ cc own nL Kn Z) {w : ω} {pc : Nat} {ls : List (Nat × ZA)} {st : List ZA} {a b : ZA} (ha : zcat a = 1) (hb : zcat b = 1) (hd : decode cc pc = .ok (.dup_x1, 1)) (k : ZV Γ w (pc + 1) ls (a :: b :: a :: st)) : ZV Γ w pc ls (a :: b :: st) := fun la H locs cells slots h => lv_dup_x1 G.exec G.bytes hd ((zcv_cat _).trans ha) ((zcv_cat _).trans hb) (k la H locs cells slots h)
theorem zv_dup2_11 {ω : Type} {Γ : ZG ω} {cc : ByteArray} {own : String} {nL : Nat} {Kn : State → Prop} {Z : ZWi ω} (G : ZOk Γ cc own nL Kn Z) {w : ω} {pc : Nat} {ls : List (Nat × ZA)} {st : List ZA} {a b : ZA} (ha : zcat a = 1) (hb : zcat b = 1) (hd : decode cc pc = .ok (.dup2, 1)) (k : ZV Γ w (pc + 1) ls (a :: b :: a :: b :: st)) : ZV Γ w pc ls (a :: b :: st) := fun la H locs cells slots h => lv_dup2_11 G.exec G.bytes hd ((zcv_cat _).trans ha) ((zcv_cat _).trans hb) (k la H locs cells slots h)
theorem zv_dup2_2 {ω : Type} {Γ : ZG ω} {cc : ByteArray} {own : String} {nL : Nat} {Kn : State → Prop} {Z : ZWi ω} (G : ZOk Γ cc own nL Kn Z) {w : ω} {pc : Nat} {ls : List (Nat × ZA)} {st : List ZA} {a : ZA} (ha : zcat a = 2) (hd : decode cc pc = .ok (.dup2, 1)) (k : ZV Γ w (pc + 1) ls (a :: a :: st)) : ZV Γ w pc ls (a :: st) := fun la H locs cells slots h => lv_dup2_2 G.exec G.bytes hd ((zcv_cat _).trans ha) (k la H locs cells slots h)
theorem zv_aload_n {ω : Type} {Γ : ZG ω} {cc : ByteArray} {own : String} {nL : Nat} {Kn : State → Prop} {Z : ZWi ω} (G : ZOk Γ cc own nL Kn Z) {w : ω} {pc : Nat} {ls : List (Nat × ZA)} {st : List ZA} {k : Fin 4} {i : Nat} (hi : (k : Nat) = i) {x : Nat} (hl : zlk ls i = some (ar x)) (hd : decode cc pc = .ok (.aload_n k, 1)) (k : ZV Γ w (pc + 1) ls (ar x :: st)) : ZV Γ w pc ls st := by
  cases x with
  | zero => exact fun la H locs cells slots h => lv_aload_nN G.exec G.bytes hd hi (zlk_at h.1 hl) (k la H locs cells slots h)
  | succ n => exact fun la H locs cells slots h => lv_aload_n G.exec G.bytes hd hi (zlk_at h.1 hl) (k la H locs cells slots h)
theorem zv_aload {ω : Type} {Γ : ZG ω} {cc : ByteArray} {own : String} {nL : Nat} {Kn : State → Prop} {Z : ZWi ω} (G : ZOk Γ cc own nL Kn Z) {w : ω} {pc : Nat} {ls : List (Nat × ZA)} {st : List ZA} {i : Nat} {x : Nat} (hl : zlk ls i = some (ar x)) (hd : decode cc pc = .ok (.aload i, 2)) (k : ZV Γ w (pc + 2) ls (ar x :: st)) : ZV Γ w pc ls st := by
  cases x with
  | zero => exact fun la H locs cells slots h => lv_aloadN G.exec G.bytes hd (zlk_at h.1 hl) (k la H locs cells slots h)
  | succ n => exact fun la H locs cells slots h => lv_aload G.exec G.bytes hd (zlk_at h.1 hl) (k la H locs cells slots h)
theorem zv_istore_n {ω : Type} {Γ : ZG ω} {cc : ByteArray} {own : String} {nL : Nat} {Kn : State → Prop} {Z : ZWi ω} (G : ZOk Γ cc own nL Kn Z) {w : ω} {pc : Nat} {ls : List (Nat × ZA)} {st : List ZA} {k : Fin 4} {i : Nat} (hi : (k : Nat) = i) {x : Int} {ls' : List (Nat × ZA)} (hn : i < nL) (hs : zst1 ls i (ai x) = ls') (hd : decode cc pc = .ok (.istore_n k, 1)) (k : ZV Γ w (pc + 1) ls' st) : ZV Γ w pc ls (ai x :: st) := by
  subst hs
  exact fun la H locs cells slots h => lv_istore_n G.exec G.bytes hd hi h.1 (G.nl.symm ▸ hn) rfl (fun la' hl' => k la' H locs cells slots ⟨by rw [zst1_map]; exact hl', h.2⟩)
theorem zv_istore {ω : Type} {Γ : ZG ω} {cc : ByteArray} {own : String} {nL : Nat} {Kn : State → Prop} {Z : ZWi ω} (G : ZOk Γ cc own nL Kn Z) {w : ω} {pc : Nat} {ls : List (Nat × ZA)} {st : List ZA} {i : Nat} {x : Int} {ls' : List (Nat × ZA)} (hn : i < nL) (hs : zst1 ls i (ai x) = ls') (hd : decode cc pc = .ok (.istore i, 2)) (k : ZV Γ w (pc + 2) ls' st) : ZV Γ w pc ls (ai x :: st) := by
  subst hs
  exact fun la H locs cells slots h => lv_istore G.exec G.bytes hd h.1 (G.nl.symm ▸ hn) rfl (fun la' hl' => k la' H locs cells slots ⟨by rw [zst1_map]; exact hl', h.2⟩)
theorem zv_lstore_n {ω : Type} {Γ : ZG ω} {cc : ByteArray} {own : String} {nL : Nat} {Kn : State → Prop} {Z : ZWi ω} (G : ZOk Γ cc own nL Kn Z) {w : ω} {pc : Nat} {ls : List (Nat × ZA)} {st : List ZA} {k : Fin 4} {i : Nat} (hi : (k : Nat) = i) {x : Int} {ls' : List (Nat × ZA)} (hn : i + 1 < nL) (hs : zst2 ls i (al x) = ls') (hd : decode cc pc = .ok (.lstore_n k, 1)) (k : ZV Γ w (pc + 1) ls' st) : ZV Γ w pc ls (al x :: st) := by
  subst hs
  exact fun la H locs cells slots h => lv_lstore_n G.exec G.bytes hd hi h.1 (G.nl.symm ▸ hn) rfl (fun la' hl' => k la' H locs cells slots ⟨by rw [zst2_map]; exact hl', h.2⟩)
theorem zv_lstore {ω : Type} {Γ : ZG ω} {cc : ByteArray} {own : String} {nL : Nat} {Kn : State → Prop} {Z : ZWi ω} (G : ZOk Γ cc own nL Kn Z) {w : ω} {pc : Nat} {ls : List (Nat × ZA)} {st : List ZA} {i : Nat} {x : Int} {ls' : List (Nat × ZA)} (hn : i + 1 < nL) (hs : zst2 ls i (al x) = ls') (hd : decode cc pc = .ok (.lstore i, 2)) (k : ZV Γ w (pc + 2) ls' st) : ZV Γ w pc ls (al x :: st) := by
  subst hs
  exact fun la H locs cells slots h => lv_lstore G.exec G.bytes hd h.1 (G.nl.symm ▸ hn) rfl (fun la' hl' => k la' H locs cells slots ⟨by rw [zst2_map]; exact hl', h.2⟩)
theorem zv_astore_n {ω : Type} {Γ : ZG ω} {cc : ByteArray} {own : String} {nL : Nat} {Kn : State → Prop} {Z : ZWi ω} (G : ZOk Γ cc own nL Kn Z) {w : ω} {pc : Nat} {ls : List (Nat × ZA)} {st : List ZA} {k : Fin 4} {i : Nat} (hi : (k : Nat) = i) {x : Nat} {ls' : List (Nat × ZA)} (hn : i < nL) (hs : zst1 ls i (ar x) = ls') (hd : decode cc pc = .ok (.astore_n k, 1)) (k : ZV Γ w (pc + 1) ls' st) : ZV Γ w pc ls (ar x :: st) := by
  subst hs
  cases x with
  | zero => exact fun la H locs cells slots h => lv_astore_nN G.exec G.bytes hd hi h.1 (G.nl.symm ▸ hn) rfl (fun la' hl' => k la' H locs cells slots ⟨by rw [zst1_map]; exact hl', h.2⟩)
  | succ n => exact fun la H locs cells slots h => lv_astore_n G.exec G.bytes hd hi h.1 (G.nl.symm ▸ hn) rfl (fun la' hl' => k la' H locs cells slots ⟨by rw [zst1_map]; exact hl', h.2⟩)
theorem zv_astore {ω : Type} {Γ : ZG ω} {cc : ByteArray} {own : String} {nL : Nat} {Kn : State → Prop} {Z : ZWi ω} (G : ZOk Γ cc own nL Kn Z) {w : ω} {pc : Nat} {ls : List (Nat × ZA)} {st : List ZA} {i : Nat} {x : Nat} {ls' : List (Nat × ZA)} (hn : i < nL) (hs : zst1 ls i (ar x) = ls') (hd : decode cc pc = .ok (.astore i, 2)) (k : ZV Γ w (pc + 2) ls' st) : ZV Γ w pc ls (ar x :: st) := by
  subst hs
  cases x with
  | zero => exact fun la H locs cells slots h => lv_astoreN G.exec G.bytes hd h.1 (G.nl.symm ▸ hn) rfl (fun la' hl' => k la' H locs cells slots ⟨by rw [zst1_map]; exact hl', h.2⟩)
  | succ n => exact fun la H locs cells slots h => lv_astore G.exec G.bytes hd h.1 (G.nl.symm ▸ hn) rfl (fun la' hl' => k la' H locs cells slots ⟨by rw [zst1_map]; exact hl', h.2⟩)
theorem zlk_mem {i : Nat} {v : ZA} : ∀ {l : List (Nat × ZA)}, zlk l i = some v → (i, v) ∈ l := by
  intro l
  induction l with
  | nil => intro h; cases h
  | cons q r ih =>
    intro h
    unfold zlk at h
    split at h
    · rename_i e
      cases h
      subst e
      exact List.mem_cons_self
    · exact List.mem_cons_of_mem _ (ih h)
theorem zlk_ix {ls : List (Nat × ZA)} {i : Nat} {v : ZA} (hl : zlk ls i = some v) : ∃ k : Nat, (ls.map fun q => (q.1, zcv q.2))[k]? = some (i, zcv v) := List.getElem?_of_mem (List.mem_map.mpr ⟨(i, v), zlk_mem hl, rfl⟩)
theorem zv_iinc {ω : Type} {Γ : ZG ω} {cc : ByteArray} {own : String} {nL : Nat} {Kn : State → Prop} {Z : ZWi ω} (G : ZOk Γ cc own nL Kn Z) {w : ω} {pc : Nat} {ls : List (Nat × ZA)} {st : List ZA} {i : Nat} {n x v : Int} {ls' : List (Nat × ZA)} (hl : zlk ls i = some (ai x)) (hv : w32 (x + n) = v) (hn : i < nL) (hs : zst1 ls i (ai v) = ls') (hd : decode cc pc = .ok (.iinc i n, 3)) (k : ZV Γ w (pc + 3) ls' st) : ZV Γ w pc ls st := by
  subst hs
  intro la H locs cells slots h
  obtain ⟨k0, hk⟩ := zlk_ix hl
  exact lv_iinc G.exec G.bytes hd h.1 hk (v := zi v) (by rw [← hv]; exact zi_add x n) (G.nl.symm ▸ hn) rfl (fun la' hl' => k la' H locs cells slots ⟨by rw [zst1_map]; exact hl', h.2⟩)
theorem zr_0 : zr 0 := by unfold zr; omega
theorem zc_eq {x y : Int} (hx : zr x) (hy : zr y) : (zi x = zi y) = (x = y) := propext (zi_eq hx hy)
theorem zc_lt {x y : Int} (hx : zr x) (hy : zr y) : (zi x < zi y) = (x < y) := propext (zi_lt hx hy)
theorem zc_le {x y : Int} (hx : zr x) (hy : zr y) : (zi x ≤ zi y) = (x ≤ y) := propext (zi_le hx hy)
theorem zc_0 : (0 : Int32) = zi 0 := rfl
theorem zv_if_eq {ω : Type} {Γ : ZG ω} {cc : ByteArray} {own : String} {nL : Nat} {Kn : State → Prop} {Z : ZWi ω} (G : ZOk Γ cc own nL Kn Z) {w : ω} {pc : Nat} {ls : List (Nat × ZA)} {st : List ZA} {x : Int} (hx : zr x) {off : Int} {tgt : Nat} (ht : (pc : Int) + off = (tgt : Int)) (hd : decode cc pc = .ok (.ifCond .eq off, 3)) (kt : x = 0 → ZV Γ w tgt ls st) (kf : ¬ x = 0 → ZV Γ w (pc + 3) ls st) : ZV Γ w pc ls (ai x :: st) := fun la H locs cells slots h => lv_if_eq G.exec G.bytes hd ht (fun q => kt (by have q := q; (try rw [zc_0] at q); (simp only [zc_eq hx zr_0, zc_eq zr_0 hx, zc_lt hx zr_0, zc_lt zr_0 hx, zc_le hx zr_0, zc_le zr_0 hx] at q); omega) la H locs cells slots h) (fun q => kf (by have q := q; (try rw [zc_0] at q); (simp only [zc_eq hx zr_0, zc_eq zr_0 hx, zc_lt hx zr_0, zc_lt zr_0 hx, zc_le hx zr_0, zc_le zr_0 hx] at q); omega) la H locs cells slots h)
theorem zv_if_ne {ω : Type} {Γ : ZG ω} {cc : ByteArray} {own : String} {nL : Nat} {Kn : State → Prop} {Z : ZWi ω} (G : ZOk Γ cc own nL Kn Z) {w : ω} {pc : Nat} {ls : List (Nat × ZA)} {st : List ZA} {x : Int} (hx : zr x) {off : Int} {tgt : Nat} (ht : (pc : Int) + off = (tgt : Int)) (hd : decode cc pc = .ok (.ifCond .ne off, 3)) (kt : ¬ x = 0 → ZV Γ w tgt ls st) (kf : x = 0 → ZV Γ w (pc + 3) ls st) : ZV Γ w pc ls (ai x :: st) := fun la H locs cells slots h => lv_if_ne G.exec G.bytes hd ht (fun q => kt (by have q := q; (try rw [zc_0] at q); (simp only [zc_eq hx zr_0, zc_eq zr_0 hx, zc_lt hx zr_0, zc_lt zr_0 hx, zc_le hx zr_0, zc_le zr_0 hx] at q); omega) la H locs cells slots h) (fun q => kf (by have q := q; (try rw [zc_0] at q); (simp only [zc_eq hx zr_0, zc_eq zr_0 hx, zc_lt hx zr_0, zc_lt zr_0 hx, zc_le hx zr_0, zc_le zr_0 hx] at q); omega) la H locs cells slots h)
theorem zv_if_lt {ω : Type} {Γ : ZG ω} {cc : ByteArray} {own : String} {nL : Nat} {Kn : State → Prop} {Z : ZWi ω} (G : ZOk Γ cc own nL Kn Z) {w : ω} {pc : Nat} {ls : List (Nat × ZA)} {st : List ZA} {x : Int} (hx : zr x) {off : Int} {tgt : Nat} (ht : (pc : Int) + off = (tgt : Int)) (hd : decode cc pc = .ok (.ifCond .lt off, 3)) (kt : x < 0 → ZV Γ w tgt ls st) (kf : ¬ x < 0 → ZV Γ w (pc + 3) ls st) : ZV Γ w pc ls (ai x :: st) := fun la H locs cells slots h => lv_if_lt G.exec G.bytes hd ht (fun q => kt (by have q := q; (try rw [zc_0] at q); (simp only [zc_eq hx zr_0, zc_eq zr_0 hx, zc_lt hx zr_0, zc_lt zr_0 hx, zc_le hx zr_0, zc_le zr_0 hx] at q); omega) la H locs cells slots h) (fun q => kf (by have q := q; (try rw [zc_0] at q); (simp only [zc_eq hx zr_0, zc_eq zr_0 hx, zc_lt hx zr_0, zc_lt zr_0 hx, zc_le hx zr_0, zc_le zr_0 hx] at q); omega) la H locs cells slots h)
theorem zv_if_ge {ω : Type} {Γ : ZG ω} {cc : ByteArray} {own : String} {nL : Nat} {Kn : State → Prop} {Z : ZWi ω} (G : ZOk Γ cc own nL Kn Z) {w : ω} {pc : Nat} {ls : List (Nat × ZA)} {st : List ZA} {x : Int} (hx : zr x) {off : Int} {tgt : Nat} (ht : (pc : Int) + off = (tgt : Int)) (hd : decode cc pc = .ok (.ifCond .ge off, 3)) (kt : 0 ≤ x → ZV Γ w tgt ls st) (kf : ¬ 0 ≤ x → ZV Γ w (pc + 3) ls st) : ZV Γ w pc ls (ai x :: st) := fun la H locs cells slots h => lv_if_ge G.exec G.bytes hd ht (fun q => kt (by have q := q; (try rw [zc_0] at q); (simp only [zc_eq hx zr_0, zc_eq zr_0 hx, zc_lt hx zr_0, zc_lt zr_0 hx, zc_le hx zr_0, zc_le zr_0 hx] at q); omega) la H locs cells slots h) (fun q => kf (by have q := q; (try rw [zc_0] at q); (simp only [zc_eq hx zr_0, zc_eq zr_0 hx, zc_lt hx zr_0, zc_lt zr_0 hx, zc_le hx zr_0, zc_le zr_0 hx] at q); omega) la H locs cells slots h)
theorem zv_if_gt {ω : Type} {Γ : ZG ω} {cc : ByteArray} {own : String} {nL : Nat} {Kn : State → Prop} {Z : ZWi ω} (G : ZOk Γ cc own nL Kn Z) {w : ω} {pc : Nat} {ls : List (Nat × ZA)} {st : List ZA} {x : Int} (hx : zr x) {off : Int} {tgt : Nat} (ht : (pc : Int) + off = (tgt : Int)) (hd : decode cc pc = .ok (.ifCond .gt off, 3)) (kt : 0 < x → ZV Γ w tgt ls st) (kf : ¬ 0 < x → ZV Γ w (pc + 3) ls st) : ZV Γ w pc ls (ai x :: st) := fun la H locs cells slots h => lv_if_gt G.exec G.bytes hd ht (fun q => kt (by have q := q; (try rw [zc_0] at q); (simp only [zc_eq hx zr_0, zc_eq zr_0 hx, zc_lt hx zr_0, zc_lt zr_0 hx, zc_le hx zr_0, zc_le zr_0 hx] at q); omega) la H locs cells slots h) (fun q => kf (by have q := q; (try rw [zc_0] at q); (simp only [zc_eq hx zr_0, zc_eq zr_0 hx, zc_lt hx zr_0, zc_lt zr_0 hx, zc_le hx zr_0, zc_le zr_0 hx] at q); omega) la H locs cells slots h)
theorem zv_if_le {ω : Type} {Γ : ZG ω} {cc : ByteArray} {own : String} {nL : Nat} {Kn : State → Prop} {Z : ZWi ω} (G : ZOk Γ cc own nL Kn Z) {w : ω} {pc : Nat} {ls : List (Nat × ZA)} {st : List ZA} {x : Int} (hx : zr x) {off : Int} {tgt : Nat} (ht : (pc : Int) + off = (tgt : Int)) (hd : decode cc pc = .ok (.ifCond .le off, 3)) (kt : x ≤ 0 → ZV Γ w tgt ls st) (kf : ¬ x ≤ 0 → ZV Γ w (pc + 3) ls st) : ZV Γ w pc ls (ai x :: st) := fun la H locs cells slots h => lv_if_le G.exec G.bytes hd ht (fun q => kt (by have q := q; (try rw [zc_0] at q); (simp only [zc_eq hx zr_0, zc_eq zr_0 hx, zc_lt hx zr_0, zc_lt zr_0 hx, zc_le hx zr_0, zc_le zr_0 hx] at q); omega) la H locs cells slots h) (fun q => kf (by have q := q; (try rw [zc_0] at q); (simp only [zc_eq hx zr_0, zc_eq zr_0 hx, zc_lt hx zr_0, zc_lt zr_0 hx, zc_le hx zr_0, zc_le zr_0 hx] at q); omega) la H locs cells slots h)
theorem zv_icmp_eq {ω : Type} {Γ : ZG ω} {cc : ByteArray} {own : String} {nL : Nat} {Kn : State → Prop} {Z : ZWi ω} (G : ZOk Γ cc own nL Kn Z) {w : ω} {pc : Nat} {ls : List (Nat × ZA)} {st : List ZA} {x y : Int} (hx : zr x) (hy : zr y) {off : Int} {tgt : Nat} (ht : (pc : Int) + off = (tgt : Int)) (hd : decode cc pc = .ok (.if_icmp .eq off, 3)) (kt : x = y → ZV Γ w tgt ls st) (kf : ¬ x = y → ZV Γ w (pc + 3) ls st) : ZV Γ w pc ls (ai y :: ai x :: st) := fun la H locs cells slots h => lv_icmp_eq G.exec G.bytes hd ht (fun q => kt (by have q := q; (try rw [zc_0] at q); (simp only [zc_eq hx hy, zc_eq hy hx, zc_lt hx hy, zc_lt hy hx, zc_le hx hy, zc_le hy hx] at q); omega) la H locs cells slots h) (fun q => kf (by have q := q; (try rw [zc_0] at q); (simp only [zc_eq hx hy, zc_eq hy hx, zc_lt hx hy, zc_lt hy hx, zc_le hx hy, zc_le hy hx] at q); omega) la H locs cells slots h)
theorem zv_icmp_ne {ω : Type} {Γ : ZG ω} {cc : ByteArray} {own : String} {nL : Nat} {Kn : State → Prop} {Z : ZWi ω} (G : ZOk Γ cc own nL Kn Z) {w : ω} {pc : Nat} {ls : List (Nat × ZA)} {st : List ZA} {x y : Int} (hx : zr x) (hy : zr y) {off : Int} {tgt : Nat} (ht : (pc : Int) + off = (tgt : Int)) (hd : decode cc pc = .ok (.if_icmp .ne off, 3)) (kt : ¬ x = y → ZV Γ w tgt ls st) (kf : x = y → ZV Γ w (pc + 3) ls st) : ZV Γ w pc ls (ai y :: ai x :: st) := fun la H locs cells slots h => lv_icmp_ne G.exec G.bytes hd ht (fun q => kt (by have q := q; (try rw [zc_0] at q); (simp only [zc_eq hx hy, zc_eq hy hx, zc_lt hx hy, zc_lt hy hx, zc_le hx hy, zc_le hy hx] at q); omega) la H locs cells slots h) (fun q => kf (by have q := q; (try rw [zc_0] at q); (simp only [zc_eq hx hy, zc_eq hy hx, zc_lt hx hy, zc_lt hy hx, zc_le hx hy, zc_le hy hx] at q); omega) la H locs cells slots h)
theorem zv_icmp_lt {ω : Type} {Γ : ZG ω} {cc : ByteArray} {own : String} {nL : Nat} {Kn : State → Prop} {Z : ZWi ω} (G : ZOk Γ cc own nL Kn Z) {w : ω} {pc : Nat} {ls : List (Nat × ZA)} {st : List ZA} {x y : Int} (hx : zr x) (hy : zr y) {off : Int} {tgt : Nat} (ht : (pc : Int) + off = (tgt : Int)) (hd : decode cc pc = .ok (.if_icmp .lt off, 3)) (kt : x < y → ZV Γ w tgt ls st) (kf : ¬ x < y → ZV Γ w (pc + 3) ls st) : ZV Γ w pc ls (ai y :: ai x :: st) := fun la H locs cells slots h => lv_icmp_lt G.exec G.bytes hd ht (fun q => kt (by have q := q; (try rw [zc_0] at q); (simp only [zc_eq hx hy, zc_eq hy hx, zc_lt hx hy, zc_lt hy hx, zc_le hx hy, zc_le hy hx] at q); omega) la H locs cells slots h) (fun q => kf (by have q := q; (try rw [zc_0] at q); (simp only [zc_eq hx hy, zc_eq hy hx, zc_lt hx hy, zc_lt hy hx, zc_le hx hy, zc_le hy hx] at q); omega) la H locs cells slots h)
theorem zv_icmp_ge {ω : Type} {Γ : ZG ω} {cc : ByteArray} {own : String} {nL : Nat} {Kn : State → Prop} {Z : ZWi ω} (G : ZOk Γ cc own nL Kn Z) {w : ω} {pc : Nat} {ls : List (Nat × ZA)} {st : List ZA} {x y : Int} (hx : zr x) (hy : zr y) {off : Int} {tgt : Nat} (ht : (pc : Int) + off = (tgt : Int)) (hd : decode cc pc = .ok (.if_icmp .ge off, 3)) (kt : y ≤ x → ZV Γ w tgt ls st) (kf : ¬ y ≤ x → ZV Γ w (pc + 3) ls st) : ZV Γ w pc ls (ai y :: ai x :: st) := fun la H locs cells slots h => lv_icmp_ge G.exec G.bytes hd ht (fun q => kt (by have q := q; (try rw [zc_0] at q); (simp only [zc_eq hx hy, zc_eq hy hx, zc_lt hx hy, zc_lt hy hx, zc_le hx hy, zc_le hy hx] at q); omega) la H locs cells slots h) (fun q => kf (by have q := q; (try rw [zc_0] at q); (simp only [zc_eq hx hy, zc_eq hy hx, zc_lt hx hy, zc_lt hy hx, zc_le hx hy, zc_le hy hx] at q); omega) la H locs cells slots h)
theorem zv_icmp_gt {ω : Type} {Γ : ZG ω} {cc : ByteArray} {own : String} {nL : Nat} {Kn : State → Prop} {Z : ZWi ω} (G : ZOk Γ cc own nL Kn Z) {w : ω} {pc : Nat} {ls : List (Nat × ZA)} {st : List ZA} {x y : Int} (hx : zr x) (hy : zr y) {off : Int} {tgt : Nat} (ht : (pc : Int) + off = (tgt : Int)) (hd : decode cc pc = .ok (.if_icmp .gt off, 3)) (kt : y < x → ZV Γ w tgt ls st) (kf : ¬ y < x → ZV Γ w (pc + 3) ls st) : ZV Γ w pc ls (ai y :: ai x :: st) := fun la H locs cells slots h => lv_icmp_gt G.exec G.bytes hd ht (fun q => kt (by have q := q; (try rw [zc_0] at q); (simp only [zc_eq hx hy, zc_eq hy hx, zc_lt hx hy, zc_lt hy hx, zc_le hx hy, zc_le hy hx] at q); omega) la H locs cells slots h) (fun q => kf (by have q := q; (try rw [zc_0] at q); (simp only [zc_eq hx hy, zc_eq hy hx, zc_lt hx hy, zc_lt hy hx, zc_le hx hy, zc_le hy hx] at q); omega) la H locs cells slots h)
theorem zv_icmp_le {ω : Type} {Γ : ZG ω} {cc : ByteArray} {own : String} {nL : Nat} {Kn : State → Prop} {Z : ZWi ω} (G : ZOk Γ cc own nL Kn Z) {w : ω} {pc : Nat} {ls : List (Nat × ZA)} {st : List ZA} {x y : Int} (hx : zr x) (hy : zr y) {off : Int} {tgt : Nat} (ht : (pc : Int) + off = (tgt : Int)) (hd : decode cc pc = .ok (.if_icmp .le off, 3)) (kt : x ≤ y → ZV Γ w tgt ls st) (kf : ¬ x ≤ y → ZV Γ w (pc + 3) ls st) : ZV Γ w pc ls (ai y :: ai x :: st) := fun la H locs cells slots h => lv_icmp_le G.exec G.bytes hd ht (fun q => kt (by have q := q; (try rw [zc_0] at q); (simp only [zc_eq hx hy, zc_eq hy hx, zc_lt hx hy, zc_lt hy hx, zc_le hx hy, zc_le hy hx] at q); omega) la H locs cells slots h) (fun q => kf (by have q := q; (try rw [zc_0] at q); (simp only [zc_eq hx hy, zc_eq hy hx, zc_lt hx hy, zc_lt hy hx, zc_le hx hy, zc_le hy hx] at q); omega) la H locs cells slots h)
theorem zv_goto {ω : Type} {Γ : ZG ω} {cc : ByteArray} {own : String} {nL : Nat} {Kn : State → Prop} {Z : ZWi ω} (G : ZOk Γ cc own nL Kn Z) {w : ω} {pc : Nat} {ls : List (Nat × ZA)} {st : List ZA} {off : Int} {tgt : Nat} (ht : (pc : Int) + off = (tgt : Int)) (hd : decode cc pc = .ok (.goto off, 3)) (k : ZV Γ w tgt ls st) : ZV Γ w pc ls st := fun la H locs cells slots h => lv_goto G.exec G.bytes hd ht (k la H locs cells slots h)
def zro : Nat → Option Nat | 0 => none | n + 1 => some n
theorem zro_cv (x : Nat) : va_rf (zro x) = zrf x := by cases x <;> rfl
theorem zro_inj {x y : Nat} : zro x = zro y ↔ x = y := by cases x <;> cases y <;> simp [zro]
theorem zv_acmp_eq {ω : Type} {Γ : ZG ω} {cc : ByteArray} {own : String} {nL : Nat} {Kn : State → Prop} {Z : ZWi ω} (G : ZOk Γ cc own nL Kn Z) {w : ω} {pc : Nat} {ls : List (Nat × ZA)} {st : List ZA} {x y : Nat} {off : Int} {tgt : Nat} (ht : (pc : Int) + off = (tgt : Int)) (hd : decode cc pc = .ok (.if_acmp .eq off, 3)) (kt : x = y → ZV Γ w tgt ls st) (kf : ¬ x = y → ZV Γ w (pc + 3) ls st) : ZV Γ w pc ls (ar y :: ar x :: st) := by
  intro la H locs cells slots h
  show Γ.wk H locs cells slots (ZQ Γ) (F0 Γ.m pc la (zrf y :: zrf x :: st.map zcv))
  rw [← zro_cv, ← zro_cv]
  exact lv_acmp_eq G.exec G.bytes hd ht (fun q => kt (by simpa [zro_inj] using q) la H locs cells slots h) (fun q => kf (by simpa [zro_inj] using q) la H locs cells slots h)
theorem zv_acmp_ne {ω : Type} {Γ : ZG ω} {cc : ByteArray} {own : String} {nL : Nat} {Kn : State → Prop} {Z : ZWi ω} (G : ZOk Γ cc own nL Kn Z) {w : ω} {pc : Nat} {ls : List (Nat × ZA)} {st : List ZA} {x y : Nat} {off : Int} {tgt : Nat} (ht : (pc : Int) + off = (tgt : Int)) (hd : decode cc pc = .ok (.if_acmp .ne off, 3)) (kt : ¬ x = y → ZV Γ w tgt ls st) (kf : x = y → ZV Γ w (pc + 3) ls st) : ZV Γ w pc ls (ar y :: ar x :: st) := by
  intro la H locs cells slots h
  show Γ.wk H locs cells slots (ZQ Γ) (F0 Γ.m pc la (zrf y :: zrf x :: st.map zcv))
  rw [← zro_cv, ← zro_cv]
  exact lv_acmp_ne G.exec G.bytes hd ht (fun q => kt (by simpa [zro_inj] using q) la H locs cells slots h) (fun q => kf (by simpa [zro_inj] using q) la H locs cells slots h)
theorem zv_ifnull {ω : Type} {Γ : ZG ω} {cc : ByteArray} {own : String} {nL : Nat} {Kn : State → Prop} {Z : ZWi ω} (G : ZOk Γ cc own nL Kn Z) {w : ω} {pc : Nat} {ls : List (Nat × ZA)} {st : List ZA} {x : Nat} {off : Int} {tgt : Nat} (ht : (pc : Int) + off = (tgt : Int)) (hd : decode cc pc = .ok (.ifnull off, 3)) (kt : x = 0 → ZV Γ w tgt ls st) (kf : ¬ x = 0 → ZV Γ w (pc + 3) ls st) : ZV Γ w pc ls (ar x :: st) := by
  cases x with
  | zero => exact fun la H locs cells slots h => lv_ifnullN G.exec G.bytes hd ht (kt rfl la H locs cells slots h)
  | succ n => exact fun la H locs cells slots h => lv_ifnull G.exec G.bytes hd (kf (by omega) la H locs cells slots h)
theorem zv_ifnonnull {ω : Type} {Γ : ZG ω} {cc : ByteArray} {own : String} {nL : Nat} {Kn : State → Prop} {Z : ZWi ω} (G : ZOk Γ cc own nL Kn Z) {w : ω} {pc : Nat} {ls : List (Nat × ZA)} {st : List ZA} {x : Nat} {off : Int} {tgt : Nat} (ht : (pc : Int) + off = (tgt : Int)) (hd : decode cc pc = .ok (.ifnonnull off, 3)) (kt : ¬ x = 0 → ZV Γ w tgt ls st) (kf : x = 0 → ZV Γ w (pc + 3) ls st) : ZV Γ w pc ls (ar x :: st) := by
  cases x with
  | zero => exact fun la H locs cells slots h => lv_ifnonnullN G.exec G.bytes hd (kf rfl la H locs cells slots h)
  | succ n => exact fun la H locs cells slots h => lv_ifnonnull G.exec G.bytes hd ht (kt (by omega) la H locs cells slots h)
theorem zv_tswI {ω : Type} {Γ : ZG ω} {cc : ByteArray} {own : String} {nL : Nat} {Kn : State → Prop} {Z : ZWi ω} (G : ZOk Γ cc own nL Kn Z) {w : ω} {pc : Nat} {ls : List (Nat × ZA)} {st : List ZA} {dflt lo hi : Int} {offs : Array Int} {len : Nat} {x off : Int} {tgt : Nat} (hd : decode cc pc = .ok (.tableswitch dflt lo hi offs, len)) (k0 : Nat) (hx : zr x) (he : x = lo + (k0 : Int)) (hh : x ≤ hi) (ho : offs[k0]? = some off) (ht : (pc : Int) + off = (tgt : Int)) (k : ZV Γ w tgt ls st) : ZV Γ w pc ls (ai x :: st) := fun la H locs cells slots h => lv_tableIn G.exec G.bytes hd (by rw [zi_toInt hx]; omega) (by rw [zi_toInt hx]; omega) (by rw [zi_toInt hx, show (x - lo).toNat = k0 by omega]; exact ho) ht (k la H locs cells slots h)
theorem zv_tswO {ω : Type} {Γ : ZG ω} {cc : ByteArray} {own : String} {nL : Nat} {Kn : State → Prop} {Z : ZWi ω} (G : ZOk Γ cc own nL Kn Z) {w : ω} {pc : Nat} {ls : List (Nat × ZA)} {st : List ZA} {dflt lo hi : Int} {offs : Array Int} {len : Nat} {x : Int} {tgt : Nat} (hd : decode cc pc = .ok (.tableswitch dflt lo hi offs, len)) (hx : zr x) (ho : x < lo ∨ hi < x) (ht : (pc : Int) + dflt = (tgt : Int)) (k : ZV Γ w tgt ls st) : ZV Γ w pc ls (ai x :: st) := fun la H locs cells slots h => lv_tableOut G.exec G.bytes hd (by rw [zi_toInt hx]; exact ho) ht (k la H locs cells slots h)
theorem zv_lsw {ω : Type} {Γ : ZG ω} {cc : ByteArray} {own : String} {nL : Nat} {Kn : State → Prop} {Z : ZWi ω} (G : ZOk Γ cc own nL Kn Z) {w : ω} {pc : Nat} {ls : List (Nat × ZA)} {st : List ZA} {dflt : Int} {ps : Array (Int × Int)} {len : Nat} {x off : Int} {tgt : Nat} (hx : zr x) (hp : (ps.toList.zip (ps.toList.drop 1)).all (fun (a, next) => a.1 < next.1) = true) (ho : Op.lookupswitch.offset ps.toList dflt x = off) (ht : (pc : Int) + off = (tgt : Int)) (hd : decode cc pc = .ok (.lookupswitch dflt ps, len)) (k : ZV Γ w tgt ls st) : ZV Γ w pc ls (ai x :: st) := fun la H locs cells slots h => lv_lookup G.exec G.bytes hd hp (by rw [zi_toInt hx]; exact ho) ht (k la H locs cells slots h)
theorem zls_step {a o d x : Int} {r : List (Int × Int)} (h : ¬ x = a) : Op.lookupswitch.offset ((a, o) :: r) d x = Op.lookupswitch.offset r d x := by
  rw [Op.lookupswitch.offset_cons, if_neg (fun q => h q.symm)]
theorem zls_here {a o d : Int} {r : List (Int × Int)} : Op.lookupswitch.offset ((a, o) :: r) d a = o := by
  rw [Op.lookupswitch.offset_cons, if_pos rfl]
theorem zv_sub {ω : Type} {Γ : ZG ω} {w : ω} {pc : Nat} {ls ls' : List (Nat × ZA)} {st : List ZA} (hs : ∀ q ∈ ls', q ∈ ls) (k : ZV Γ w pc ls' st) : ZV Γ w pc ls st := fun la H locs cells slots h => k la H locs cells slots ⟨zls_sub h.1 hs, h.2⟩
theorem zv_pc {ω : Type} {Γ : ZG ω} {w : ω} {pc pc' : Nat} {ls : List (Nat × ZA)} {st : List ZA} (he : pc = pc') (k : ZV Γ w pc' ls st) : ZV Γ w pc ls st := he ▸ k
/-- fewer locals, each by its number -/
def zpick (ls : List (Nat × ZA)) : List Nat → List (Nat × ZA)
  | [] => []
  | i :: r => match zlk ls i with
    | some v => (i, v) :: zpick ls r
    | none => zpick ls r
theorem zpick_mem {ls : List (Nat × ZA)} : ∀ {is : List Nat} {q : Nat × ZA}, q ∈ zpick ls is → q ∈ ls := by
  intro is
  induction is with
  | nil => intro q h; cases h
  | cons i r ih =>
    intro q h
    unfold zpick at h
    cases e : zlk ls i with
    | none => rw [e] at h; exact ih h
    | some v =>
      rw [e] at h
      rcases List.mem_cons.mp h with h | h
      · rw [h]; exact zlk_mem e
      · exact ih h
theorem zv_pick {ω : Type} {Γ : ZG ω} {w : ω} {pc : Nat} {ls ls' : List (Nat × ZA)} {st : List ZA} (is : List Nat) (hs : zpick ls is = ls') (k : ZV Γ w pc ls' st) : ZV Γ w pc ls st := zv_sub (fun q h => zpick_mem (is := is) (by rw [hs]; exact h)) k
end ZRows
