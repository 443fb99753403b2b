/-! rows of the component's world: arrays made, literals, statics, a long returned -/
section ZCR4
variable {Γ : ZG CW} {cc : ByteArray} {own : String} {nL : Nat} {D : CD} {w : CW} {pc : Nat} {ls : List (Nat × ZA)} {st : List ZA} {d : Nat} {rt : Option FieldType} {name : String} {hh : List (Nat × Nat × Nat × Nat)}
theorem zc_bornA {t n : Nat} {H H' : Heap} (hR : RepC D w H) (hB : D.B0 ≤ D.Hf.size) (ht : 100 ≤ t) (hn : n ≤ 1000000) (e2 : H'.size = H.size + 1) (e3 : ∀ q, q < H.size → H'[q]? = H[q]?)
    (c2 : H'[cz w]? = some (arrV (D.ca t) n (fun _ => if t = 103 then .long 0 else if 110 ≤ t then .null else .int 0))) : RepC D (nA w t n) H' := by
  have y1 : ln (nA w t n) (cz w + 1) = n := if_pos rfl
  have y2 : tg (nA w t n) (cz w + 1) = t := if_pos rfl
  have y3 : ∀ j, aI (nA w t n) (cz w + 1) j = 0 := fun j => if_pos rfl
  have y4 : ∀ j, aR (nA w t n) (cz w + 1) j = 0 := fun j => if_pos rfl
  refine zc_born hR hB (t := t) (by omega) e2 e3 (fun _ => rfl) (fun x hx => if_neg hx) (fun x g hx => rfl) (fun x j hx => aV_nA x j hx) rfl rfl (sok_nA hR.2.1 t n hn) (fun ci x t1 t2 => ?_) (fun _ => ?_) (fun c hc => by rw [c2] at hc; cases hc; rfl)
  · have := (List.getElem?_eq_some_iff.mp t2).1
    have h33 : zcl.length = 36 := by decide
    omega
  · rw [c2, y1]
    congr 2
    funext j
    unfold aV
    rw [y2, y3, y4]
    rfl
theorem zc_newa {t : Nat} {n : Int} {atype : ArrayType} {ty : FieldType} (G : ZOk Γ cc own nL (KnC D) (ZC D)) (M : ZRm Γ d D.lim rt name hh) (ht : 101 ≤ t ∧ t ≤ 104) (hty : newarray.typeOf atype = ty) (hat : aty t = ty) (hra : va_RA Γ.s (D.ca t) ty → Γ.s.vm.findClass ("[" ++ ty.toString) = some (D.ca t)) (hcb : componentBytes ty ≤ 8) (hdef : defaultValue ty = if t = 103 then .long 0 else if 110 ≤ t then .null else .int 0) (harr : Cond.arrayClass ty ∈ lw_all)
    (h0 : 0 ≤ n ∧ n ≤ 1000000) (hroom : cz w + 1 ≤ mz w ∧ cu w + n.toNat ≤ mu w) (hd : decode cc pc = .ok (.newarray atype, 2)) (kk : ∀ w', w' = nA w t n.toNat → ZV Γ w' (pc + 2) ls (ar (cz w + 1) :: st)) : ZV Γ w pc ls (ai n :: st) := by
  intro la H locs cells slots h
  have hR := zc_rep G h
  obtain ⟨M1, M2, M3, M4, M5, M6, -⟩ := M
  obtain ⟨-, -, g1, g2, g3, g4, g5⟩ := id h
  rw [G.z] at g1 g2 g3
  have g2 : cells + Γ.c0 = cz w := g2
  have g3 : slots + Γ.n0 = cu w := g3
  obtain ⟨r0, -, -, -, -, -, -, -, -, r9, -⟩ := id hR
  have l1 : mz w = D.lim.1 := congrArg (fun x => x.2.1) r9
  have l2 : mu w = D.lim.2 := congrArg (fun x => x.2.2.1) r9
  obtain ⟨hA, hRA⟩ := zc_ao G (t := t) (by omega) (by omega) (by omega)
  rw [hat] at hRA
  have hfc := hra hRA
  subst hty
  have hz : zr n := by unfold zr; omega
  have hb : n.toNat * componentBytes (newarray.typeOf atype) ≤ 536870912 := Nat.le_trans (Nat.mul_le_mul (show n.toNat ≤ 1000000 by omega) hcb) (by decide)
  show Γ.wk H locs cells slots (ZQ Γ) (F0 Γ.m pc la (.int (zi n) :: st.map zcv))
  refine va_newaK G.exec G.bytes (G.kn.2.1 _ harr _) rfl hd rfl (by rw [Int32.lt_iff_toInt_lt, zi_toInt hz]; exact fun z => absurd z (by simpa using h0.1)) (zi_nat hz) hb (by omega) (by omega) (h := cz w) r0 fun H' cA e1 e2 e3 e4 e5 => ?_
  cases hfc.symm.trans e5
  refine kk _ rfl la H' _ _ _ ⟨h.1, ?_, by rw [G.z]; exact g1, by rw [G.z]; show cells + 1 + Γ.c0 = cz w + 1; omega, by rw [G.z]; show slots + n.toNat + Γ.n0 = cu w + n.toNat; omega, by omega, by omega⟩
  rw [G.z]
  exact zc_bornA hR G.kn.1 (by omega) (by omega) (by omega) (fun x hx => e3 x (by omega)) (by rw [e1, hdef])
theorem zel_in {t : Nat} (h1 : 111 ≤ t) (h2 : t ≤ 119) : zel t ∈ zraN := by
  have h : zraN.length = 9 := by decide
  unfold zel
  rw [List.getD, List.getElem?_eq_getElem (by rw [h]; omega)]
  exact List.getElem_mem _
theorem zc_anew {t : Nat} {n : Int} {index : Nat} (G : ZOk Γ cc own nL (KnC D) (ZC D)) (M : ZRm Γ d D.lim rt name hh) (ht : 111 ≤ t ∧ t ≤ 119) (hlink : Cond.classLink own index (zel t) ∈ lw_all)
    (h0 : 0 ≤ n ∧ n ≤ 1000000) (hroom : cz w + 1 ≤ mz w ∧ cu w + n.toNat ≤ mu w) (hd : decode cc pc = .ok (.anewarray index, 3)) (kk : ∀ w', w' = nA w t n.toNat → ZV Γ w' (pc + 3) ls (ar (cz w + 1) :: st)) : ZV Γ w pc ls (ai n :: st) := by
  intro la H locs cells slots h
  have hR := zc_rep G h
  obtain ⟨M1, M2, M3, M4, M5, M6, -⟩ := M
  obtain ⟨-, -, g1, g2, g3, g4, g5⟩ := id h
  rw [G.z] at g1 g2 g3
  have g2 : cells + Γ.c0 = cz w := g2
  have g3 : slots + Γ.n0 = cu w := g3
  obtain ⟨r0, -, -, -, -, -, -, -, -, r9, -⟩ := id hR
  have l1 : mz w = D.lim.1 := congrArg (fun x => x.2.1) r9
  have l2 : mu w = D.lim.2 := congrArg (fun x => x.2.2.1) r9
  obtain ⟨hA, hRA⟩ := zc_ao G (t := t) (by omega) (by omega) (by omega)
  rw [aty_r ht.1] at hRA
  obtain ⟨-, -, -, -, -, hfc⟩ := hRA
  have hz : zr n := by unfold zr; omega
  have hN := zi_nat hz
  show Γ.wk H locs cells slots (ZQ Γ) (F0 Γ.m pc la (.int (zi n) :: st.map zcv))
  refine W.anew G.exec G.bytes G.ow (G.kn.2.1 _ hlink _) (va_AO.use (G.kn.2.2.2.2.1 _ (zel_in ht.1 ht.2))) rfl hd rfl (by rw [Int32.lt_iff_toInt_lt, zi_toInt hz]; exact fun z => absurd z (by simpa using h0.1)) (by rw [hN]; omega) (by omega) (by rw [hN]; omega) fun cA kA comp f1 f2 f3 f4 => ?_
  cases hfc.symm.trans f1
  rw [hN]
  generalize hH1 : H.push ({ cls := D.ca t, slots := Array.replicate n.toNat .null, vm := .none } : Cell) = H1
  have z1 : H1.size = H.size + 1 := by rw [← hH1, Array.size_push]
  have e1 : H1[H.size]? = some (arrV (D.ca t) n.toNat (fun _ => .null)) := by rw [← hH1, Array.getElem?_push_size, ← arrV_new]
  have o1 : ∀ q : Nat, q < H.size → H1[q]? = H[q]? := fun q hq => by rw [← hH1, Array.getElem?_push, if_neg (Nat.ne_of_lt hq)]
  have kk' := kk _ rfl la H1 locs (cells + 1) (slots + n.toNat) ⟨h.1, by
    rw [G.z]
    refine zc_bornA hR G.kn.1 (by omega) (by omega) z1 o1 ?_
    rw [← r0, e1, if_neg (show ¬ t = 103 by omega), if_pos (show 110 ≤ t by omega)], by rw [G.z]; exact g1, by rw [G.z]; show cells + 1 + Γ.c0 = cz w + 1; omega, by rw [G.z]; show slots + n.toNat + Γ.n0 = cu w + n.toNat; omega, by omega, by omega⟩
  rw [← r0] at kk'
  exact kk'
/-- a literal -/
theorem zc_ldcs {k index : Nat} {tx : String} (G : ZOk Γ cc "LetterPost" nL (KnC D) (ZC D)) (hk : zsrL[k]? = some (index, tx)) (hd : decode cc pc = .ok (.ldc index, 2)) (kk : ZV Γ w (pc + 2) ls (ar (sr w k) :: st)) : ZV Γ w pc ls st := by
  intro la H locs cells slots h
  have hR := zc_rep G h
  obtain ⟨h1, h2⟩ := G.kn.2.2.2.2.2.2.2.2.2.2.1 k _ hk
  have e : sr w k = D.K.2.2.2 k := congrArg (fun x => x.2.2.2 k) hR.2.2.2.2.2.2.2.2.2.1
  have k2 := kk la H locs cells slots h
  rw [e, ar_pos h2] at k2
  exact va_ldcS G.exec G.bytes G.ow h1 hd k2
theorem va_ldcSW {p : Program} {l : Launch} {e : Env} {R : Room} {s : State} {m : MethodId} {args : Array Value} {below : List Frame} {meth : Method} {c : Code} {H : Heap} {locs : List Loc} {cells slots : Nat} {Q : State → Prop} {la : Array Slot} {rest : List Value} (hexec : p.tables.exec = Jvm.exec) (hb : c.code = cc) {own tx : String} {index q : Nat} (hown : s.vm.findClass own = some m.cls) (hZ : vk_R own index tx q s) (hdg : decode cc pc = .ok (.ldc_w index, 3))
    (k : W p l e R s m args below meth c H locs cells slots Q (F0 m (pc + 3) la (.ref q :: rest))) : W p l e R s m args below meth c H locs cells slots Q (F0 m pc la rest) := by
  intro T hT X
  obtain ⟨t, a1, b1⟩ := k T hT X
  refine ⟨t, ?_, b1⟩
  have hA : (Cond.stringRef own index tx).before args s = true := hZ.1
  obtain ⟨kk, cf, i, a', hk, hcf, hcp, -, hr, hev'⟩ := Cond.stringRef_spec hown hA
  have hev : (Term.string own index).eval args s none [] s = some (.ref q) := hZ.2
  cases hev.symm.trans hev'
  obtain ⟨k', hk', he⟩ := X.warmed.alike.2.2 _ _ hk
  have hr' : k'.resolved[index]? = some (some (.string q)) := by
    rcases X.warmed.entry hk hk' index with h | ⟨h, -⟩
    · rw [h]; exact hr
    · rw [hr] at h; cases h
  have hdg' : decode c.code (F0 m pc la rest).pc = .ok (.ldc_w index, 3) := by rw [hb]; exact hdg
  jvm_step X.here [hexec, hdg', ldc_w.wp_string (e := e) (s := T) (f := F0 m pc la rest) X.here.top hk' (by rw [he]; exact hcf) hcp hr']
  exact a1
theorem zc_ldcsw {k index : Nat} {tx : String} (G : ZOk Γ cc "LetterPost" nL (KnC D) (ZC D)) (hk : zsrL[k]? = some (index, tx)) (hd : decode cc pc = .ok (.ldc_w index, 3)) (kk : ZV Γ w (pc + 3) ls (ar (sr w k) :: st)) : ZV Γ w pc ls st := by
  intro la H locs cells slots h
  have hR := zc_rep G h
  obtain ⟨h1, h2⟩ := G.kn.2.2.2.2.2.2.2.2.2.2.1 k _ hk
  have e : sr w k = D.K.2.2.2 k := congrArg (fun x => x.2.2.2 k) hR.2.2.2.2.2.2.2.2.2.1
  have k2 := kk la H locs cells slots h
  rw [e, ar_pos h2] at k2
  exact va_ldcSW G.exec G.bytes G.ow h1 hd k2
def zstv (o : Option Int) (v : Value) : Prop := match o with
  | some x => v = .int (zi x)
  | none => v.isRef = true
theorem zc_stat {j : Nat} {C n ds : String} {o : Option Int} {index : Nat} (G : ZOk Γ cc own nL (KnC D) (ZC D)) (hj : zstatL[j]? = some (C, n, ds, o)) (hlink : Cond.fieldLink own index C n ds ∈ lw_all) (hd : decode cc pc = .ok (.getstatic index, 3)) {la : Array Slot} {H : Heap} {locs : List Loc} {cells slots : Nat} (h : ZH Γ w ls la H locs cells slots) {stv : List Value}
    (kk : ∀ v : Value, zstv o v → Γ.wk H locs cells slots (ZQ Γ) (F0 Γ.m (pc + 3) la (v :: stv))) : Γ.wk H locs cells slots (ZQ Γ) (F0 Γ.m pc la stv) := by
  have hR := zc_rep G h
  obtain ⟨v, hZ, hv⟩ := G.kn.2.2.2.2.2.2.2.2.2.2.2.1 _ (List.mem_of_getElem? hj)
  obtain ⟨cf, kf, fi, f, a, cell, z1, z2, z3, z4, z5, z6, z7, z8⟩ := hZ
  have hlt : a < D.Hf.size := (Array.getElem?_eq_some_iff.mp z5).1
  have hcell : H[a]? = some cell := by rw [hR.2.2.2.2.2.2.1 a hlt (Or.inr (by omega)), z5]
  exact W.gets G.exec G.bytes G.ow (G.kn.2.1 _ hlink _) z1 z2 z3 z4 hcell (by intro q; rw [q] at z6; cases z6) z7 (g := F0 Γ.m pc la stv) rfl hd (kk v (by cases o <;> exact hv))
theorem zc_getsI {j : Nat} {C n ds : String} {x : Int} {index : Nat} (G : ZOk Γ cc own nL (KnC D) (ZC D)) (hj : zstatL[j]? = some (C, n, ds, some x)) (hlink : Cond.fieldLink own index C n ds ∈ lw_all) (hd : decode cc pc = .ok (.getstatic index, 3)) (kk : ZV Γ w (pc + 3) ls (ai x :: st)) : ZV Γ w pc ls st := by
  intro la H locs cells slots h
  refine zc_stat G hj hlink hd h fun v hv => ?_
  have hv : v = .int (zi x) := hv
  subst hv
  exact kk la H locs cells slots h
theorem zc_getsR {j : Nat} {C n ds : String} {index : Nat} (G : ZOk Γ cc own nL (KnC D) (ZC D)) (hj : zstatL[j]? = some (C, n, ds, none)) (hlink : Cond.fieldLink own index C n ds ∈ lw_all) (hd : decode cc pc = .ok (.getstatic index, 3)) (kk : ∀ x : Nat, ZV Γ w (pc + 3) ls (ar x :: st)) : ZV Γ w pc ls st := by
  intro la H locs cells slots h
  refine zc_stat G hj hlink hd h fun v hv => ?_
  have hv : v.isRef = true := hv
  cases v with
  | null => exact kk 0 la H locs cells slots h
  | ref a => exact kk (a + 1) la H locs cells slots h
  | _ => cases hv
end ZCR4
section ZLret
variable {ω : Type} {Γ : ZG ω} {cc : ByteArray} {own : String} {nL : Nat} {Kn : State → Prop} {Z : ZWi ω} {d : Nat} {lim : Nat × Nat} {name : String} {hh : List (Nat × Nat × Nat × Nat)} {w : ω} {pc : Nat} {ls : List (Nat × ZA)} {st : List ZA}
theorem zv_lret {v : Int} (hv : zrl v) (G : ZOk Γ cc own nL Kn Z) (M : ZRm Γ d lim (some .long) name hh) (hd : decode cc pc = .ok (.lreturn, 1)) (hq : Γ.Q (.inl (some (al v))) w) : ZV Γ w pc ls [al v] := by
  intro la H locs cells slots h T hT X
  have hr : Γ.meth.sig.returnType = some .long := M.2.2.2.2.2.2.1
  have hexec := G.exec
  have hb := G.bytes
  obtain ⟨e1, e2, e3, e4⟩ := zh_cells h
  obtain ⟨-, hRp, hlo, -, -, hcR, hsR⟩ := h
  obtain ⟨fs, hret, hrun, hended, hW, hframe⟩ := X.leave (v := some (.long (zj v))) (hlocks := G.locks) (fun h => by rw [hr] at h; cases h)
  have hmeth' : T.vm.method? Γ.m = some Γ.meth := X.method'
  refine ⟨T.setFrames fs, ?_, .inl (some (al v)), w, locs, hrun, hended, hv, hq, by rw [← hT] at hRp; exact hRp, ⟨hW, by rw [e1, e2]; exact hframe⟩, hlo, e3, e4, by rw [e1]; exact hcR, by rw [e2]; exact hsR⟩
  show Steps Γ.p.tables Γ.e Γ.below (T.setTop (F0 Γ.m pc la [.long (zj v)])) (T.setFrames fs)
  jvm_step X.here [X.here.top, hexec, hb, hd, hmeth', hr, narrow]
  (try refine ⟨rfl, ?_⟩); (try refine ⟨rfl, ?_⟩)
  first | (intro acts; rw [hret _ acts rfl rfl rfl]) | rw [hret _ _ rfl rfl rfl]
  exact Steps.refl _
end ZLret
