/-! further rows: named stores, fused compares, calls of the reference's methods -/
section ZMore
theorem zr_k (a : Int) (h1 : -2147483648 ≤ a) (h2 : a ≤ 2147483647) : zr a := ⟨h1, h2⟩
theorem zrl_k (a : Int) (h1 : -9223372036854775808 ≤ a) (h2 : a ≤ 9223372036854775807) : zrl a := ⟨h1, h2⟩
theorem zrl_i {a : Int} (h : zr a) : zrl a := by unfold zr at h; unfold zrl; omega
theorem zr_ite {c : Prop} [Decidable c] {a b : Int} (ha : zr a) (hb : zr b) : zr (if c then a else b) := by split <;> assumption
theorem zrl_ite {c : Prop} [Decidable c] {a b : Int} (ha : zrl a) (hb : zrl b) : zrl (if c then a else b) := by split <;> assumption
theorem zb_ite {c : Prop} [Decidable c] {a b : Int} (ha : a = 0 ∨ a = 1) (hb : b = 0 ∨ b = 1) : (if c then a else b) = 0 ∨ (if c then a else b) = 1 := by split <;> assumption
theorem zn_Z {v : Int} (h : v = 0 ∨ v = 1) : narrow .boolean (.int (zi v)) = .int (zi v) := by rcases h with rfl | rfl <;> decide
theorem zoks_nil : zoks [] := fun v h => by cases h
theorem zoks_cons {v : ZA} {r : List ZA} (h : zok v) (hr : zoks r) : zoks (v :: r) := fun u hu => by
  rcases List.mem_cons.mp hu with rfl | hu
  · exact h
  · exact hr u hu
section
variable {ω : Type} {Γ : ZG ω} {cc : ByteArray} {own : String} {nL : Nat} {Kn : State → Prop} {Z : ZWi ω} {w : ω} {pc : Nat} {ls : List (Nat × ZA)} {st : List ZA}
theorem zv_istore_nN {k : Fin 4} {i : Nat} {x : Int} (G : ZOk Γ cc own nL Kn Z) (hi : (k : Nat) = i) (hn : i < nL) (hd : decode cc pc = .ok (.istore_n k, 1)) (kk : ∀ z, z = x → ZV Γ w (pc + 1) (zst1 ls i (ai z)) st) : ZV Γ w pc ls (ai x :: st) := zv_istore_n G hi hn rfl hd (kk x rfl)
theorem zv_istoreN {i : Nat} {x : Int} (G : ZOk Γ cc own nL Kn Z) (hn : i < nL) (hd : decode cc pc = .ok (.istore i, 2)) (kk : ∀ z, z = x → ZV Γ w (pc + 2) (zst1 ls i (ai z)) st) : ZV Γ w pc ls (ai x :: st) := zv_istore G hn rfl hd (kk x rfl)
theorem zv_lstore_nN {k : Fin 4} {i : Nat} {x : Int} (G : ZOk Γ cc own nL Kn Z) (hi : (k : Nat) = i) (hn : i + 1 < nL) (hd : decode cc pc = .ok (.lstore_n k, 1)) (kk : ∀ z, z = x → ZV Γ w (pc + 1) (zst2 ls i (al z)) st) : ZV Γ w pc ls (al x :: st) := zv_lstore_n G hi hn rfl hd (kk x rfl)
theorem zv_lstoreN {i : Nat} {x : Int} (G : ZOk Γ cc own nL Kn Z) (hn : i + 1 < nL) (hd : decode cc pc = .ok (.lstore i, 2)) (kk : ∀ z, z = x → ZV Γ w (pc + 2) (zst2 ls i (al z)) st) : ZV Γ w pc ls (al x :: st) := zv_lstore G hn rfl hd (kk x rfl)
theorem zv_astore_nN {k : Fin 4} {i : Nat} {x : Nat} (G : ZOk Γ cc own nL Kn Z) (hi : (k : Nat) = i) (hn : i < nL) (hd : decode cc pc = .ok (.astore_n k, 1)) (kk : ∀ z, z = x → ZV Γ w (pc + 1) (zst1 ls i (ar z)) st) : ZV Γ w pc ls (ar x :: st) := zv_astore_n G hi hn rfl hd (kk x rfl)
theorem zv_astoreN {i : Nat} {x : Nat} (G : ZOk Γ cc own nL Kn Z) (hn : i < nL) (hd : decode cc pc = .ok (.astore i, 2)) (kk : ∀ z, z = x → ZV Γ w (pc + 2) (zst1 ls i (ar z)) st) : ZV Γ w pc ls (ar x :: st) := zv_astore G hn rfl hd (kk x rfl)
theorem zv_iincN {i : Nat} {n x : Int} (G : ZOk Γ cc own nL Kn Z) (hl : zlk ls i = some (ai x)) (hn : i < nL) (hd : decode cc pc = .ok (.iinc i n, 3)) (kk : ∀ z, z = w32 (x + n) → ZV Γ w (pc + 3) (zst1 ls i (ai z)) st) : ZV Γ w pc ls st := zv_iinc G hl rfl hn rfl hd (kk _ rfl)
theorem zv_lif_eq {x y : Int} {off : Int} {tgt : Nat} (G : ZOk Γ cc own nL Kn Z) (ht : (pc : Int) + off = (tgt : Int)) (hd : decode cc pc = .ok (.ifCond .eq off, 3)) (kt : x = y → ZV Γ w tgt ls st) (kf : ¬ x = y → ZV Γ w (pc + 3) ls st) : ZV Γ w pc ls (ai (l_cmp x y) :: st) := zv_if_eq G (l_cmp_r x y) ht hd (fun q => kt (by unfold l_cmp at q; split at q <;> (try split at q) <;> omega)) (fun q => kf (by unfold l_cmp at q; split at q <;> (try split at q) <;> omega))
theorem zv_lif_ne {x y : Int} {off : Int} {tgt : Nat} (G : ZOk Γ cc own nL Kn Z) (ht : (pc : Int) + off = (tgt : Int)) (hd : decode cc pc = .ok (.ifCond .ne off, 3)) (kt : ¬ x = y → ZV Γ w tgt ls st) (kf : x = y → ZV Γ w (pc + 3) ls st) : ZV Γ w pc ls (ai (l_cmp x y) :: st) := zv_if_ne G (l_cmp_r x y) ht hd (fun q => kt (by unfold l_cmp at q; split at q <;> (try split at q) <;> omega)) (fun q => kf (by unfold l_cmp at q; split at q <;> (try split at q) <;> omega))
theorem zv_lif_lt {x y : Int} {off : Int} {tgt : Nat} (G : ZOk Γ cc own nL Kn Z) (ht : (pc : Int) + off = (tgt : Int)) (hd : decode cc pc = .ok (.ifCond .lt off, 3)) (kt : x < y → ZV Γ w tgt ls st) (kf : ¬ x < y → ZV Γ w (pc + 3) ls st) : ZV Γ w pc ls (ai (l_cmp x y) :: st) := zv_if_lt G (l_cmp_r x y) ht hd (fun q => kt (by unfold l_cmp at q; split at q <;> (try split at q) <;> omega)) (fun q => kf (by unfold l_cmp at q; split at q <;> (try split at q) <;> omega))
theorem zv_lif_ge {x y : Int} {off : Int} {tgt : Nat} (G : ZOk Γ cc own nL Kn Z) (ht : (pc : Int) + off = (tgt : Int)) (hd : decode cc pc = .ok (.ifCond .ge off, 3)) (kt : y ≤ x → ZV Γ w tgt ls st) (kf : ¬ y ≤ x → ZV Γ w (pc + 3) ls st) : ZV Γ w pc ls (ai (l_cmp x y) :: st) := zv_if_ge G (l_cmp_r x y) ht hd (fun q => kt (by unfold l_cmp at q; split at q <;> (try split at q) <;> omega)) (fun q => kf (by unfold l_cmp at q; split at q <;> (try split at q) <;> omega))
theorem zv_lif_gt {x y : Int} {off : Int} {tgt : Nat} (G : ZOk Γ cc own nL Kn Z) (ht : (pc : Int) + off = (tgt : Int)) (hd : decode cc pc = .ok (.ifCond .gt off, 3)) (kt : y < x → ZV Γ w tgt ls st) (kf : ¬ y < x → ZV Γ w (pc + 3) ls st) : ZV Γ w pc ls (ai (l_cmp x y) :: st) := zv_if_gt G (l_cmp_r x y) ht hd (fun q => kt (by unfold l_cmp at q; split at q <;> (try split at q) <;> omega)) (fun q => kf (by unfold l_cmp at q; split at q <;> (try split at q) <;> omega))
theorem zv_lif_le {x y : Int} {off : Int} {tgt : Nat} (G : ZOk Γ cc own nL Kn Z) (ht : (pc : Int) + off = (tgt : Int)) (hd : decode cc pc = .ok (.ifCond .le off, 3)) (kt : x ≤ y → ZV Γ w tgt ls st) (kf : ¬ x ≤ y → ZV Γ w (pc + 3) ls st) : ZV Γ w pc ls (ai (l_cmp x y) :: st) := zv_if_le G (l_cmp_r x y) ht hd (fun q => kt (by unfold l_cmp at q; split at q <;> (try split at q) <;> omega)) (fun q => kf (by unfold l_cmp at q; split at q <;> (try split at q) <;> omega))
end
section
variable {Γ : ZG TW} {cc : ByteArray} {nL d : Nat} {D : TD} {B0 : Nat} {lim : Nat × Nat} {rt' : Option FieldType} {name : String} {hh : List (Nat × Nat × Nat × Nat)} {w : TW} {pc : Nat} {ls : List (Nat × ZA)} {st as : List ZA} {y : MethodName} {bytes : ByteArray} {maxL n index : Nat} {rt : Option FieldType}
theorem zt_rc (G : ZOk Γ cc RX1 nL (KnT D B0) (ZT D B0)) : ZRc Γ w (D.x + 1) RX1 := by
  refine ⟨by omega, fun H hH => ?_⟩
  rw [G.z] at hH
  obtain ⟨-, -, ⟨cell, c1, c2, c3, c4⟩, -, -⟩ := (hH : RepT D w H)
  obtain ⟨-, -, ⟨-, hfc, kC, hkC, -⟩, -⟩ := G.kn
  exact ⟨cell, c1, by rw [c3]; rfl, by rw [c2]; exact hfc, kC, by rw [c2]; exact hkC⟩
theorem zt_callI {K : Int → TW → Prop} (G : ZOk Γ cc RX1 nL (KnT D B0) (ZT D B0)) (M : ZRm Γ (d + 1) lim rt' name hh) (hM : ZMX Γ.l (KnT D B0) (ZT D B0) y (Cond.code y bytes maxL rt) d lim (ar (D.x + 1) :: as) w (zqI K zno)) (hl : Cond.methodLink RX1 index y ∈ lw_all) (hi : Cond.instanceMethod y ∈ lw_all) (hs : Cond.selects RX1 y y ∈ lw_all) (hc : Cond.code y bytes maxL rt ∈ lw_all) (hy : ZMd y n) (hlen : as.length = n) (hm : maxL ≤ 45) (hst : (st.map zcat).sum ≤ 8)
    (hd : decode cc pc = .ok (.invokevirtual index, 3)) (kv : ∀ v w', zr v → K v w' → ZV Γ w' (pc + 3) ls (ai v :: st)) (hcls : y.cls = RX1 := by rfl) : ZV Γ w pc ls ((ar (D.x + 1) :: as).reverse ++ st) := by
  have hK := G.kn.2.1
  exact zv_callI G M (zen_V G (hK _ hl _) (hK _ hi _) (hK _ hs _) (Or.inl ⟨rfl, rfl⟩) (hK _ hc _) hy (zt_rc G) hlen hd) hM (Or.inl ⟨rfl, rfl⟩) (fun U a hU => ⟨hU.2.1 _ hc a, by rw [hcls]; exact hU.2.1 _ q144 a⟩) hm hst kv (fun x w' q => q.elim)
theorem zt_callSI {K : Int → TW → Prop} (G : ZOk Γ cc RX1 nL (KnT D B0) (ZT D B0)) (M : ZRm Γ (d + 1) lim rt' name hh) (hM : ZMX Γ.l (KnT D B0) (ZT D B0) y (Cond.code y bytes maxL rt) d lim (as) w (zqI K zno)) (hl : Cond.methodLink RX1 index y ∈ lw_all) (hs : Cond.static y ∈ lw_all) (hc : Cond.code y bytes maxL rt ∈ lw_all) (hy : ZMd y n) (hlen : as.length = n) (hm : maxL ≤ 45) (hst : (st.map zcat).sum ≤ 8)
    (hd : decode cc pc = .ok (.invokestatic index, 3)) (kv : ∀ v w', zr v → K v w' → ZV Γ w' (pc + 3) ls (ai v :: st)) (hcls : y.cls = RX1 := by rfl) : ZV Γ w pc ls ((as).reverse ++ st) := by
  have hK := G.kn.2.1
  exact zv_callI G M (zen_S G (hK _ hl _) (hK _ hs _) (by rw [hcls]; exact hK _ q144 _) (Cond.code_named (hK _ hc Γ.args)) (Or.inl ⟨rfl, rfl⟩) (hK _ hc _) hy hlen hd) hM (Or.inl ⟨rfl, rfl⟩) (fun U a hU => ⟨hU.2.1 _ hc a, by rw [hcls]; exact hU.2.1 _ q144 a⟩) hm hst kv (fun x w' q => q.elim)
theorem zt_callL {K : Int → TW → Prop} (G : ZOk Γ cc RX1 nL (KnT D B0) (ZT D B0)) (M : ZRm Γ (d + 1) lim rt' name hh) (hM : ZMX Γ.l (KnT D B0) (ZT D B0) y (Cond.code y bytes maxL rt) d lim (ar (D.x + 1) :: as) w (zqL K zno)) (hl : Cond.methodLink RX1 index y ∈ lw_all) (hi : Cond.instanceMethod y ∈ lw_all) (hs : Cond.selects RX1 y y ∈ lw_all) (hc : Cond.code y bytes maxL rt ∈ lw_all) (hy : ZMd y n) (hlen : as.length = n) (hm : maxL ≤ 45) (hst : (st.map zcat).sum ≤ 8)
    (hd : decode cc pc = .ok (.invokevirtual index, 3)) (kv : ∀ v w', zrl v → K v w' → ZV Γ w' (pc + 3) ls (al v :: st)) (hcls : y.cls = RX1 := by rfl) : ZV Γ w pc ls ((ar (D.x + 1) :: as).reverse ++ st) := by
  have hK := G.kn.2.1
  exact zv_callL G M (zen_V G (hK _ hl _) (hK _ hi _) (hK _ hs _) (Or.inl ⟨rfl, rfl⟩) (hK _ hc _) hy (zt_rc G) hlen hd) hM (Or.inl ⟨rfl, rfl⟩) (fun U a hU => ⟨hU.2.1 _ hc a, by rw [hcls]; exact hU.2.1 _ q144 a⟩) hm hst kv (fun x w' q => q.elim)
theorem zt_callSL {K : Int → TW → Prop} (G : ZOk Γ cc RX1 nL (KnT D B0) (ZT D B0)) (M : ZRm Γ (d + 1) lim rt' name hh) (hM : ZMX Γ.l (KnT D B0) (ZT D B0) y (Cond.code y bytes maxL rt) d lim (as) w (zqL K zno)) (hl : Cond.methodLink RX1 index y ∈ lw_all) (hs : Cond.static y ∈ lw_all) (hc : Cond.code y bytes maxL rt ∈ lw_all) (hy : ZMd y n) (hlen : as.length = n) (hm : maxL ≤ 45) (hst : (st.map zcat).sum ≤ 8)
    (hd : decode cc pc = .ok (.invokestatic index, 3)) (kv : ∀ v w', zrl v → K v w' → ZV Γ w' (pc + 3) ls (al v :: st)) (hcls : y.cls = RX1 := by rfl) : ZV Γ w pc ls ((as).reverse ++ st) := by
  have hK := G.kn.2.1
  exact zv_callL G M (zen_S G (hK _ hl _) (hK _ hs _) (by rw [hcls]; exact hK _ q144 _) (Cond.code_named (hK _ hc Γ.args)) (Or.inl ⟨rfl, rfl⟩) (hK _ hc _) hy hlen hd) hM (Or.inl ⟨rfl, rfl⟩) (fun U a hU => ⟨hU.2.1 _ hc a, by rw [hcls]; exact hU.2.1 _ q144 a⟩) hm hst kv (fun x w' q => q.elim)
theorem zt_callV {K : TW → Prop} (G : ZOk Γ cc RX1 nL (KnT D B0) (ZT D B0)) (M : ZRm Γ (d + 1) lim rt' name hh) (hM : ZMX Γ.l (KnT D B0) (ZT D B0) y (Cond.code y bytes maxL rt) d lim (ar (D.x + 1) :: as) w (zqV K zno)) (hl : Cond.methodLink RX1 index y ∈ lw_all) (hi : Cond.instanceMethod y ∈ lw_all) (hs : Cond.selects RX1 y y ∈ lw_all) (hc : Cond.code y bytes maxL rt ∈ lw_all) (hy : ZMd y n) (hlen : as.length = n) (hm : maxL ≤ 45) (hst : (st.map zcat).sum ≤ 8)
    (hd : decode cc pc = .ok (.invokevirtual index, 3)) (kv : ∀ w', K w' → ZV Γ w' (pc + 3) ls st) (hcls : y.cls = RX1 := by rfl) : ZV Γ w pc ls ((ar (D.x + 1) :: as).reverse ++ st) := by
  have hK := G.kn.2.1
  exact zv_callV G M (zen_V G (hK _ hl _) (hK _ hi _) (hK _ hs _) (Or.inl ⟨rfl, rfl⟩) (hK _ hc _) hy (zt_rc G) hlen hd) hM (Or.inl ⟨rfl, rfl⟩) (fun U a hU => ⟨hU.2.1 _ hc a, by rw [hcls]; exact hU.2.1 _ q144 a⟩) hm hst kv (fun x w' q => q.elim)
theorem zt_callSV {K : TW → Prop} (G : ZOk Γ cc RX1 nL (KnT D B0) (ZT D B0)) (M : ZRm Γ (d + 1) lim rt' name hh) (hM : ZMX Γ.l (KnT D B0) (ZT D B0) y (Cond.code y bytes maxL rt) d lim (as) w (zqV K zno)) (hl : Cond.methodLink RX1 index y ∈ lw_all) (hs : Cond.static y ∈ lw_all) (hc : Cond.code y bytes maxL rt ∈ lw_all) (hy : ZMd y n) (hlen : as.length = n) (hm : maxL ≤ 45) (hst : (st.map zcat).sum ≤ 8)
    (hd : decode cc pc = .ok (.invokestatic index, 3)) (kv : ∀ w', K w' → ZV Γ w' (pc + 3) ls st) (hcls : y.cls = RX1 := by rfl) : ZV Γ w pc ls ((as).reverse ++ st) := by
  have hK := G.kn.2.1
  exact zv_callV G M (zen_S G (hK _ hl _) (hK _ hs _) (by rw [hcls]; exact hK _ q144 _) (Cond.code_named (hK _ hc Γ.args)) (Or.inl ⟨rfl, rfl⟩) (hK _ hc _) hy hlen hd) hM (Or.inl ⟨rfl, rfl⟩) (fun U a hU => ⟨hU.2.1 _ hc a, by rw [hcls]; exact hU.2.1 _ q144 a⟩) hm hst kv (fun x w' q => q.elim)
end
end ZMore
