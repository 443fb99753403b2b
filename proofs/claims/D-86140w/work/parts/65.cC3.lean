/-! walks of the component's methods, printed by tools/comp.py -/
section ZCC3
set_option maxHeartbeats 4000000 in
set_option maxRecDepth 100000 in
theorem cpC_X2_init_0 {Γ : ZG CW} {D : CD} {d p : Nat} (hp : D.K.1 = p) (G : ZOk Γ cX2_init RX2 3 (KnC D) (ZC D)) (M : ZRm Γ (d + 1) D.lim (Option.none : Option Jvm.ClassFile.FieldType) "<init>" []) (S : SdC d D p Γ.l) (hl : Γ.l.stackTraces = false) (hk : 0 ≤ d) {x0 : Nat} {x1 : Int} {x2 : Int} {w : CW} (rx1 : zr x1) (rx2 : zr x2) (h : pC_X2_init_0 p (wpC p d) (fun w => Γ.Q (.inl none) w) x0 x1 x2 w) : ZV Γ w 0 [(0, ar x0), (1, ai x1), (2, ai x2)] [] := by
  refine zc_wk G hp (fun hw tw => ?_)
  refine zv_aload_n G rfl rfl dX2_init_0 ?_
  refine zv_null G dX2_init_1 ?_
  refine zv_null G dX2_init_2 ?_
  refine zv_iconst (a := 0) G (by decide) dX2_init_3 ?_
  refine zv_iconst (a := 0) G (by decide) dX2_init_4 ?_
  have o7 := h.1
  have h := h.2
  refine zv_callV (as := [ar x0, ar 0, ar 0, ai 0, ai 0]) (st := []) G M (zc_eI G rfl q282 q283 q284 md_J1_init o7 rfl dX2_init_5) (S 205 _ rfl _ _ _ h (zoks_cons trivial (zoks_cons trivial (zoks_cons trivial (zoks_cons (zr_k 0 (by decide) (by decide)) (zoks_cons (zr_k 0 (by decide) (by decide)) zoks_nil)))))) (Or.inl ⟨rfl, rfl⟩) (zc_hk q284 q146) (by decide) (Nat.le_of_ble_eq_true rfl) (fun u1 h => ?_) (fun _ _ h => h.elim)
  refine zc_wk G hp (fun hu1 tu1 => ?_)
  refine zv_aload_n G rfl rfl dX2_init_8 ?_
  refine zv_iload_n G rfl rfl dX2_init_9 ?_
  have o4 := h.1
  have h := h.2
  refine zc_putI (f := 35) G M o4 rfl q288 (Or.inl rfl) (Or.inr ⟨rfl, rfl, rfl⟩) (zfty_35) rfl rfl (by decide) (by decide) rx1 dX2_init_10 (fun u3 eu3 => ?_)
  have h := h u3 eu3
  refine zc_wk G hp (fun hu3 tu3 => ?_)
  refine zv_aload_n G rfl rfl dX2_init_13 ?_
  refine zv_iload_n G rfl rfl dX2_init_14 ?_
  have o6 := h.1
  have h := h.2
  refine zc_putI (f := 36) G M o6 rfl q290 (Or.inl rfl) (Or.inr ⟨rfl, rfl, rfl⟩) (zfty_36) rfl rfl (by decide) (by decide) rx2 dX2_init_15 (fun u5 eu5 => ?_)
  have h := h u5 eu5
  refine zc_wk G hp (fun hu5 tu5 => ?_)
  exact zv_vret G M dX2_init_18 h
set_option maxHeartbeats 4000000 in
set_option maxRecDepth 100000 in
theorem cpC_X3_init_0 {Γ : ZG CW} {D : CD} {d p : Nat} (hp : D.K.1 = p) (G : ZOk Γ cX3_init RX3 5 (KnC D) (ZC D)) (M : ZRm Γ (d + 1) D.lim (Option.none : Option Jvm.ClassFile.FieldType) "<init>" []) (S : SdC d D p Γ.l) (hl : Γ.l.stackTraces = false) (hk : 0 ≤ d) {x0 : Nat} {x1 : Int} {x2 : Int} {x4 : Nat} {w : CW} (rx1 : zr x1) (rx2 : zrl x2) (h : pC_X3_init_0 p (wpC p d) (fun w => Γ.Q (.inl none) w) x0 x1 x2 x4 w) : ZV Γ w 0 [(0, ar x0), (1, ai x1), (2, al x2), (4, ar x4)] [] := by
  refine zc_wk G hp (fun hw tw => ?_)
  refine zv_aload_n G rfl rfl dX3_init_0 ?_
  have o2 := h.1
  have h := h.2
  refine zc_oinit G M q681 q262 q263 o2 (Nat.le_of_ble_eq_true rfl) dX3_init_1 ?_
  refine zv_aload_n G rfl rfl dX3_init_4 ?_
  refine zv_iconst (a := 4) G (by decide) dX3_init_5 ?_
  have o4 := h.1
  have h := h.2
  refine zc_newa (t := 102) (ty := .int) G M (by decide) rfl rfl (fun z => z) (by decide) rfl q708 o4.1 o4.2 dX3_init_6 (fun u3 eu3 => ?_)
  have h := h u3 eu3
  refine zc_wk G hp (fun hu3 tu3 => ?_)
  have o6 := h.1
  have h := h.2
  refine zc_putR (f := 41) G M o6 rfl q691 (Or.inl rfl) (Or.inr ⟨rfl, rfl, rfl⟩) (zfty_41) (Or.inr ⟨_, rfl⟩) rfl dX3_init_8 (fun u5 eu5 => ?_)
  have h := h u5 eu5
  refine zc_wk G hp (fun hu5 tu5 => ?_)
  refine zv_aload_n G rfl rfl dX3_init_11 ?_
  refine zv_iload_n G rfl rfl dX3_init_12 ?_
  have o8 := h.1
  have h := h.2
  refine zc_putI (f := 37) G M o8 rfl q682 (Or.inl rfl) (Or.inr ⟨rfl, rfl, rfl⟩) (zfty_37) rfl rfl (by decide) (by decide) rx1 dX3_init_13 (fun u7 eu7 => ?_)
  have h := h u7 eu7
  refine zc_wk G hp (fun hu7 tu7 => ?_)
  refine zv_aload_n G rfl rfl dX3_init_16 ?_
  refine zv_lload_n G rfl rfl dX3_init_17 ?_
  have o10 := h.1
  have h := h.2
  refine zc_putL (f := 38) G M o10 rfl q685 (Or.inl rfl) (Or.inr ⟨rfl, rfl, rfl⟩) (zfty_38) rfl rfl rfl rx2 dX3_init_18 (fun u9 eu9 => ?_)
  have h := h u9 eu9
  refine zc_wk G hp (fun hu9 tu9 => ?_)
  refine zv_aload_n G rfl rfl dX3_init_21 ?_
  refine zv_aload G rfl dX3_init_22 ?_
  have o12 := h.1
  have h := h.2
  refine zc_putR (f := 39) G M o12 rfl q687 (Or.inl rfl) (Or.inr ⟨rfl, rfl, rfl⟩) (zfty_39) (Or.inl ⟨_, rfl⟩) rfl dX3_init_24 (fun u11 eu11 => ?_)
  have h := h u11 eu11
  refine zc_wk G hp (fun hu11 tu11 => ?_)
  exact zv_vret G M dX3_init_27 h
set_option maxHeartbeats 4000000 in
set_option maxRecDepth 100000 in
theorem cpC_X3_is_19 {Γ : ZG CW} {D : CD} {d p : Nat} (hp : D.K.1 = p) (G : ZOk Γ cX3_is RX3 3 (KnC D) (ZC D)) (M : ZRm Γ (d + 1) D.lim (Option.some Jvm.ClassFile.FieldType.boolean) "is" []) (S : SdC d D p Γ.l) (hl : Γ.l.stackTraces = false) (hk : 0 ≤ d) {x2 : Nat} {w : CW} (h : pC_X3_is_19 p (wpC p d) (fun v w => Γ.Q (.inl (some (ai v))) w) x2 w) : ZV Γ w 19 [(2, ar x2)] [] := by
  refine zc_wk G hp (fun hw tw => ?_)
  refine zv_aload_n G rfl rfl dX3_is_19 ?_
  have kj4 : ∀ v3 : Int, v3 = (if ¬ (x2 = 0) then 1 else 0) → ZV Γ w 28 [(2, ar x2)] (ai v3 :: []) := by
    intro v3 ev3
    have h := h v3 ev3
    have rv3 : zr v3 := by rw [ev3]; exact (zr_ite (zr_k 1 (by decide) (by decide)) (zr_k 0 (by decide) (by decide)))
    have bv3 : v3 = 0 ∨ v3 = 1 := by rw [ev3]; exact (zb_ite (Or.inr rfl) (Or.inl rfl))
    exact zv_iret (ty := .boolean) rv3 G M (zn_Z bv3) dX3_is_28 h
  refine zv_ifnull (tgt := 27) G (by decide) dX3_is_20 (fun c5 => ?_) (fun c5 => ?_)
  · refine zv_iconst (a := 0) G (by decide) dX3_is_27 ?_
    exact kj4 _ (if_neg (fun q => q c5)).symm
  · refine zv_iconst (a := 1) G (by decide) dX3_is_23 ?_
    refine zv_goto (tgt := 28) G (by decide) dX3_is_24 ?_
    exact kj4 _ (if_pos c5).symm
set_option maxHeartbeats 4000000 in
set_option maxRecDepth 100000 in
theorem cpC_X3_is_2 {Γ : ZG CW} {D : CD} {d p : Nat} (hp : D.K.1 = p) (G : ZOk Γ cX3_is RX3 3 (KnC D) (ZC D)) (M : ZRm Γ (d + 1) D.lim (Option.some Jvm.ClassFile.FieldType.boolean) "is" []) (S : SdC d D p Γ.l) (hl : Γ.l.stackTraces = false) (hk : 0 ≤ d) {x1 : Nat} {x2 : Nat} {w : CW} (h : pC_X3_is_2 p (wpC p d) (fun v w => Γ.Q (.inl (some (ai v))) w) x1 x2 w) : ZV Γ w 2 [(1, ar x1), (2, ar x2)] [] := by
  obtain ⟨I2, eI2⟩ : ∃ I : Nat → CW → Prop, I = (fun x2 w => ZV Γ w 2 [(1, ar x1), (2, ar x2)] []) := ⟨_, rfl⟩
  have hI2 : ∀ (x2 : Nat) (w : CW), I2 x2 w → ZV Γ w 2 [(1, ar x1), (2, ar x2)] [] := by subst eI2; exact fun _ _ z => z
  have hJ2 : ∀ (x2 : Nat) (w : CW), (ZV Γ w 2 [(1, ar x1), (2, ar x2)] []) → I2 x2 w := by subst eI2; exact fun _ _ z => z
  refine hI2 x2 w (h I2 (fun x2 w h => hJ2 x2 w ?_)) 
  refine zc_wk G hp (fun hw tw => ?_)
  refine zv_aload_n G rfl rfl dX3_is_2 ?_
  have kt6 : ¬ (x2 = 0) ∧ (¬ (x2 = x1)) → ZV Γ w 11 [(1, ar x1), (2, ar x2)] [] := by
    intro c8
    have h := h.1 c8
    refine zv_aload_n G rfl rfl dX3_is_11 ?_
    have o1 := h.1
    have h := h.2
    refine zc_get (f := 39) (v := ar (fR w 39 x2)) G o1 rfl q687 (Or.inl rfl) (cV_R rfl) dX3_is_12 ?_
    refine zv_astore_nN G rfl (by decide) dX3_is_15 (fun x2_2 ex2_2 => ?_)
    have h := h x2_2 ex2_2
    refine zv_goto (tgt := 2) G (by decide) dX3_is_16 ?_
    exact zv_pick [1, 2] rfl (hI2 _ _ h )
  have kf7 : ¬ (¬ (x2 = 0) ∧ (¬ (x2 = x1))) → ZV Γ w 19 [(1, ar x1), (2, ar x2)] [] := by
    intro c8
    have h := h.2 c8
    exact zv_pick [2] rfl (cpC_X3_is_19 hp G M S hl hk h)
  refine zv_ifnull (tgt := 19) G (by decide) dX3_is_3 (fun c9 => ?_) (fun c9 => ?_)
  · exact kf7 (fun q => q.1 c9)
  · refine zv_aload_n G rfl rfl dX3_is_6 ?_
    refine zv_aload_n G rfl rfl dX3_is_7 ?_
    refine zv_acmp_eq (tgt := 19) G (by decide) dX3_is_8 (fun c10 => ?_) (fun c10 => ?_)
    · exact kf7 (fun q => (fun q => q c10) q.2)
    · exact kt6 ⟨c9, c10⟩
set_option maxHeartbeats 4000000 in
set_option maxRecDepth 100000 in
theorem cpC_X3_is_0 {Γ : ZG CW} {D : CD} {d p : Nat} (hp : D.K.1 = p) (G : ZOk Γ cX3_is RX3 3 (KnC D) (ZC D)) (M : ZRm Γ (d + 1) D.lim (Option.some Jvm.ClassFile.FieldType.boolean) "is" []) (S : SdC d D p Γ.l) (hl : Γ.l.stackTraces = false) (hk : 0 ≤ d) {x0 : Nat} {x1 : Nat} {w : CW} (h : pC_X3_is_0 p (wpC p d) (fun v w => Γ.Q (.inl (some (ai v))) w) x0 x1 w) : ZV Γ w 0 [(0, ar x0), (1, ar x1)] [] := by
  refine zc_wk G hp (fun hw tw => ?_)
  refine zv_aload_n G rfl rfl dX3_is_0 ?_
  refine zv_astore_n G rfl (by decide) rfl dX3_is_1 ?_
  exact zv_pick [1, 2] rfl (cpC_X3_is_2 hp G M S hl hk h)
set_option maxHeartbeats 4000000 in
set_option maxRecDepth 100000 in
theorem cpC_X4_init_0 {Γ : ZG CW} {D : CD} {d p : Nat} (hp : D.K.1 = p) (G : ZOk Γ cX4_init RX4 5 (KnC D) (ZC D)) (M : ZRm Γ (d + 1) D.lim (Option.none : Option Jvm.ClassFile.FieldType) "<init>" []) (S : SdC d D p Γ.l) (hl : Γ.l.stackTraces = false) (hk : 0 ≤ d) {x0 : Nat} {x1 : Nat} {x2 : Int} {x3 : Int} {w : CW} (rx2 : zr x2) (rx3 : zrl x3) (h : pC_X4_init_0 p (wpC p d) (fun w => Γ.Q (.inl none) w) x0 x1 x2 x3 w) : ZV Γ w 0 [(0, ar x0), (1, ar x1), (2, ai x2), (3, al x3)] [] := by
  refine zc_wk G hp (fun hw tw => ?_)
  refine zv_aload_n G rfl rfl dX4_init_0 ?_
  refine zv_aload_n G rfl rfl dX4_init_1 ?_
  have o2 := h.1
  have h := h.2
  refine zc_putR (f := 55) G M o2 rfl q766 (Or.inl rfl) (Or.inr ⟨rfl, rfl, rfl⟩) (zfty_55) (Or.inl ⟨_, rfl⟩) rfl dX4_init_2 (fun u1 eu1 => ?_)
  have h := h u1 eu1
  refine zc_wk G hp (fun hu1 tu1 => ?_)
  refine zv_aload_n G rfl rfl dX4_init_5 ?_
  have o4 := h.1
  have h := h.2
  refine zc_oinit G M q738 q262 q263 o4 (Nat.le_of_ble_eq_true rfl) dX4_init_6 ?_
  refine zv_aload_n G rfl rfl dX4_init_9 ?_
  refine zv_iconst (a := 3) G (by decide) dX4_init_10 ?_
  have o6 := h.1
  have h := h.2
  refine zc_newa (t := 102) (ty := .int) G M (by decide) rfl rfl (fun z => z) (by decide) rfl q708 o6.1 o6.2 dX4_init_11 (fun u5 eu5 => ?_)
  have h := h u5 eu5
  refine zc_wk G hp (fun hu5 tu5 => ?_)
  have o8 := h.1
  have h := h.2
  refine zc_putR (f := 45) G M o8 rfl q747 (Or.inl rfl) (Or.inr ⟨rfl, rfl, rfl⟩) (zfty_45) (Or.inr ⟨_, rfl⟩) rfl dX4_init_13 (fun u7 eu7 => ?_)
  have h := h u7 eu7
  refine zc_wk G hp (fun hu7 tu7 => ?_)
  refine zv_aload_n G rfl rfl dX4_init_16 ?_
  refine zv_bipush (a := 16) G (by decide) dX4_init_17 ?_
  have o10 := h.1
  have h := h.2
  refine zc_anew (t := 117) G M (by decide) q739 o10.1 o10.2 dX4_init_19 (fun u9 eu9 => ?_)
  have h := h u9 eu9
  refine zc_wk G hp (fun hu9 tu9 => ?_)
  have o12 := h.1
  have h := h.2
  refine zc_putR (f := 47) G M o12 rfl q751 (Or.inl rfl) (Or.inr ⟨rfl, rfl, rfl⟩) (zfty_47) (Or.inr ⟨_, rfl⟩) rfl dX4_init_22 (fun u11 eu11 => ?_)
  have h := h u11 eu11
  refine zc_wk G hp (fun hu11 tu11 => ?_)
  refine zv_aload_n G rfl rfl dX4_init_25 ?_
  refine zv_sipush (a := 900) G (by decide) dX4_init_26 ?_
  have o14 := h.1
  have h := h.2
  refine zc_anew (t := 115) G M (by decide) q741 o14.1 o14.2 dX4_init_29 (fun u13 eu13 => ?_)
  have h := h u13 eu13
  refine zc_wk G hp (fun hu13 tu13 => ?_)
  have o16 := h.1
  have h := h.2
  refine zc_putR (f := 50) G M o16 rfl q757 (Or.inl rfl) (Or.inr ⟨rfl, rfl, rfl⟩) (zfty_50) (Or.inr ⟨_, rfl⟩) rfl dX4_init_32 (fun u15 eu15 => ?_)
  have h := h u15 eu15
  refine zc_wk G hp (fun hu15 tu15 => ?_)
  refine zv_aload_n G rfl rfl dX4_init_35 ?_
  refine zv_iload_n G rfl rfl dX4_init_36 ?_
  have o18 := h.1
  have h := h.2
  refine zc_putI (f := 43) G M o18 rfl q743 (Or.inl rfl) (Or.inr ⟨rfl, rfl, rfl⟩) (zfty_43) rfl rfl (by decide) (by decide) rx2 dX4_init_37 (fun u17 eu17 => ?_)
  have h := h u17 eu17
  refine zc_wk G hp (fun hu17 tu17 => ?_)
  refine zv_aload_n G rfl rfl dX4_init_40 ?_
  refine zv_lload_n G rfl rfl dX4_init_41 ?_
  have o20 := h.1
  have h := h.2
  refine zc_putL (f := 44) G M o20 rfl q745 (Or.inl rfl) (Or.inr ⟨rfl, rfl, rfl⟩) (zfty_44) rfl rfl rfl rx3 dX4_init_42 (fun u19 eu19 => ?_)
  have h := h u19 eu19
  refine zc_wk G hp (fun hu19 tu19 => ?_)
  exact zv_vret G M dX4_init_45 h
set_option maxHeartbeats 4000000 in
set_option maxRecDepth 100000 in
theorem cpC_X4_count_30 {Γ : ZG CW} {D : CD} {d p : Nat} (hp : D.K.1 = p) (G : ZOk Γ cX4_count RX4 4 (KnC D) (ZC D)) (M : ZRm Γ (d + 1) D.lim (Option.some Jvm.ClassFile.FieldType.int) "count" []) (S : SdC d D p Γ.l) (hl : Γ.l.stackTraces = false) (hk : 0 ≤ d) {x2 : Int} {w : CW} (rx2 : zr x2) (h : pC_X4_count_30 p (wpC p d) (fun v w => Γ.Q (.inl (some (ai v))) w) x2 w) : ZV Γ w 30 [(2, ai x2)] [] := by
  refine zc_wk G hp (fun hw tw => ?_)
  refine zv_iload_n G rfl rfl dX4_count_30 ?_
  exact zv_iret (ty := .int) rx2 G M rfl dX4_count_31 h
set_option maxHeartbeats 4000000 in
set_option maxRecDepth 100000 in
theorem cpC_X4_count_4 {Γ : ZG CW} {D : CD} {d p : Nat} (hp : D.K.1 = p) (G : ZOk Γ cX4_count RX4 4 (KnC D) (ZC D)) (M : ZRm Γ (d + 1) D.lim (Option.some Jvm.ClassFile.FieldType.int) "count" []) (S : SdC d D p Γ.l) (hl : Γ.l.stackTraces = false) (hk : 0 ≤ d) {x0 : Nat} {x1 : Int} {x2 : Int} {x3 : Int} {w : CW} (rx1 : zr x1) (rx2 : zr x2) (rx3 : zr x3) (h : pC_X4_count_4 p (wpC p d) (fun v w => Γ.Q (.inl (some (ai v))) w) x0 x1 x2 x3 w) : ZV Γ w 4 [(0, ar x0), (1, ai x1), (2, ai x2), (3, ai x3)] [] := by
  obtain ⟨I4, eI4⟩ : ∃ I : Int → Int → CW → Prop, I = (fun x2 x3 w => zr x2 → zr x3 → ZV Γ w 4 [(0, ar x0), (1, ai x1), (2, ai x2), (3, ai x3)] []) := ⟨_, rfl⟩
  have hI4 : ∀ (x2 : Int) (x3 : Int) (w : CW), I4 x2 x3 w → zr x2 → zr x3 → ZV Γ w 4 [(0, ar x0), (1, ai x1), (2, ai x2), (3, ai x3)] [] := by subst eI4; exact fun _ _ _ z => z
  have hJ4 : ∀ (x2 : Int) (x3 : Int) (w : CW), (zr x2 → zr x3 → ZV Γ w 4 [(0, ar x0), (1, ai x1), (2, ai x2), (3, ai x3)] []) → I4 x2 x3 w := by subst eI4; exact fun _ _ _ z => z
  refine hI4 x2 x3 w (h I4 (fun x2 x3 w h => hJ4 x2 x3 w (fun rx2 rx3 => ?_))) rx2 rx3
  refine zc_wk G hp (fun hw tw => ?_)
  refine zv_iload_n G rfl rfl dX4_count_4 ?_
  refine zv_iload_n G rfl rfl dX4_count_5 ?_
  refine zv_icmp_ge (tgt := 30) G rx3 rx1 (by decide) dX4_count_6 (fun c1 => ?_) (fun c1 => ?_)
  · have h := h.1 c1
    exact zv_pick [2] rfl (cpC_X4_count_30 hp G M S hl hk rx2 h)
  · have h := h.2 c1
    refine zv_iload_n G rfl rfl dX4_count_9 ?_
    refine zv_aload_n G rfl rfl dX4_count_10 ?_
    have o2 := h.1
    have h := h.2
    refine zc_get (f := 47) (v := ar (fR w 47 x0)) G o2 rfl q751 (Or.inl rfl) (cV_R rfl) dX4_count_11 ?_
    refine zv_iload_n G rfl rfl dX4_count_14 ?_
    have o3 := h.1
    have h := h.2
    refine zc_aald G o3.1 rx3 o3.2.1 o3.2.2 dX4_count_15 ?_
    have o4 := h.1
    have h := h.2
    refine zc_get (f := 58) (v := ar (fR w 58 (aR w (fR w 47 x0) x3))) G o4 rfl q808 (Or.inl rfl) (cV_R rfl) dX4_count_16 ?_
    refine zv_callI (as := [ar (fR w 58 (aR w (fR w 47 x0) x3))]) (st := [ai x2]) G M (zc_eSN G q1065 q1066 q143 q1067 md_X0_product rfl dX4_count_19) (S 43 _ rfl _ _ _ h (zoks_cons trivial zoks_nil)) (Or.inl ⟨rfl, rfl⟩) (zc_hk q1067 q143) (by decide) (Nat.le_of_ble_eq_true rfl) (fun v6 u5 rv6 h => ?_) (fun _ _ h => h.elim)
    refine zc_wk G hp (fun hu5 tu5 => ?_)
    refine zv_iadd G dX4_count_22 ?_
    refine zv_istore_nN G rfl (by decide) dX4_count_23 (fun x2_7 ex2_7 => ?_)
    have h := h x2_7 ex2_7
    have rx2_7 : zr x2_7 := by rw [ex2_7]; exact (w32_r _)
    refine zv_iincN G rfl (by decide) dX4_count_24 (fun x3_8 ex3_8 => ?_)
    have h := h x3_8 ex3_8
    have rx3_8 : zr x3_8 := by rw [ex3_8]; exact w32_r _
    refine zv_goto (tgt := 4) G (by decide) dX4_count_27 ?_
    exact zv_pick [0, 1, 2, 3] rfl (hI4 _ _ _ h rx2_7 rx3_8)
set_option maxHeartbeats 4000000 in
set_option maxRecDepth 100000 in
theorem cpC_X4_count_0 {Γ : ZG CW} {D : CD} {d p : Nat} (hp : D.K.1 = p) (G : ZOk Γ cX4_count RX4 4 (KnC D) (ZC D)) (M : ZRm Γ (d + 1) D.lim (Option.some Jvm.ClassFile.FieldType.int) "count" []) (S : SdC d D p Γ.l) (hl : Γ.l.stackTraces = false) (hk : 0 ≤ d) {x0 : Nat} {x1 : Int} {w : CW} (rx1 : zr x1) (h : pC_X4_count_0 p (wpC p d) (fun v w => Γ.Q (.inl (some (ai v))) w) x0 x1 w) : ZV Γ w 0 [(0, ar x0), (1, ai x1)] [] := by
  refine zc_wk G hp (fun hw tw => ?_)
  refine zv_iconst (a := 0) G (by decide) dX4_count_0 ?_
  refine zv_istore_n G rfl (by decide) rfl dX4_count_1 ?_
  refine zv_iconst (a := 0) G (by decide) dX4_count_2 ?_
  refine zv_istore_n G rfl (by decide) rfl dX4_count_3 ?_
  exact zv_pick [0, 1, 2, 3] rfl (cpC_X4_count_4 hp G M S hl hk rx1 (zr_k 0 (by decide) (by decide)) (zr_k 0 (by decide) (by decide)) h)
set_option maxHeartbeats 4000000 in
set_option maxRecDepth 100000 in
theorem cpC_X4_lay_166 {Γ : ZG CW} {D : CD} {d p : Nat} (hp : D.K.1 = p) (G : ZOk Γ cX4_lay RX4 10 (KnC D) (ZC D)) (M : ZRm Γ (d + 1) D.lim (Option.none : Option Jvm.ClassFile.FieldType) "lay" []) (S : SdC d D p Γ.l) (hl : Γ.l.stackTraces = false) (hk : 0 ≤ d) {w : CW} (h : pC_X4_lay_166 p (wpC p d) (fun w => Γ.Q (.inl none) w) w) : ZV Γ w 166 [] [] := by
  refine zc_wk G hp (fun hw tw => ?_)
  exact zv_vret G M dX4_lay_166 h
set_option maxHeartbeats 4000000 in
set_option maxRecDepth 100000 in
theorem cpC_X4_lay_160 {Γ : ZG CW} {D : CD} {d p : Nat} (hp : D.K.1 = p) (G : ZOk Γ cX4_lay RX4 10 (KnC D) (ZC D)) (M : ZRm Γ (d + 1) D.lim (Option.none : Option Jvm.ClassFile.FieldType) "lay" []) (S : SdC d D p Γ.l) (hl : Γ.l.stackTraces = false) (hk : 0 ≤ d) {I19 : Int → Int → CW → Prop} {x0 : Nat} {x1 : Int} {x2 : Int} {w : CW} (hI19 : ∀ (x1 : Int) (x2 : Int) (w : CW), I19 x1 x2 w → zr x1 → zr x2 → ZV Γ w 19 [(0, ar x0), (1, ai x1), (2, ai x2)] []) (rx1 : zr x1) (rx2 : zr x2) (h : pC_X4_lay_160 p (wpC p d) (fun w => Γ.Q (.inl none) w) I19 x0 x1 x2 w) : ZV Γ w 160 [(0, ar x0), (1, ai x1), (2, ai x2)] [] := by
  refine zc_wk G hp (fun hw tw => ?_)
  refine zv_iincN G rfl (by decide) dX4_lay_160 (fun x2_17 ex2_17 => ?_)
  have h := h x2_17 ex2_17
  have rx2_17 : zr x2_17 := by rw [ex2_17]; exact w32_r _
  refine zv_goto (tgt := 19) G (by decide) dX4_lay_163 ?_
  exact zv_pick [0, 1, 2] rfl (hI19 _ _ _ h rx1 rx2_17)
set_option maxHeartbeats 4000000 in
set_option maxRecDepth 100000 in
theorem cpC_X4_lay_143 {Γ : ZG CW} {D : CD} {d p : Nat} (hp : D.K.1 = p) (G : ZOk Γ cX4_lay RX4 10 (KnC D) (ZC D)) (M : ZRm Γ (d + 1) D.lim (Option.none : Option Jvm.ClassFile.FieldType) "lay" []) (S : SdC d D p Γ.l) (hl : Γ.l.stackTraces = false) (hk : 0 ≤ d) {I19 : Int → Int → CW → Prop} {I46 : Int → Int → CW → Prop} {x0 : Nat} {x1 : Int} {x2 : Int} {x3 : Nat} {x4 : Int} {x5 : Int} {x6 : Nat} {w : CW} (hI19 : ∀ (x1 : Int) (x2 : Int) (w : CW), I19 x1 x2 w → zr x1 → zr x2 → ZV Γ w 19 [(0, ar x0), (1, ai x1), (2, ai x2)] []) (hI46 : ∀ (x1 : Int) (x5 : Int) (w : CW), I46 x1 x5 w → zr x1 → zr x5 → ZV Γ w 46 [(0, ar x0), (1, ai x1), (2, ai x2), (3, ar x3), (4, ai x4), (5, ai x5)] []) (rx1 : zr x1) (rx2 : zr x2) (rx4 : zr x4) (rx5 : zr x5) (h : pC_X4_lay_143 p (wpC p d) (fun w => Γ.Q (.inl none) w) I19 I46 x0 x1 x2 x3 x4 x5 x6 w) : ZV Γ w 143 [(0, ar x0), (1, ai x1), (2, ai x2), (3, ar x3), (4, ai x4), (5, ai x5), (6, ar x6)] [] := by
  refine zc_wk G hp (fun hw tw => ?_)
  refine zv_aload_n G rfl rfl dX4_lay_143 ?_
  have o26 := h.1
  have h := h.2
  refine zc_get (f := 49) (v := ar (fR w 49 x0)) G o26 rfl q755 (Or.inl rfl) (cV_R rfl) dX4_lay_144 ?_
  refine zv_iload_n G rfl rfl dX4_lay_147 ?_
  refine zv_aload G rfl dX4_lay_148 ?_
  have o28 := h.1
  have h := h.2
  have o29 := h.1
  have h := h.2
  refine zc_aast G o28.1 o29 rx1 o28.2.1 o28.2.2 dX4_lay_150 (fun u27 eu27 => ?_)
  have h := h u27 eu27
  refine zc_wk G hp (fun hu27 tu27 => ?_)
  refine zv_iincN G rfl (by decide) dX4_lay_151 (fun x1_30 ex1_30 => ?_)
  have h := h x1_30 ex1_30
  have rx1_30 : zr x1_30 := by rw [ex1_30]; exact w32_r _
  refine zv_iincN G rfl (by decide) dX4_lay_154 (fun x5_31 ex5_31 => ?_)
  have h := h x5_31 ex5_31
  have rx5_31 : zr x5_31 := by rw [ex5_31]; exact w32_r _
  refine zv_goto (tgt := 46) G (by decide) dX4_lay_157 ?_
  exact zv_pick [0, 1, 2, 3, 4, 5] rfl (hI46 _ _ _ h rx1_30 rx5_31)
set_option maxHeartbeats 4000000 in
set_option maxRecDepth 100000 in
theorem cpC_X4_lay_79 {Γ : ZG CW} {D : CD} {d p : Nat} (hp : D.K.1 = p) (G : ZOk Γ cX4_lay RX4 10 (KnC D) (ZC D)) (M : ZRm Γ (d + 1) D.lim (Option.none : Option Jvm.ClassFile.FieldType) "lay" []) (S : SdC d D p Γ.l) (hl : Γ.l.stackTraces = false) (hk : 0 ≤ d) {I19 : Int → Int → CW → Prop} {I46 : Int → Int → CW → Prop} {x0 : Nat} {x1 : Int} {x2 : Int} {x3 : Nat} {x4 : Int} {x5 : Int} {x6 : Nat} {x7 : Int} {x8 : Int} {x9 : Int} {w : CW} (hI19 : ∀ (x1 : Int) (x2 : Int) (w : CW), I19 x1 x2 w → zr x1 → zr x2 → ZV Γ w 19 [(0, ar x0), (1, ai x1), (2, ai x2)] []) (hI46 : ∀ (x1 : Int) (x5 : Int) (w : CW), I46 x1 x5 w → zr x1 → zr x5 → ZV Γ w 46 [(0, ar x0), (1, ai x1), (2, ai x2), (3, ar x3), (4, ai x4), (5, ai x5)] []) (rx1 : zr x1) (rx2 : zr x2) (rx4 : zr x4) (rx5 : zr x5) (rx7 : zr x7) (rx8 : zr x8) (rx9 : zr x9) (h : pC_X4_lay_79 p (wpC p d) (fun w => Γ.Q (.inl none) w) I19 I46 x0 x1 x2 x3 x4 x5 x6 x7 x8 x9 w) : ZV Γ w 79 [(0, ar x0), (1, ai x1), (2, ai x2), (3, ar x3), (4, ai x4), (5, ai x5), (6, ar x6), (7, ai x7), (8, ai x8), (9, ai x9)] [] := by
  obtain ⟨I79, eI79⟩ : ∃ I : Int → Int → Int → CW → Prop, I = (fun x7 x8 x9 w => zr x7 → zr x8 → zr x9 → ZV Γ w 79 [(0, ar x0), (1, ai x1), (2, ai x2), (3, ar x3), (4, ai x4), (5, ai x5), (6, ar x6), (7, ai x7), (8, ai x8), (9, ai x9)] []) := ⟨_, rfl⟩
  have hI79 : ∀ (x7 : Int) (x8 : Int) (x9 : Int) (w : CW), I79 x7 x8 x9 w → zr x7 → zr x8 → zr x9 → ZV Γ w 79 [(0, ar x0), (1, ai x1), (2, ai x2), (3, ar x3), (4, ai x4), (5, ai x5), (6, ar x6), (7, ai x7), (8, ai x8), (9, ai x9)] [] := by subst eI79; exact fun _ _ _ _ z => z
  have hJ79 : ∀ (x7 : Int) (x8 : Int) (x9 : Int) (w : CW), (zr x7 → zr x8 → zr x9 → ZV Γ w 79 [(0, ar x0), (1, ai x1), (2, ai x2), (3, ar x3), (4, ai x4), (5, ai x5), (6, ar x6), (7, ai x7), (8, ai x8), (9, ai x9)] []) → I79 x7 x8 x9 w := by subst eI79; exact fun _ _ _ _ z => z
  refine hI79 x7 x8 x9 w (h I79 (fun x7 x8 x9 w h => hJ79 x7 x8 x9 w (fun rx7 rx8 rx9 => ?_))) rx7 rx8 rx9
  refine zc_wk G hp (fun hw tw => ?_)
  refine zv_iload G rfl dX4_lay_79 ?_
  refine zv_aload_n G rfl rfl dX4_lay_81 ?_
  have o24 := h.1
  have h := h.2
  refine zc_get (f := 46) (v := ai (fI w 46 x0)) G o24 rfl q749 (Or.inl rfl) (cV_I (by decide) (by decide)) dX4_lay_82 ?_
  refine zv_icmp_ge (tgt := 143) G rx9 (hw.i 46 _ (by decide)) (by decide) dX4_lay_85 (fun c25 => ?_) (fun c25 => ?_)
  · have h := h.1 c25
    exact zv_pick [0, 1, 2, 3, 4, 5, 6] rfl (cpC_X4_lay_143 hp G M S hl hk hI19 hI46 rx1 rx2 rx4 rx5 h)
  · have h := h.2 c25
    refine zv_iload G rfl dX4_lay_88 ?_
    refine zv_aload_n G rfl rfl dX4_lay_90 ?_
    refine zv_iload G rfl dX4_lay_91 ?_
    have o32 := h.1
    have h := h.2
    refine zc_aald G o32.1 rx9 o32.2.1 o32.2.2 dX4_lay_93 ?_
    have kj57 : ∀ (v34 : Int) (u33 : CW), zr v34 → (
        (¬ v34 = 0) ∧
        ∀ x7_36 : Int, x7_36 = i_div x7 v34 →
        ((111 ≤ tg u33 x3 ∧ tg u33 x3 ≤ 119) ∧ 0 ≤ x9 ∧ x9 < ln u33 x3) ∧
        (¬ x7_36 = 0) ∧
        (hF 45 (tg u33 x0) = true) ∧
        (tg u33 (fR u33 45 x0) = 102 ∧ 0 ≤ x9 ∧ x9 < ln u33 (fR u33 45 x0)) ∧
        (tg u33 x0 = 4) ∧
        (wpC p d) 87 [ar x0, ar 0, ar 0, ai x9, ai (aN u33 (fR u33 45 x0) x9)] u33 (zqR (fun v42 u41 =>
          (wpC p d) (vm10 (tg u41 (aR u33 x3 x9))) [ar (aR u33 x3 x9), ai (i_div x8 x7_36), ar v42, ar x0, ar x6] u41 (zqV (fun u43 =>
            (¬ x7_36 = 0) ∧
            ∀ x8_46 : Int, x8_46 = i_rem x8 x7_36 →
            ∀ x9_47 : Int, x9_47 = w32 (x9 + 1) →
            I79 x7_36 x8_46 x9_47 u43) zno)) zno)) → ZV Γ u33 97 [(0, ar x0), (1, ai x1), (2, ai x2), (3, ar x3), (4, ai x4), (5, ai x5), (6, ar x6), (7, ai x7), (8, ai x8), (9, ai x9)] [ai v34, ai x7] := by
      intro v34 u33 rv34 h
      refine zc_wk G hp (fun hu33 tu33 => ?_)
      have o35 := h.1
      have h := h.2
      refine zv_idiv G rv34 o35 dX4_lay_97 ?_
      refine zv_istoreN G (by decide) dX4_lay_98 (fun x7_36 ex7_36 => ?_)
      have h := h x7_36 ex7_36
      have rx7_36 : zr x7_36 := by rw [ex7_36]; exact (show zr _ from by first | with_reducible exact i_and_r _ _ | with_reducible exact i_or_r _ _ | with_reducible exact i_shl_r _ _ | with_reducible exact i_shr_r _ _ | with_reducible exact i_ushr_r _ _ | with_reducible exact i_b_r _ | with_reducible exact i_c_r _ | with_reducible exact i_xor_r _ _ | with_reducible exact i_div_r _ _ | with_reducible exact i_rem_r _ _ | exact zr_of _)
      refine zv_aload_n G rfl rfl dX4_lay_100 ?_
      refine zv_iload G rfl dX4_lay_101 ?_
      have o37 := h.1
      have h := h.2
      refine zc_aald G o37.1 rx9 o37.2.1 o37.2.2 dX4_lay_103 ?_
      refine zv_iload G rfl dX4_lay_104 ?_
      refine zv_iload G rfl dX4_lay_106 ?_
      have o38 := h.1
      have h := h.2
      refine zv_idiv G rx7_36 o38 dX4_lay_108 ?_
      refine zv_aload_n G rfl rfl dX4_lay_109 ?_
      refine zv_null G dX4_lay_110 ?_
      refine zv_null G dX4_lay_111 ?_
      refine zv_iload G rfl dX4_lay_112 ?_
      refine zv_aload_n G rfl rfl dX4_lay_114 ?_
      have o39 := h.1
      have h := h.2
      refine zc_get (f := 45) (v := ar (fR u33 45 x0)) G o39 rfl q747 (Or.inl rfl) (cV_R rfl) dX4_lay_115 ?_
      refine zv_iload G rfl dX4_lay_118 ?_
      have o40 := h.1
      have h := h.2
      refine zc_ialdN G o40.1 rx9 o40.2.1 o40.2.2 dX4_lay_120 ?_
      have o56 := h.1
      have h := h.2
      refine zv_callR (as := [ar x0, ar 0, ar 0, ai x9, ai (aN u33 (fR u33 45 x0) x9)]) (st := [ai (i_div x8 x7_36), ar (aR u33 x3 x9)]) G M (zc_eV (C := zcn 4) G q1125 q1126 q1127 (Or.inl ⟨rfl, rfl⟩) q1128 md_X4_place (zc_rc G (zne tu33 o56 (by decide)) o56 (by decide) (by decide) rfl) rfl dX4_lay_121) (S 87 _ rfl _ _ _ h (zoks_cons trivial (zoks_cons trivial (zoks_cons trivial (zoks_cons rx9 (zoks_cons (aN_r hu33 _ _) zoks_nil)))))) (Or.inl ⟨rfl, rfl⟩) (zc_hk q1128 q160) (by decide) (Nat.le_of_ble_eq_true rfl) (fun v42 u41 h => ?_) (fun _ _ h => h.elim)
      refine zc_wk G hp (fun hu41 tu41 => ?_)
      refine zv_aload_n G rfl rfl dX4_lay_124 ?_
      refine zv_aload G rfl dX4_lay_125 ?_
      have kj48 : ∀ u43 : CW, (
          (¬ x7_36 = 0) ∧
          ∀ x8_46 : Int, x8_46 = i_rem x8 x7_36 →
          ∀ x9_47 : Int, x9_47 = w32 (x9 + 1) →
          I79 x7_36 x8_46 x9_47 u43) → ZV Γ u43 130 [(7, ai x7_36), (0, ar x0), (1, ai x1), (2, ai x2), (3, ar x3), (4, ai x4), (5, ai x5), (6, ar x6), (8, ai x8), (9, ai x9)] [] := by
        intro u43 h
        refine zc_wk G hp (fun hu43 tu43 => ?_)
        refine zv_iload G rfl dX4_lay_130 ?_
        refine zv_iload G rfl dX4_lay_132 ?_
        have o45 := h.1
        have h := h.2
        refine zv_irem G rx7_36 o45 dX4_lay_134 ?_
        refine zv_istoreN G (by decide) dX4_lay_135 (fun x8_46 ex8_46 => ?_)
        have h := h x8_46 ex8_46
        have rx8_46 : zr x8_46 := by rw [ex8_46]; exact (show zr _ from by first | with_reducible exact i_and_r _ _ | with_reducible exact i_or_r _ _ | with_reducible exact i_shl_r _ _ | with_reducible exact i_shr_r _ _ | with_reducible exact i_ushr_r _ _ | with_reducible exact i_b_r _ | with_reducible exact i_c_r _ | with_reducible exact i_xor_r _ _ | with_reducible exact i_div_r _ _ | with_reducible exact i_rem_r _ _ | exact zr_of _)
        refine zv_iincN G rfl (by decide) dX4_lay_137 (fun x9_47 ex9_47 => ?_)
        have h := h x9_47 ex9_47
        have rx9_47 : zr x9_47 := by rw [ex9_47]; exact w32_r _
        refine zv_goto (tgt := 79) G (by decide) dX4_lay_140 ?_
        exact zv_pick [0, 1, 2, 3, 4, 5, 6, 7, 8, 9] rfl (hI79 _ _ _ _ h rx7_36 rx8_46 rx9_47)
      have h : wpC p d (vm10 (tg u41 (aR u33 x3 x9))) [ar (aR u33 x3 x9), ai (i_div x8 x7_36), ar v42, ar x0, ar x6] u41 _ := h
      by_cases c49 : tg u41 (aR u33 x3 x9) = 6
      · have e : vm10 (tg u41 (aR u33 x3 x9)) = 93 := by rw [c49]; rfl
        rw [e] at h
        exact zv_callV (as := [ar (aR u33 x3 x9), ai (i_div x8 x7_36), ar v42, ar x0, ar x6]) (st := []) G M (zc_eV (C := zcn 6) G q1165 q1166 q1168 (Or.inl ⟨rfl, rfl⟩) q1194 md_X6_row (zc_rc G (zne tu41 c49 (by decide)) c49 (by decide) (by decide) rfl) rfl dX4_lay_127) (S 93 _ rfl _ _ _ h (zoks_cons trivial (zoks_cons (show zr _ from by first | with_reducible exact i_and_r _ _ | with_reducible exact i_or_r _ _ | with_reducible exact i_shl_r _ _ | with_reducible exact i_shr_r _ _ | with_reducible exact i_ushr_r _ _ | with_reducible exact i_b_r _ | with_reducible exact i_c_r _ | with_reducible exact i_xor_r _ _ | with_reducible exact i_div_r _ _ | with_reducible exact i_rem_r _ _ | exact zr_of _) (zoks_cons trivial (zoks_cons trivial (zoks_cons trivial zoks_nil)))))) (Or.inl ⟨rfl, rfl⟩) (zc_hk q1194 q162) (by decide) (Nat.le_of_ble_eq_true rfl) kj48 (fun _ _ h => h.elim)
      by_cases c50 : tg u41 (aR u33 x3 x9) = 7
      · have e : vm10 (tg u41 (aR u33 x3 x9)) = 98 := by rw [c50]; rfl
        rw [e] at h
        exact zv_callV (as := [ar (aR u33 x3 x9), ai (i_div x8 x7_36), ar v42, ar x0, ar x6]) (st := []) G M (zc_eU (C := zcn 7) G q1165 q1167 (zc_declC G q1166 q1194) ⟨by decide, by decide⟩ q1191 q1176 md_X6_row (zc_rc G (zne tu41 c50 (by decide)) c50 (by decide) (by decide) rfl) rfl dX4_lay_127) (S 98 _ rfl _ _ _ h (zoks_cons trivial (zoks_cons (show zr _ from by first | with_reducible exact i_and_r _ _ | with_reducible exact i_or_r _ _ | with_reducible exact i_shl_r _ _ | with_reducible exact i_shr_r _ _ | with_reducible exact i_ushr_r _ _ | with_reducible exact i_b_r _ | with_reducible exact i_c_r _ | with_reducible exact i_xor_r _ _ | with_reducible exact i_div_r _ _ | with_reducible exact i_rem_r _ _ | exact zr_of _) (zoks_cons trivial (zoks_cons trivial (zoks_cons trivial zoks_nil)))))) (Or.inl ⟨rfl, rfl⟩) (zc_hk q1177 q164) (by decide) (Nat.le_of_ble_eq_true rfl) kj48 (fun _ _ h => h.elim)
      by_cases c51 : tg u41 (aR u33 x3 x9) = 8
      · have e : vm10 (tg u41 (aR u33 x3 x9)) = 104 := by rw [c51]; rfl
        rw [e] at h
        exact zv_callV (as := [ar (aR u33 x3 x9), ai (i_div x8 x7_36), ar v42, ar x0, ar x6]) (st := []) G M (zc_eU (C := zcn 8) G q1165 q1167 (zc_declC G q1166 q1194) ⟨by decide, by decide⟩ q1189 q1173 md_X6_row (zc_rc G (zne tu41 c51 (by decide)) c51 (by decide) (by decide) rfl) rfl dX4_lay_127) (S 104 _ rfl _ _ _ h (zoks_cons trivial (zoks_cons (show zr _ from by first | with_reducible exact i_and_r _ _ | with_reducible exact i_or_r _ _ | with_reducible exact i_shl_r _ _ | with_reducible exact i_shr_r _ _ | with_reducible exact i_ushr_r _ _ | with_reducible exact i_b_r _ | with_reducible exact i_c_r _ | with_reducible exact i_xor_r _ _ | with_reducible exact i_div_r _ _ | with_reducible exact i_rem_r _ _ | exact zr_of _) (zoks_cons trivial (zoks_cons trivial (zoks_cons trivial zoks_nil)))))) (Or.inl ⟨rfl, rfl⟩) (zc_hk q1174 q166) (by decide) (Nat.le_of_ble_eq_true rfl) kj48 (fun _ _ h => h.elim)
      by_cases c52 : tg u41 (aR u33 x3 x9) = 9
      · have e : vm10 (tg u41 (aR u33 x3 x9)) = 109 := by rw [c52]; rfl
        rw [e] at h
        exact zv_callV (as := [ar (aR u33 x3 x9), ai (i_div x8 x7_36), ar v42, ar x0, ar x6]) (st := []) G M (zc_eU (C := zcn 9) G q1165 q1167 (zc_declC G q1166 q1194) ⟨by decide, by decide⟩ q1169 q1170 md_X6_row (zc_rc G (zne tu41 c52 (by decide)) c52 (by decide) (by decide) rfl) rfl dX4_lay_127) (S 109 _ rfl _ _ _ h (zoks_cons trivial (zoks_cons (show zr _ from by first | with_reducible exact i_and_r _ _ | with_reducible exact i_or_r _ _ | with_reducible exact i_shl_r _ _ | with_reducible exact i_shr_r _ _ | with_reducible exact i_ushr_r _ _ | with_reducible exact i_b_r _ | with_reducible exact i_c_r _ | with_reducible exact i_xor_r _ _ | with_reducible exact i_div_r _ _ | with_reducible exact i_rem_r _ _ | exact zr_of _) (zoks_cons trivial (zoks_cons trivial (zoks_cons trivial zoks_nil)))))) (Or.inl ⟨rfl, rfl⟩) (zc_hk q1171 q167) (by decide) (Nat.le_of_ble_eq_true rfl) kj48 (fun _ _ h => h.elim)
      by_cases c53 : tg u41 (aR u33 x3 x9) = 10
      · have e : vm10 (tg u41 (aR u33 x3 x9)) = 98 := by rw [c53]; rfl
        rw [e] at h
        exact zv_callV (as := [ar (aR u33 x3 x9), ai (i_div x8 x7_36), ar v42, ar x0, ar x6]) (st := []) G M (zc_eU (C := zcn 10) G q1165 q1167 (zc_declC G q1166 q1194) ⟨by decide, by decide⟩ q1193 q1176 md_X6_row (zc_rc G (zne tu41 c53 (by decide)) c53 (by decide) (by decide) rfl) rfl dX4_lay_127) (S 98 _ rfl _ _ _ h (zoks_cons trivial (zoks_cons (show zr _ from by first | with_reducible exact i_and_r _ _ | with_reducible exact i_or_r _ _ | with_reducible exact i_shl_r _ _ | with_reducible exact i_shr_r _ _ | with_reducible exact i_ushr_r _ _ | with_reducible exact i_b_r _ | with_reducible exact i_c_r _ | with_reducible exact i_xor_r _ _ | with_reducible exact i_div_r _ _ | with_reducible exact i_rem_r _ _ | exact zr_of _) (zoks_cons trivial (zoks_cons trivial (zoks_cons trivial zoks_nil)))))) (Or.inl ⟨rfl, rfl⟩) (zc_hk q1177 q164) (by decide) (Nat.le_of_ble_eq_true rfl) kj48 (fun _ _ h => h.elim)
      by_cases c54 : tg u41 (aR u33 x3 x9) = 11
      · have e : vm10 (tg u41 (aR u33 x3 x9)) = 98 := by rw [c54]; rfl
        rw [e] at h
        exact zv_callV (as := [ar (aR u33 x3 x9), ai (i_div x8 x7_36), ar v42, ar x0, ar x6]) (st := []) G M (zc_eU (C := zcn 11) G q1165 q1167 (zc_declC G q1166 q1194) ⟨by decide, by decide⟩ q1192 q1176 md_X6_row (zc_rc G (zne tu41 c54 (by decide)) c54 (by decide) (by decide) rfl) rfl dX4_lay_127) (S 98 _ rfl _ _ _ h (zoks_cons trivial (zoks_cons (show zr _ from by first | with_reducible exact i_and_r _ _ | with_reducible exact i_or_r _ _ | with_reducible exact i_shl_r _ _ | with_reducible exact i_shr_r _ _ | with_reducible exact i_ushr_r _ _ | with_reducible exact i_b_r _ | with_reducible exact i_c_r _ | with_reducible exact i_xor_r _ _ | with_reducible exact i_div_r _ _ | with_reducible exact i_rem_r _ _ | exact zr_of _) (zoks_cons trivial (zoks_cons trivial (zoks_cons trivial zoks_nil)))))) (Or.inl ⟨rfl, rfl⟩) (zc_hk q1177 q164) (by decide) (Nat.le_of_ble_eq_true rfl) kj48 (fun _ _ h => h.elim)
      by_cases c55 : tg u41 (aR u33 x3 x9) = 12
      · have e : vm10 (tg u41 (aR u33 x3 x9)) = 98 := by rw [c55]; rfl
        rw [e] at h
        exact zv_callV (as := [ar (aR u33 x3 x9), ai (i_div x8 x7_36), ar v42, ar x0, ar x6]) (st := []) G M (zc_eU (C := zcn 12) G q1165 q1167 (zc_declC G q1166 q1194) ⟨by decide, by decide⟩ q1190 q1176 md_X6_row (zc_rc G (zne tu41 c55 (by decide)) c55 (by decide) (by decide) rfl) rfl dX4_lay_127) (S 98 _ rfl _ _ _ h (zoks_cons trivial (zoks_cons (show zr _ from by first | with_reducible exact i_and_r _ _ | with_reducible exact i_or_r _ _ | with_reducible exact i_shl_r _ _ | with_reducible exact i_shr_r _ _ | with_reducible exact i_ushr_r _ _ | with_reducible exact i_b_r _ | with_reducible exact i_c_r _ | with_reducible exact i_xor_r _ _ | with_reducible exact i_div_r _ _ | with_reducible exact i_rem_r _ _ | exact zr_of _) (zoks_cons trivial (zoks_cons trivial (zoks_cons trivial zoks_nil)))))) (Or.inl ⟨rfl, rfl⟩) (zc_hk q1177 q164) (by decide) (Nat.le_of_ble_eq_true rfl) kj48 (fun _ _ h => h.elim)
      have e : vm10 (tg u41 (aR u33 x3 x9)) = 9999 := by unfold vm10; rw [if_neg c49, if_neg c50, if_neg c51, if_neg c52, if_neg c53, if_neg c54, if_neg c55]
      rw [e] at h
      exact (wpC_none h).elim
    have h : wpC p d (vm0 (tg w (aR w x3 x9))) [ar (aR w x3 x9)] w _ := h
    by_cases c58 : tg w (aR w x3 x9) = 6
    · have e : vm0 (tg w (aR w x3 x9)) = 92 := by rw [c58]; rfl
      rw [e] at h
      exact zv_callI (as := [ar (aR w x3 x9)]) (st := [ai x7]) G M (zc_eV (C := zcn 6) G q1124 q1069 q1071 (Or.inl ⟨rfl, rfl⟩) q1085 md_X6_ways (zc_rc G (zne tw c58 (by decide)) c58 (by decide) (by decide) rfl) rfl dX4_lay_94) (S 92 _ rfl _ _ _ h (zoks_cons trivial zoks_nil)) (Or.inl ⟨rfl, rfl⟩) (zc_hk q1085 q162) (by decide) (Nat.le_of_ble_eq_true rfl) kj57 (fun _ _ h => h.elim)
    by_cases c59 : tg w (aR w x3 x9) = 7
    · have e : vm0 (tg w (aR w x3 x9)) = 92 := by rw [c59]; rfl
      rw [e] at h
      exact zv_callI (as := [ar (aR w x3 x9)]) (st := [ai x7]) G M (zc_eV (C := zcn 7) G q1124 q1069 q1082 (Or.inl ⟨rfl, rfl⟩) q1085 md_X6_ways (zc_rc G (zne tw c59 (by decide)) c59 (by decide) (by decide) rfl) rfl dX4_lay_94) (S 92 _ rfl _ _ _ h (zoks_cons trivial zoks_nil)) (Or.inl ⟨rfl, rfl⟩) (zc_hk q1085 q162) (by decide) (Nat.le_of_ble_eq_true rfl) kj57 (fun _ _ h => h.elim)
    by_cases c60 : tg w (aR w x3 x9) = 8
    · have e : vm0 (tg w (aR w x3 x9)) = 103 := by rw [c60]; rfl
      rw [e] at h
      exact zv_callI (as := [ar (aR w x3 x9)]) (st := [ai x7]) G M (zc_eU (C := zcn 8) G q1124 q1070 (zc_declC G q1069 q1085) ⟨by decide, by decide⟩ q1080 q1076 md_X6_ways (zc_rc G (zne tw c60 (by decide)) c60 (by decide) (by decide) rfl) rfl dX4_lay_94) (S 103 _ rfl _ _ _ h (zoks_cons trivial zoks_nil)) (Or.inl ⟨rfl, rfl⟩) (zc_hk q1077 q166) (by decide) (Nat.le_of_ble_eq_true rfl) kj57 (fun _ _ h => h.elim)
    by_cases c61 : tg w (aR w x3 x9) = 9
    · have e : vm0 (tg w (aR w x3 x9)) = 108 := by rw [c61]; rfl
      rw [e] at h
      exact zv_callI (as := [ar (aR w x3 x9)]) (st := [ai x7]) G M (zc_eU (C := zcn 9) G q1124 q1070 (zc_declC G q1069 q1085) ⟨by decide, by decide⟩ q1072 q1073 md_X6_ways (zc_rc G (zne tw c61 (by decide)) c61 (by decide) (by decide) rfl) rfl dX4_lay_94) (S 108 _ rfl _ _ _ h (zoks_cons trivial zoks_nil)) (Or.inl ⟨rfl, rfl⟩) (zc_hk q1074 q167) (by decide) (Nat.le_of_ble_eq_true rfl) kj57 (fun _ _ h => h.elim)
    by_cases c62 : tg w (aR w x3 x9) = 10
    · have e : vm0 (tg w (aR w x3 x9)) = 92 := by rw [c62]; rfl
      rw [e] at h
      exact zv_callI (as := [ar (aR w x3 x9)]) (st := [ai x7]) G M (zc_eV (C := zcn 10) G q1124 q1069 q1084 (Or.inl ⟨rfl, rfl⟩) q1085 md_X6_ways (zc_rc G (zne tw c62 (by decide)) c62 (by decide) (by decide) rfl) rfl dX4_lay_94) (S 92 _ rfl _ _ _ h (zoks_cons trivial zoks_nil)) (Or.inl ⟨rfl, rfl⟩) (zc_hk q1085 q162) (by decide) (Nat.le_of_ble_eq_true rfl) kj57 (fun _ _ h => h.elim)
    by_cases c63 : tg w (aR w x3 x9) = 11
    · have e : vm0 (tg w (aR w x3 x9)) = 92 := by rw [c63]; rfl
      rw [e] at h
      exact zv_callI (as := [ar (aR w x3 x9)]) (st := [ai x7]) G M (zc_eV (C := zcn 11) G q1124 q1069 q1083 (Or.inl ⟨rfl, rfl⟩) q1085 md_X6_ways (zc_rc G (zne tw c63 (by decide)) c63 (by decide) (by decide) rfl) rfl dX4_lay_94) (S 92 _ rfl _ _ _ h (zoks_cons trivial zoks_nil)) (Or.inl ⟨rfl, rfl⟩) (zc_hk q1085 q162) (by decide) (Nat.le_of_ble_eq_true rfl) kj57 (fun _ _ h => h.elim)
    by_cases c64 : tg w (aR w x3 x9) = 12
    · have e : vm0 (tg w (aR w x3 x9)) = 92 := by rw [c64]; rfl
      rw [e] at h
      exact zv_callI (as := [ar (aR w x3 x9)]) (st := [ai x7]) G M (zc_eV (C := zcn 12) G q1124 q1069 q1081 (Or.inl ⟨rfl, rfl⟩) q1085 md_X6_ways (zc_rc G (zne tw c64 (by decide)) c64 (by decide) (by decide) rfl) rfl dX4_lay_94) (S 92 _ rfl _ _ _ h (zoks_cons trivial zoks_nil)) (Or.inl ⟨rfl, rfl⟩) (zc_hk q1085 q162) (by decide) (Nat.le_of_ble_eq_true rfl) kj57 (fun _ _ h => h.elim)
    have e : vm0 (tg w (aR w x3 x9)) = 9999 := by unfold vm0; rw [if_neg c58, if_neg c59, if_neg c60, if_neg c61, if_neg c62, if_neg c63, if_neg c64]
    rw [e] at h
    exact (wpC_none h).elim
set_option maxHeartbeats 4000000 in
set_option maxRecDepth 100000 in
theorem cpC_X4_lay_46 {Γ : ZG CW} {D : CD} {d p : Nat} (hp : D.K.1 = p) (G : ZOk Γ cX4_lay RX4 10 (KnC D) (ZC D)) (M : ZRm Γ (d + 1) D.lim (Option.none : Option Jvm.ClassFile.FieldType) "lay" []) (S : SdC d D p Γ.l) (hl : Γ.l.stackTraces = false) (hk : 0 ≤ d) {I19 : Int → Int → CW → Prop} {x0 : Nat} {x1 : Int} {x2 : Int} {x3 : Nat} {x4 : Int} {x5 : Int} {w : CW} (hI19 : ∀ (x1 : Int) (x2 : Int) (w : CW), I19 x1 x2 w → zr x1 → zr x2 → ZV Γ w 19 [(0, ar x0), (1, ai x1), (2, ai x2)] []) (rx1 : zr x1) (rx2 : zr x2) (rx4 : zr x4) (rx5 : zr x5) (h : pC_X4_lay_46 p (wpC p d) (fun w => Γ.Q (.inl none) w) I19 x0 x1 x2 x3 x4 x5 w) : ZV Γ w 46 [(0, ar x0), (1, ai x1), (2, ai x2), (3, ar x3), (4, ai x4), (5, ai x5)] [] := by
  obtain ⟨I46, eI46⟩ : ∃ I : Int → Int → CW → Prop, I = (fun x1 x5 w => zr x1 → zr x5 → ZV Γ w 46 [(0, ar x0), (1, ai x1), (2, ai x2), (3, ar x3), (4, ai x4), (5, ai x5)] []) := ⟨_, rfl⟩
  have hI46 : ∀ (x1 : Int) (x5 : Int) (w : CW), I46 x1 x5 w → zr x1 → zr x5 → ZV Γ w 46 [(0, ar x0), (1, ai x1), (2, ai x2), (3, ar x3), (4, ai x4), (5, ai x5)] [] := by subst eI46; exact fun _ _ _ z => z
  have hJ46 : ∀ (x1 : Int) (x5 : Int) (w : CW), (zr x1 → zr x5 → ZV Γ w 46 [(0, ar x0), (1, ai x1), (2, ai x2), (3, ar x3), (4, ai x4), (5, ai x5)] []) → I46 x1 x5 w := by subst eI46; exact fun _ _ _ z => z
  refine hI46 x1 x5 w (h I46 (fun x1 x5 w h => hJ46 x1 x5 w (fun rx1 rx5 => ?_))) rx1 rx5
  refine zc_wk G hp (fun hw tw => ?_)
  refine zv_iload G rfl dX4_lay_46 ?_
  refine zv_iload G rfl dX4_lay_48 ?_
  refine zv_icmp_ge (tgt := 160) G rx5 rx4 (by decide) dX4_lay_50 (fun c16 => ?_) (fun c16 => ?_)
  · have h := h.1 c16
    exact zv_pick [0, 1, 2] rfl (cpC_X4_lay_160 hp G M S hl hk hI19 rx1 rx2 h)
  · have h := h.2 c16
    have o19 := h.1
    have h := h.2
    refine zc_new (ci := 13) (t := 14) (n := 5) G M rfl rfl (by decide) rfl q1092 q1094 q172 o19 dX4_lay_53 (fun u18 eu18 => ?_)
    have h := h u18 eu18
    refine zc_wk G hp (fun hu18 tu18 => ?_)
    refine zv_dup G rfl dX4_lay_56 ?_
    refine zv_aload_n G rfl rfl dX4_lay_57 ?_
    have o20 := h.1
    have h := h.2
    refine zc_get (f := 47) (v := ar (fR u18 47 x0)) G o20 rfl q751 (Or.inl rfl) (cV_R rfl) dX4_lay_58 ?_
    refine zv_iload_n G rfl rfl dX4_lay_61 ?_
    have o21 := h.1
    have h := h.2
    refine zc_aald G o21.1 rx2 o21.2.1 o21.2.2 dX4_lay_62 ?_
    refine zv_callV (as := [ar (cz w + 1), ar (aR u18 (fR u18 47 x0) x2)]) (st := [ar (cz w + 1)]) G M (zc_eI G rfl q1095 q1096 q1097 md_X16_init (Nat.succ_ne_zero _) rfl dX4_lay_63) (S 124 _ rfl _ _ _ h (zoks_cons trivial (zoks_cons trivial zoks_nil))) (Or.inl ⟨rfl, rfl⟩) (zc_hk q1097 q172) (by decide) (Nat.le_of_ble_eq_true rfl) (fun u22 h => ?_) (fun _ _ h => h.elim)
    refine zc_wk G hp (fun hu22 tu22 => ?_)
    refine zv_astore G (by decide) rfl dX4_lay_66 ?_
    refine zv_iload G rfl dX4_lay_68 ?_
    refine zv_istore G (by decide) rfl dX4_lay_70 ?_
    refine zv_iload G rfl dX4_lay_72 ?_
    refine zv_istore G (by decide) rfl dX4_lay_74 ?_
    refine zv_iconst (a := 0) G (by decide) dX4_lay_76 ?_
    refine zv_istore G (by decide) rfl dX4_lay_77 ?_
    exact zv_pick [0, 1, 2, 3, 4, 5, 6, 7, 8, 9] rfl (cpC_X4_lay_79 hp G M S hl hk hI19 hI46 rx1 rx2 rx4 rx5 rx4 rx5 (zr_k 0 (by decide) (by decide)) h)
set_option maxHeartbeats 4000000 in
set_option maxRecDepth 100000 in
theorem cpC_X4_lay_19 {Γ : ZG CW} {D : CD} {d p : Nat} (hp : D.K.1 = p) (G : ZOk Γ cX4_lay RX4 10 (KnC D) (ZC D)) (M : ZRm Γ (d + 1) D.lim (Option.none : Option Jvm.ClassFile.FieldType) "lay" []) (S : SdC d D p Γ.l) (hl : Γ.l.stackTraces = false) (hk : 0 ≤ d) {x0 : Nat} {x1 : Int} {x2 : Int} {w : CW} (rx1 : zr x1) (rx2 : zr x2) (h : pC_X4_lay_19 p (wpC p d) (fun w => Γ.Q (.inl none) w) x0 x1 x2 w) : ZV Γ w 19 [(0, ar x0), (1, ai x1), (2, ai x2)] [] := by
  obtain ⟨I19, eI19⟩ : ∃ I : Int → Int → CW → Prop, I = (fun x1 x2 w => zr x1 → zr x2 → ZV Γ w 19 [(0, ar x0), (1, ai x1), (2, ai x2)] []) := ⟨_, rfl⟩
  have hI19 : ∀ (x1 : Int) (x2 : Int) (w : CW), I19 x1 x2 w → zr x1 → zr x2 → ZV Γ w 19 [(0, ar x0), (1, ai x1), (2, ai x2)] [] := by subst eI19; exact fun _ _ _ z => z
  have hJ19 : ∀ (x1 : Int) (x2 : Int) (w : CW), (zr x1 → zr x2 → ZV Γ w 19 [(0, ar x0), (1, ai x1), (2, ai x2)] []) → I19 x1 x2 w := by subst eI19; exact fun _ _ _ z => z
  refine hI19 x1 x2 w (h I19 (fun x1 x2 w h => hJ19 x1 x2 w (fun rx1 rx2 => ?_))) rx1 rx2
  refine zc_wk G hp (fun hw tw => ?_)
  refine zv_iload_n G rfl rfl dX4_lay_19 ?_
  refine zv_aload_n G rfl rfl dX4_lay_20 ?_
  have o8 := h.1
  have h := h.2
  refine zc_get (f := 48) (v := ai (fI w 48 x0)) G o8 rfl q753 (Or.inl rfl) (cV_I (by decide) (by decide)) dX4_lay_21 ?_
  refine zv_icmp_ge (tgt := 166) G rx2 (hw.i 48 _ (by decide)) (by decide) dX4_lay_24 (fun c9 => ?_) (fun c9 => ?_)
  · have h := h.1 c9
    exact zv_pick [] rfl (cpC_X4_lay_166 hp G M S hl hk h)
  · have h := h.2 c9
    refine zv_aload_n G rfl rfl dX4_lay_27 ?_
    have o10 := h.1
    have h := h.2
    refine zc_get (f := 47) (v := ar (fR w 47 x0)) G o10 rfl q751 (Or.inl rfl) (cV_R rfl) dX4_lay_28 ?_
    refine zv_iload_n G rfl rfl dX4_lay_31 ?_
    have o11 := h.1
    have h := h.2
    refine zc_aald G o11.1 rx2 o11.2.1 o11.2.2 dX4_lay_32 ?_
    have o12 := h.1
    have h := h.2
    refine zc_get (f := 58) (v := ar (fR w 58 (aR w (fR w 47 x0) x2))) G o12 rfl q808 (Or.inl rfl) (cV_R rfl) dX4_lay_33 ?_
    refine zv_astore_nN G rfl (by decide) dX4_lay_36 (fun x3_13 ex3_13 => ?_)
    have h := h x3_13 ex3_13
    refine zv_aload_n G rfl rfl dX4_lay_37 ?_
    refine zv_callI (as := [ar x3_13]) (st := []) G M (zc_eSN G q1065 q1066 q143 q1067 md_X0_product rfl dX4_lay_38) (S 43 _ rfl _ _ _ h (zoks_cons trivial zoks_nil)) (Or.inl ⟨rfl, rfl⟩) (zc_hk q1067 q143) (by decide) (Nat.le_of_ble_eq_true rfl) (fun v15 u14 rv15 h => ?_) (fun _ _ h => h.elim)
    refine zc_wk G hp (fun hu14 tu14 => ?_)
    refine zv_istore G (by decide) rfl dX4_lay_41 ?_
    refine zv_iconst (a := 0) G (by decide) dX4_lay_43 ?_
    refine zv_istore G (by decide) rfl dX4_lay_44 ?_
    exact zv_pick [0, 1, 2, 3, 4, 5] rfl (cpC_X4_lay_46 hp G M S hl hk hI19 rx1 rx2 rv15 (zr_k 0 (by decide) (by decide)) h)
set_option maxHeartbeats 4000000 in
set_option maxRecDepth 100000 in
theorem cpC_X4_lay_0 {Γ : ZG CW} {D : CD} {d p : Nat} (hp : D.K.1 = p) (G : ZOk Γ cX4_lay RX4 10 (KnC D) (ZC D)) (M : ZRm Γ (d + 1) D.lim (Option.none : Option Jvm.ClassFile.FieldType) "lay" []) (S : SdC d D p Γ.l) (hl : Γ.l.stackTraces = false) (hk : 0 ≤ d) {x0 : Nat} {w : CW} (h : pC_X4_lay_0 p (wpC p d) (fun w => Γ.Q (.inl none) w) x0 w) : ZV Γ w 0 [(0, ar x0)] [] := by
  refine zc_wk G hp (fun hw tw => ?_)
  refine zv_aload_n G rfl rfl dX4_lay_0 ?_
  refine zv_aload_n G rfl rfl dX4_lay_1 ?_
  refine zv_aload_n G rfl rfl dX4_lay_2 ?_
  have o1 := h.1
  have h := h.2
  refine zc_get (f := 48) (v := ai (fI w 48 x0)) G o1 rfl q753 (Or.inl rfl) (cV_I (by decide) (by decide)) dX4_lay_3 ?_
  have o65 := h.1
  have h := h.2
  refine zv_callI (as := [ar x0, ai (fI w 48 x0)]) (st := [ar x0]) G M (zc_eV (C := zcn 4) G q1091 q1062 q1063 (Or.inl ⟨rfl, rfl⟩) q1064 md_X4_count (zc_rc G (zne tw o65 (by decide)) o65 (by decide) (by decide) rfl) rfl dX4_lay_6) (S 85 _ rfl _ _ _ h (zoks_cons trivial (zoks_cons (hw.i 48 _ (by decide)) zoks_nil))) (Or.inl ⟨rfl, rfl⟩) (zc_hk q1064 q160) (by decide) (Nat.le_of_ble_eq_true rfl) (fun v3 u2 rv3 h => ?_) (fun _ _ h => h.elim)
  refine zc_wk G hp (fun hu2 tu2 => ?_)
  have o5 := h.1
  have h := h.2
  refine zc_anew (t := 116) G M (by decide) q1092 o5.1 o5.2 dX4_lay_9 (fun u4 eu4 => ?_)
  have h := h u4 eu4
  refine zc_wk G hp (fun hu4 tu4 => ?_)
  have o7 := h.1
  have h := h.2
  refine zc_putR (f := 49) G M o7 rfl q755 (Or.inl rfl) (Or.inl rfl) (zfty_49) (Or.inr ⟨_, rfl⟩) rfl dX4_lay_12 (fun u6 eu6 => ?_)
  have h := h u6 eu6
  refine zc_wk G hp (fun hu6 tu6 => ?_)
  refine zv_iconst (a := 0) G (by decide) dX4_lay_15 ?_
  refine zv_istore_n G rfl (by decide) rfl dX4_lay_16 ?_
  refine zv_iconst (a := 0) G (by decide) dX4_lay_17 ?_
  refine zv_istore_n G rfl (by decide) rfl dX4_lay_18 ?_
  exact zv_pick [0, 1, 2] rfl (cpC_X4_lay_19 hp G M S hl hk (zr_k 0 (by decide) (by decide)) (zr_k 0 (by decide) (by decide)) h)
set_option maxHeartbeats 4000000 in
set_option maxRecDepth 100000 in
theorem cpC_X4_place_57 {Γ : ZG CW} {D : CD} {d p : Nat} (hp : D.K.1 = p) (G : ZOk Γ cX4_place RX4 7 (KnC D) (ZC D)) (M : ZRm Γ (d + 1) D.lim (Option.some (Jvm.ClassFile.FieldType.object "LetterPost$Place")) "place" []) (S : SdC d D p Γ.l) (hl : Γ.l.stackTraces = false) (hk : 0 ≤ d) {x0 : Nat} {x1 : Nat} {x2 : Nat} {x3 : Int} {x4 : Int} {w : CW} (rx3 : zr x3) (rx4 : zr x4) (h : pC_X4_place_57 p (wpC p d) (fun v w => Γ.Q (.inl (some (ar v))) w) x0 x1 x2 x3 x4 w) : ZV Γ w 57 [(0, ar x0), (1, ar x1), (2, ar x2), (3, ai x3), (4, ai x4)] [] := by
  refine zc_wk G hp (fun hw tw => ?_)
  refine zv_aload_n G rfl rfl dX4_place_57 ?_
  have o3 := h.1
  have h := h.2
  refine zc_get (f := 50) (v := ar (fR w 50 x0)) G o3 rfl q757 (Or.inl rfl) (cV_R rfl) dX4_place_58 ?_
  refine zv_aload_n G rfl rfl dX4_place_61 ?_
  have o4 := h.1
  have h := h.2
  refine zc_get (f := 51) (v := ai (fI w 51 x0)) G o4 rfl q759 (Or.inl rfl) (cV_I (by decide) (by decide)) dX4_place_62 ?_
  have o6 := h.1
  have h := h.2
  refine zc_new (ci := 14) (t := 15) (n := 6) G M rfl rfl (by decide) rfl q741 q1129 q173 o6 dX4_place_65 (fun u5 eu5 => ?_)
  have h := h u5 eu5
  refine zc_wk G hp (fun hu5 tu5 => ?_)
  refine zv_dup G rfl dX4_place_68 ?_
  refine zv_aload_n G rfl rfl dX4_place_69 ?_
  refine zv_aload_n G rfl rfl dX4_place_70 ?_
  refine zv_iload_n G rfl rfl dX4_place_71 ?_
  refine zv_iload G rfl dX4_place_72 ?_
  refine zv_aload_n G rfl rfl dX4_place_74 ?_
  have o7 := h.1
  have h := h.2
  refine zc_get (f := 51) (v := ai (fI u5 51 x0)) G o7 rfl q759 (Or.inl rfl) (cV_I (by decide) (by decide)) dX4_place_75 ?_
  refine zv_callV (as := [ar (cz w + 1), ar x1, ar x2, ai x3, ai x4, ai (fI u5 51 x0)]) (st := [ar (cz w + 1), ai (fI w 51 x0), ar (fR w 50 x0)]) G M (zc_eI G rfl q1130 q1131 q1132 md_X17_init (Nat.succ_ne_zero _) rfl dX4_place_78) (S 129 _ rfl _ _ _ h (zoks_cons trivial (zoks_cons trivial (zoks_cons trivial (zoks_cons rx3 (zoks_cons rx4 (zoks_cons (hu5.i 51 _ (by decide)) zoks_nil))))))) (Or.inl ⟨rfl, rfl⟩) (zc_hk q1132 q173) (by decide) (Nat.le_of_ble_eq_true rfl) (fun u8 h => ?_) (fun _ _ h => h.elim)
  refine zc_wk G hp (fun hu8 tu8 => ?_)
  have o11 := h.1
  have h := h.2
  have o12 := h.1
  have h := h.2
  refine zc_aast G o11.1 o12 (hw.i 51 _ (by decide)) o11.2.1 o11.2.2 dX4_place_81 (fun u10 eu10 => ?_)
  have h := h u10 eu10
  refine zc_wk G hp (fun hu10 tu10 => ?_)
  refine zv_aload_n G rfl rfl dX4_place_82 ?_
  refine zv_dup G rfl dX4_place_83 ?_
  have o13 := h.1
  have h := h.2
  refine zc_get (f := 51) (v := ai (fI u10 51 x0)) G o13 rfl q759 (Or.inl rfl) (cV_I (by decide) (by decide)) dX4_place_84 ?_
  refine zv_iconst (a := 1) G (by decide) dX4_place_87 ?_
  refine zv_iadd G dX4_place_88 ?_
  have o15 := h.1
  have h := h.2
  refine zc_putI (f := 51) G M o15 rfl q759 (Or.inl rfl) (Or.inl rfl) (zfty_51) rfl rfl (by decide) (by decide) (w32_r _) dX4_place_89 (fun u14 eu14 => ?_)
  have h := h u14 eu14
  refine zc_wk G hp (fun hu14 tu14 => ?_)
  refine zv_aload_n G rfl rfl dX4_place_92 ?_
  have o16 := h.1
  have h := h.2
  refine zc_get (f := 50) (v := ar (fR u14 50 x0)) G o16 rfl q757 (Or.inl rfl) (cV_R rfl) dX4_place_93 ?_
  refine zv_aload_n G rfl rfl dX4_place_96 ?_
  have o17 := h.1
  have h := h.2
  refine zc_get (f := 51) (v := ai (fI u14 51 x0)) G o17 rfl q759 (Or.inl rfl) (cV_I (by decide) (by decide)) dX4_place_97 ?_
  refine zv_iconst (a := 1) G (by decide) dX4_place_100 ?_
  refine zv_isub G dX4_place_101 ?_
  have o18 := h.1
  have h := h.2
  refine zc_aald G o18.1 (w32_r _) o18.2.1 o18.2.2 dX4_place_102 ?_
  exact zv_aret G M (Or.inl ⟨_, rfl⟩) dX4_place_103 h
set_option maxHeartbeats 4000000 in
set_option maxRecDepth 100000 in
theorem cpC_X4_place_48 {Γ : ZG CW} {D : CD} {d p : Nat} (hp : D.K.1 = p) (G : ZOk Γ cX4_place RX4 7 (KnC D) (ZC D)) (M : ZRm Γ (d + 1) D.lim (Option.some (Jvm.ClassFile.FieldType.object "LetterPost$Place")) "place" []) (S : SdC d D p Γ.l) (hl : Γ.l.stackTraces = false) (hk : 0 ≤ d) {x6 : Nat} {w : CW} (h : pC_X4_place_48 p (wpC p d) (fun v w => Γ.Q (.inl (some (ar v))) w) x6 w) : ZV Γ w 48 [(6, ar x6)] [] := by
  refine zc_wk G hp (fun hw tw => ?_)
  refine zv_aload G rfl dX4_place_48 ?_
  exact zv_aret G M (Or.inl ⟨_, rfl⟩) dX4_place_50 h
set_option maxHeartbeats 4000000 in
set_option maxRecDepth 100000 in
theorem cpC_X4_place_51 {Γ : ZG CW} {D : CD} {d p : Nat} (hp : D.K.1 = p) (G : ZOk Γ cX4_place RX4 7 (KnC D) (ZC D)) (M : ZRm Γ (d + 1) D.lim (Option.some (Jvm.ClassFile.FieldType.object "LetterPost$Place")) "place" []) (S : SdC d D p Γ.l) (hl : Γ.l.stackTraces = false) (hk : 0 ≤ d) {I3 : Int → CW → Prop} {x0 : Nat} {x1 : Nat} {x2 : Nat} {x3 : Int} {x4 : Int} {x5 : Int} {w : CW} (hI3 : ∀ (x5 : Int) (w : CW), I3 x5 w → zr x5 → ZV Γ w 3 [(0, ar x0), (1, ar x1), (2, ar x2), (3, ai x3), (4, ai x4), (5, ai x5)] []) (rx3 : zr x3) (rx4 : zr x4) (rx5 : zr x5) (h : pC_X4_place_51 p (wpC p d) (fun v w => Γ.Q (.inl (some (ar v))) w) I3 x0 x1 x2 x3 x4 x5 w) : ZV Γ w 51 [(0, ar x0), (1, ar x1), (2, ar x2), (3, ai x3), (4, ai x4), (5, ai x5)] [] := by
  refine zc_wk G hp (fun hw tw => ?_)
  refine zv_iincN G rfl (by decide) dX4_place_51 (fun x5_24 ex5_24 => ?_)
  have h := h x5_24 ex5_24
  have rx5_24 : zr x5_24 := by rw [ex5_24]; exact w32_r _
  refine zv_goto (tgt := 3) G (by decide) dX4_place_54 ?_
  exact zv_pick [0, 1, 2, 3, 4, 5] rfl (hI3 _ _ h rx5_24)
set_option maxHeartbeats 4000000 in
set_option maxRecDepth 100000 in
theorem cpC_X4_place_3 {Γ : ZG CW} {D : CD} {d p : Nat} (hp : D.K.1 = p) (G : ZOk Γ cX4_place RX4 7 (KnC D) (ZC D)) (M : ZRm Γ (d + 1) D.lim (Option.some (Jvm.ClassFile.FieldType.object "LetterPost$Place")) "place" []) (S : SdC d D p Γ.l) (hl : Γ.l.stackTraces = false) (hk : 0 ≤ d) {x0 : Nat} {x1 : Nat} {x2 : Nat} {x3 : Int} {x4 : Int} {x5 : Int} {w : CW} (rx3 : zr x3) (rx4 : zr x4) (rx5 : zr x5) (h : pC_X4_place_3 p (wpC p d) (fun v w => Γ.Q (.inl (some (ar v))) w) x0 x1 x2 x3 x4 x5 w) : ZV Γ w 3 [(0, ar x0), (1, ar x1), (2, ar x2), (3, ai x3), (4, ai x4), (5, ai x5)] [] := by
  obtain ⟨I3, eI3⟩ : ∃ I : Int → CW → Prop, I = (fun x5 w => zr x5 → ZV Γ w 3 [(0, ar x0), (1, ar x1), (2, ar x2), (3, ai x3), (4, ai x4), (5, ai x5)] []) := ⟨_, rfl⟩
  have hI3 : ∀ (x5 : Int) (w : CW), I3 x5 w → zr x5 → ZV Γ w 3 [(0, ar x0), (1, ar x1), (2, ar x2), (3, ai x3), (4, ai x4), (5, ai x5)] [] := by subst eI3; exact fun _ _ z => z
  have hJ3 : ∀ (x5 : Int) (w : CW), (zr x5 → ZV Γ w 3 [(0, ar x0), (1, ar x1), (2, ar x2), (3, ai x3), (4, ai x4), (5, ai x5)] []) → I3 x5 w := by subst eI3; exact fun _ _ z => z
  refine hI3 x5 w (h I3 (fun x5 w h => hJ3 x5 w (fun rx5 => ?_))) rx5
  refine zc_wk G hp (fun hw tw => ?_)
  refine zv_iload G rfl dX4_place_3 ?_
  refine zv_aload_n G rfl rfl dX4_place_5 ?_
  have o1 := h.1
  have h := h.2
  refine zc_get (f := 51) (v := ai (fI w 51 x0)) G o1 rfl q759 (Or.inl rfl) (cV_I (by decide) (by decide)) dX4_place_6 ?_
  refine zv_icmp_ge (tgt := 57) G rx5 (hw.i 51 _ (by decide)) (by decide) dX4_place_9 (fun c2 => ?_) (fun c2 => ?_)
  · have h := h.1 c2
    exact zv_pick [0, 1, 2, 3, 4] rfl (cpC_X4_place_57 hp G M S hl hk rx3 rx4 h)
  · have h := h.2 c2
    refine zv_aload_n G rfl rfl dX4_place_12 ?_
    have o19 := h.1
    have h := h.2
    refine zc_get (f := 50) (v := ar (fR w 50 x0)) G o19 rfl q757 (Or.inl rfl) (cV_R rfl) dX4_place_13 ?_
    refine zv_iload G rfl dX4_place_16 ?_
    have o20 := h.1
    have h := h.2
    refine zc_aald G o20.1 rx5 o20.2.1 o20.2.2 dX4_place_18 ?_
    refine zv_astoreN G (by decide) dX4_place_19 (fun x6_21 ex6_21 => ?_)
    have h := h x6_21 ex6_21
    refine zv_aload G rfl dX4_place_21 ?_
    have o22 := h.1
    have h := h.2
    refine zc_get (f := 85) (v := ar (fR w 85 x6_21)) G o22 rfl q1135 (Or.inl rfl) (cV_R rfl) dX4_place_23 ?_
    refine zv_aload_n G rfl rfl dX4_place_26 ?_
    have o23 := h.1
    have h := h.2
    have kt25 : ((fR w 85 x6_21) = x1) ∧ (((fR w 86 x6_21) = x2) ∧ ((fI w 87 x6_21) = x3)) → ZV Γ w 48 [(6, ar x6_21), (0, ar x0), (1, ar x1), (2, ar x2), (3, ai x3), (4, ai x4), (5, ai x5)] [] := by
      intro c27
      have h := h.1 c27
      exact zv_pick [6] rfl (cpC_X4_place_48 hp G M S hl hk h)
    have kf26 : ¬ (((fR w 85 x6_21) = x1) ∧ (((fR w 86 x6_21) = x2) ∧ ((fI w 87 x6_21) = x3))) → ZV Γ w 51 [(6, ar x6_21), (0, ar x0), (1, ar x1), (2, ar x2), (3, ai x3), (4, ai x4), (5, ai x5)] [] := by
      intro c27
      have h := h.2 c27
      exact zv_pick [0, 1, 2, 3, 4, 5] rfl (cpC_X4_place_51 hp G M S hl hk hI3 rx3 rx4 rx5 h)
    refine zv_acmp_ne (tgt := 51) G (by decide) dX4_place_27 (fun c28 => ?_) (fun c28 => ?_)
    · exact kf26 (fun q => c28 q.1)
    · refine zv_aload G rfl dX4_place_30 ?_
      refine zc_get (f := 86) (v := ar (fR w 86 x6_21)) G (o23 c28).1 rfl q1137 (Or.inl rfl) (cV_R rfl) dX4_place_32 ?_
      refine zv_aload_n G rfl rfl dX4_place_35 ?_
      refine zv_acmp_ne (tgt := 51) G (by decide) dX4_place_36 (fun c29 => ?_) (fun c29 => ?_)
      · exact kf26 (fun q => (fun q => c29 q.1) q.2)
      · refine zv_aload G rfl dX4_place_39 ?_
        refine zc_get (f := 87) (v := ai (fI w 87 x6_21)) G ((o23 c28).2 c29) rfl q1139 (Or.inl rfl) (cV_I (by decide) (by decide)) dX4_place_41 ?_
        refine zv_iload_n G rfl rfl dX4_place_44 ?_
        refine zv_icmp_ne (tgt := 51) G (hw.i 87 _ (by decide)) rx3 (by decide) dX4_place_45 (fun c30 => ?_) (fun c30 => ?_)
        · exact kf26 (fun q => (fun q => c30 q.2) q.2)
        · exact kt25 ⟨c28, ⟨c29, c30⟩⟩
set_option maxHeartbeats 4000000 in
set_option maxRecDepth 100000 in
theorem cpC_X4_place_0 {Γ : ZG CW} {D : CD} {d p : Nat} (hp : D.K.1 = p) (G : ZOk Γ cX4_place RX4 7 (KnC D) (ZC D)) (M : ZRm Γ (d + 1) D.lim (Option.some (Jvm.ClassFile.FieldType.object "LetterPost$Place")) "place" []) (S : SdC d D p Γ.l) (hl : Γ.l.stackTraces = false) (hk : 0 ≤ d) {x0 : Nat} {x1 : Nat} {x2 : Nat} {x3 : Int} {x4 : Int} {w : CW} (rx3 : zr x3) (rx4 : zr x4) (h : pC_X4_place_0 p (wpC p d) (fun v w => Γ.Q (.inl (some (ar v))) w) x0 x1 x2 x3 x4 w) : ZV Γ w 0 [(0, ar x0), (1, ar x1), (2, ar x2), (3, ai x3), (4, ai x4)] [] := by
  refine zc_wk G hp (fun hw tw => ?_)
  refine zv_iconst (a := 0) G (by decide) dX4_place_0 ?_
  refine zv_istore G (by decide) rfl dX4_place_1 ?_
  exact zv_pick [0, 1, 2, 3, 4, 5] rfl (cpC_X4_place_3 hp G M S hl hk rx3 rx4 (zr_k 0 (by decide) (by decide)) h)
set_option maxHeartbeats 4000000 in
set_option maxRecDepth 100000 in
theorem cpC_X4_remake_0 {Γ : ZG CW} {D : CD} {d p : Nat} (hp : D.K.1 = p) (G : ZOk Γ cX4_remake RX4 2 (KnC D) (ZC D)) (M : ZRm Γ (d + 1) D.lim (Option.none : Option Jvm.ClassFile.FieldType) "remake" []) (S : SdC d D p Γ.l) (hl : Γ.l.stackTraces = false) (hk : 0 ≤ d) {x0 : Nat} {x1 : Int} {w : CW} (rx1 : zr x1) (h : pC_X4_remake_0 p (wpC p d) (fun w => Γ.Q (.inl none) w) (fun x w => Γ.Q (.inr x) w) x0 x1 w) : ZV Γ w 0 [(0, ar x0), (1, ai x1)] [] := by
  refine zc_wk G hp (fun hw tw => ?_)
  refine zv_aload_n G rfl rfl dX4_remake_0 ?_
  refine zv_aload_n G rfl rfl dX4_remake_1 ?_
  refine zv_iload_n G rfl rfl dX4_remake_2 ?_
  refine zv_iconst (a := 0) G (by decide) dX4_remake_3 ?_
  have o13 := h.1
  have h := h.2
  refine zv_callR (as := [ar x0, ai x1, ai 0]) (st := [ar x0]) G M (zc_eV (C := zcn 4) G q1199 q1200 q1201 (Or.inl ⟨rfl, rfl⟩) q1202 md_X4_make (zc_rc G (zne tw o13 (by decide)) o13 (by decide) (by decide) rfl) rfl dX4_remake_4) (S 89 _ rfl _ _ _ h (zoks_cons trivial (zoks_cons rx1 (zoks_cons (zr_k 0 (by decide) (by decide)) zoks_nil)))) (Or.inl ⟨rfl, rfl⟩) (zc_hk q1202 q160) (by decide) (Nat.le_of_ble_eq_true rfl) (fun v2 u1 h => ?_) (fun x11 u12 h => ?_)
  rotate_left
  · exact zx_leave G M rfl h
  refine zc_wk G hp (fun hu1 tu1 => ?_)
  have o4 := h.1
  have h := h.2
  refine zc_putR (f := 52) G M o4 rfl q760 (Or.inl rfl) (Or.inl rfl) (zfty_52) (Or.inl ⟨_, rfl⟩) rfl dX4_remake_7 (fun u3 eu3 => ?_)
  have h := h u3 eu3
  refine zc_wk G hp (fun hu3 tu3 => ?_)
  refine zv_aload_n G rfl rfl dX4_remake_10 ?_
  refine zv_iload_n G rfl rfl dX4_remake_11 ?_
  have o6 := h.1
  have h := h.2
  refine zc_putI (f := 53) G M o6 rfl q762 (Or.inl rfl) (Or.inl rfl) (zfty_53) rfl rfl (by decide) (by decide) rx1 dX4_remake_12 (fun u5 eu5 => ?_)
  have h := h u5 eu5
  refine zc_wk G hp (fun hu5 tu5 => ?_)
  refine zv_aload_n G rfl rfl dX4_remake_15 ?_
  refine zv_aload_n G rfl rfl dX4_remake_16 ?_
  have o7 := h.1
  have h := h.2
  refine zc_get (f := 55) (v := ar (fR u5 55 x0)) G o7 rfl q766 (Or.inl rfl) (cV_R rfl) dX4_remake_17 ?_
  have o8 := h.1
  have h := h.2
  refine zc_getN (f := 1) (v := ai (fI u5 1 (fR u5 55 x0))) G o8 rfl q2056 (Or.inl rfl) (cV_I (by decide) (by decide)) dX4_remake_20 ?_
  have o10 := h.1
  have h := h.2
  refine zc_putI (f := 54) G M o10 rfl q764 (Or.inl rfl) (Or.inl rfl) (zfty_54) rfl rfl (by decide) (by decide) (hu5.i 1 _ (by decide)) dX4_remake_23 (fun u9 eu9 => ?_)
  have h := h u9 eu9
  refine zc_wk G hp (fun hu9 tu9 => ?_)
  exact zv_vret G M dX4_remake_26 h
set_option maxHeartbeats 4000000 in
set_option maxRecDepth 100000 in
theorem cpC_X4_make_70 {Γ : ZG CW} {D : CD} {d p : Nat} (hp : D.K.1 = p) (G : ZOk Γ cX4_make RX4 9 (KnC D) (ZC D)) (M : ZRm Γ (d + 1) D.lim (Option.some (Jvm.ClassFile.FieldType.object "LetterPost$Node")) "make" []) (S : SdC d D p Γ.l) (hl : Γ.l.stackTraces = false) (hk : 0 ≤ d) {x0 : Nat} {x1 : Int} {x3 : Nat} {x4 : Int} {w : CW} (rx1 : zr x1) (rx4 : zr x4) (h : pC_X4_make_70 p (wpC p d) (fun v w => Γ.Q (.inl (some (ar v))) w) (fun x w => Γ.Q (.inr x) w) x0 x1 x3 x4 w) : ZV Γ w 70 [(0, ar x0), (1, ai x1), (3, ar x3), (4, ai x4)] [] := by
  refine zc_wk G hp (fun hw tw => ?_)
  have o11 := h.1
  have h := h.2
  refine zc_new (ci := 15) (t := 16) (n := 7) G M rfl rfl (by decide) rfl q1203 q1204 q174 o11 dX4_make_70 (fun u10 eu10 => ?_)
  have h := h u10 eu10
  refine zc_wk G hp (fun hu10 tu10 => ?_)
  refine zv_dup G rfl dX4_make_73 ?_
  refine zv_aload_n G rfl rfl dX4_make_74 ?_
  have o12 := h.1
  have h := h.2
  refine zc_get (f := 55) (v := ar (fR u10 55 x0)) G o12 rfl q766 (Or.inl rfl) (cV_R rfl) dX4_make_75 ?_
  refine zv_aload_n G rfl rfl dX4_make_78 ?_
  refine zv_iload_n G rfl rfl dX4_make_79 ?_
  refine zv_callV (as := [ar (cz w + 1), ar (fR u10 55 x0), ar x0, ai x1]) (st := [ar (cz w + 1)]) G M (zc_eI G rfl q1205 q1206 q1207 md_X18_init (Nat.succ_ne_zero _) rfl dX4_make_80) (S 132 _ rfl _ _ _ h (zoks_cons trivial (zoks_cons trivial (zoks_cons trivial (zoks_cons rx1 zoks_nil))))) (Or.inl ⟨rfl, rfl⟩) (zc_hk q1207 q174) (by decide) (Nat.le_of_ble_eq_true rfl) (fun u13 h => ?_) (fun _ _ h => h.elim)
  refine zc_wk G hp (fun hu13 tu13 => ?_)
  refine zv_aload_n G rfl rfl dX4_make_83 ?_
  refine zv_iload G rfl dX4_make_84 ?_
  have o19 := h.1
  have h := h.2
  refine zv_callR (as := [ar (cz w + 1), ar x3, ai x4]) (st := []) G M (zc_eV (C := zcn 16) G q1285 q1286 q1287 (Or.inl ⟨rfl, rfl⟩) q1288 md_X18_make (zc_rc G (zne tu13 o19 (by decide)) o19 (by decide) (by decide) rfl) rfl dX4_make_86) (S 133 _ rfl _ _ _ h (zoks_cons trivial (zoks_cons trivial (zoks_cons rx4 zoks_nil)))) (Or.inl ⟨rfl, rfl⟩) (zc_hk q1288 q174) (by decide) (Nat.le_of_ble_eq_true rfl) (fun v16 u15 h => ?_) (fun x17 u18 h => ?_)
  rotate_left
  · exact zx_leave G M rfl h
  refine zc_wk G hp (fun hu15 tu15 => ?_)
  exact zv_aret G M (Or.inl ⟨_, rfl⟩) dX4_make_89 h
set_option maxHeartbeats 4000000 in
set_option maxRecDepth 100000 in
theorem cpC_X4_make_64 {Γ : ZG CW} {D : CD} {d p : Nat} (hp : D.K.1 = p) (G : ZOk Γ cX4_make RX4 9 (KnC D) (ZC D)) (M : ZRm Γ (d + 1) D.lim (Option.some (Jvm.ClassFile.FieldType.object "LetterPost$Node")) "make" []) (S : SdC d D p Γ.l) (hl : Γ.l.stackTraces = false) (hk : 0 ≤ d) {I26 : Int → Int → CW → Prop} {x0 : Nat} {x1 : Int} {x2 : Int} {x3 : Nat} {x4 : Int} {x5 : Nat} {x6 : Int} {x7 : Int} {w : CW} (hI26 : ∀ (x4 : Int) (x7 : Int) (w : CW), I26 x4 x7 w → zr x4 → zr x7 → ZV Γ w 26 [(0, ar x0), (1, ai x1), (2, ai x2), (3, ar x3), (4, ai x4), (5, ar x5), (6, ai x6), (7, ai x7)] []) (rx1 : zr x1) (rx2 : zr x2) (rx4 : zr x4) (rx6 : zr x6) (rx7 : zr x7) (h : pC_X4_make_64 p (wpC p d) (fun v w => Γ.Q (.inl (some (ar v))) w) (fun x w => Γ.Q (.inr x) w) I26 x0 x1 x2 x3 x4 x5 x6 x7 w) : ZV Γ w 64 [(0, ar x0), (1, ai x1), (2, ai x2), (3, ar x3), (4, ai x4), (5, ar x5), (6, ai x6), (7, ai x7)] [] := by
  refine zc_wk G hp (fun hw tw => ?_)
  refine zv_iincN G rfl (by decide) dX4_make_64 (fun x7_27 ex7_27 => ?_)
  have h := h x7_27 ex7_27
  have rx7_27 : zr x7_27 := by rw [ex7_27]; exact w32_r _
  refine zv_goto (tgt := 26) G (by decide) dX4_make_67 ?_
  exact zv_pick [0, 1, 2, 3, 4, 5, 6, 7] rfl (hI26 _ _ _ h rx4 rx7_27)
set_option maxHeartbeats 4000000 in
set_option maxRecDepth 100000 in
theorem cpC_X4_make_55 {Γ : ZG CW} {D : CD} {d p : Nat} (hp : D.K.1 = p) (G : ZOk Γ cX4_make RX4 9 (KnC D) (ZC D)) (M : ZRm Γ (d + 1) D.lim (Option.some (Jvm.ClassFile.FieldType.object "LetterPost$Node")) "make" []) (S : SdC d D p Γ.l) (hl : Γ.l.stackTraces = false) (hk : 0 ≤ d) {I26 : Int → Int → CW → Prop} {x0 : Nat} {x1 : Int} {x2 : Int} {x3 : Nat} {x4 : Int} {x5 : Nat} {x6 : Int} {x7 : Int} {x8 : Nat} {w : CW} (hI26 : ∀ (x4 : Int) (x7 : Int) (w : CW), I26 x4 x7 w → zr x4 → zr x7 → ZV Γ w 26 [(0, ar x0), (1, ai x1), (2, ai x2), (3, ar x3), (4, ai x4), (5, ar x5), (6, ai x6), (7, ai x7)] []) (rx1 : zr x1) (rx2 : zr x2) (rx4 : zr x4) (rx6 : zr x6) (rx7 : zr x7) (h : pC_X4_make_55 p (wpC p d) (fun v w => Γ.Q (.inl (some (ar v))) w) (fun x w => Γ.Q (.inr x) w) I26 x0 x1 x2 x3 x4 x5 x6 x7 x8 w) : ZV Γ w 55 [(0, ar x0), (1, ai x1), (2, ai x2), (3, ar x3), (4, ai x4), (5, ar x5), (6, ai x6), (7, ai x7), (8, ar x8)] [] := by
  refine zc_wk G hp (fun hw tw => ?_)
  refine zv_aload_n G rfl rfl dX4_make_55 ?_
  refine zv_iload G rfl dX4_make_56 ?_
  refine zv_aload G rfl dX4_make_58 ?_
  have o24 := h.1
  have h := h.2
  have o25 := h.1
  have h := h.2
  refine zc_aast G o24.1 o25 rx4 o24.2.1 o24.2.2 dX4_make_60 (fun u23 eu23 => ?_)
  have h := h u23 eu23
  refine zc_wk G hp (fun hu23 tu23 => ?_)
  refine zv_iincN G rfl (by decide) dX4_make_61 (fun x4_26 ex4_26 => ?_)
  have h := h x4_26 ex4_26
  have rx4_26 : zr x4_26 := by rw [ex4_26]; exact w32_r _
  exact zv_pick [0, 1, 2, 3, 4, 5, 6, 7] rfl (cpC_X4_make_64 hp G M S hl hk hI26 rx1 rx2 rx4_26 rx6 rx7 h)
set_option maxHeartbeats 4000000 in
set_option maxRecDepth 100000 in
theorem cpC_X4_make_26 {Γ : ZG CW} {D : CD} {d p : Nat} (hp : D.K.1 = p) (G : ZOk Γ cX4_make RX4 9 (KnC D) (ZC D)) (M : ZRm Γ (d + 1) D.lim (Option.some (Jvm.ClassFile.FieldType.object "LetterPost$Node")) "make" []) (S : SdC d D p Γ.l) (hl : Γ.l.stackTraces = false) (hk : 0 ≤ d) {x0 : Nat} {x1 : Int} {x2 : Int} {x3 : Nat} {x4 : Int} {x5 : Nat} {x6 : Int} {x7 : Int} {w : CW} (rx1 : zr x1) (rx2 : zr x2) (rx4 : zr x4) (rx6 : zr x6) (rx7 : zr x7) (h : pC_X4_make_26 p (wpC p d) (fun v w => Γ.Q (.inl (some (ar v))) w) (fun x w => Γ.Q (.inr x) w) x0 x1 x2 x3 x4 x5 x6 x7 w) : ZV Γ w 26 [(0, ar x0), (1, ai x1), (2, ai x2), (3, ar x3), (4, ai x4), (5, ar x5), (6, ai x6), (7, ai x7)] [] := by
  obtain ⟨I26, eI26⟩ : ∃ I : Int → Int → CW → Prop, I = (fun x4 x7 w => zr x4 → zr x7 → ZV Γ w 26 [(0, ar x0), (1, ai x1), (2, ai x2), (3, ar x3), (4, ai x4), (5, ar x5), (6, ai x6), (7, ai x7)] []) := ⟨_, rfl⟩
  have hI26 : ∀ (x4 : Int) (x7 : Int) (w : CW), I26 x4 x7 w → zr x4 → zr x7 → ZV Γ w 26 [(0, ar x0), (1, ai x1), (2, ai x2), (3, ar x3), (4, ai x4), (5, ar x5), (6, ai x6), (7, ai x7)] [] := by subst eI26; exact fun _ _ _ z => z
  have hJ26 : ∀ (x4 : Int) (x7 : Int) (w : CW), (zr x4 → zr x7 → ZV Γ w 26 [(0, ar x0), (1, ai x1), (2, ai x2), (3, ar x3), (4, ai x4), (5, ar x5), (6, ai x6), (7, ai x7)] []) → I26 x4 x7 w := by subst eI26; exact fun _ _ _ z => z
  refine hI26 x4 x7 w (h I26 (fun x4 x7 w h => hJ26 x4 x7 w (fun rx4 rx7 => ?_))) rx4 rx7
  refine zc_wk G hp (fun hw tw => ?_)
  refine zv_iload G rfl dX4_make_26 ?_
  refine zv_iload G rfl dX4_make_28 ?_
  refine zv_icmp_ge (tgt := 70) G rx7 rx6 (by decide) dX4_make_30 (fun c9 => ?_) (fun c9 => ?_)
  · have h := h.1 c9
    exact zv_pick [0, 1, 3, 4] rfl (cpC_X4_make_70 hp G M S hl hk rx1 rx4 h)
  · have h := h.2 c9
    refine zv_aload G rfl dX4_make_33 ?_
    refine zv_iload G rfl dX4_make_35 ?_
    have o20 := h.1
    have h := h.2
    refine zc_aald G o20.1 rx7 o20.2.1 o20.2.2 dX4_make_37 ?_
    refine zv_astoreN G (by decide) dX4_make_38 (fun x8_21 ex8_21 => ?_)
    have h := h x8_21 ex8_21
    refine zv_iload_n G rfl rfl dX4_make_40 ?_
    have o22 := h.1
    have h := h.2
    have kt28 : (x2 = 0) ∨ ((fR w 59 (fR w 80 x8_21)) = 0) → ZV Γ w 55 [(8, ar x8_21), (0, ar x0), (1, ai x1), (2, ai x2), (3, ar x3), (4, ai x4), (5, ar x5), (6, ai x6), (7, ai x7)] [] := by
      intro c30
      have h := h.1 c30
      exact zv_pick [0, 1, 2, 3, 4, 5, 6, 7, 8] rfl (cpC_X4_make_55 hp G M S hl hk hI26 rx1 rx2 rx4 rx6 rx7 h)
    have kf29 : ¬ ((x2 = 0) ∨ ((fR w 59 (fR w 80 x8_21)) = 0)) → ZV Γ w 64 [(8, ar x8_21), (0, ar x0), (1, ai x1), (2, ai x2), (3, ar x3), (4, ai x4), (5, ar x5), (6, ai x6), (7, ai x7)] [] := by
      intro c30
      have h := h.2 c30
      exact zv_pick [0, 1, 2, 3, 4, 5, 6, 7] rfl (cpC_X4_make_64 hp G M S hl hk hI26 rx1 rx2 rx4 rx6 rx7 h)
    refine zv_if_eq (tgt := 55) G rx2 (by decide) dX4_make_41 (fun c31 => ?_) (fun c31 => ?_)
    · exact kt28 (Or.inl c31)
    · refine zv_aload G rfl dX4_make_44 ?_
      refine zc_get (f := 80) (v := ar (fR w 80 x8_21)) G (o22 c31).1 rfl q1105 (Or.inl rfl) (cV_R rfl) dX4_make_46 ?_
      refine zc_get (f := 59) (v := ar (fR w 59 (fR w 80 x8_21))) G (o22 c31).2 rfl q811 (Or.inl rfl) (cV_R rfl) dX4_make_49 ?_
      refine zv_ifnonnull (tgt := 64) G (by decide) dX4_make_52 (fun c32 => ?_) (fun c32 => ?_)
      · exact kf29 (fun q => q.elim c31 c32)
      · exact kt28 (Or.inr c32)
set_option maxHeartbeats 4000000 in
set_option maxRecDepth 100000 in
theorem cpC_X4_make_0 {Γ : ZG CW} {D : CD} {d p : Nat} (hp : D.K.1 = p) (G : ZOk Γ cX4_make RX4 9 (KnC D) (ZC D)) (M : ZRm Γ (d + 1) D.lim (Option.some (Jvm.ClassFile.FieldType.object "LetterPost$Node")) "make" []) (S : SdC d D p Γ.l) (hl : Γ.l.stackTraces = false) (hk : 0 ≤ d) {x0 : Nat} {x1 : Int} {x2 : Int} {w : CW} (rx1 : zr x1) (rx2 : zr x2) (h : pC_X4_make_0 p (wpC p d) (fun v w => Γ.Q (.inl (some (ar v))) w) (fun x w => Γ.Q (.inr x) w) x0 x1 x2 w) : ZV Γ w 0 [(0, ar x0), (1, ai x1), (2, ai x2)] [] := by
  refine zc_wk G hp (fun hw tw => ?_)
  refine zv_aload_n G rfl rfl dX4_make_0 ?_
  have o1 := h.1
  have h := h.2
  refine zc_get (f := 49) (v := ar (fR w 49 x0)) G o1 rfl q755 (Or.inl rfl) (cV_R rfl) dX4_make_1 ?_
  have o2 := h.1
  have h := h.2
  refine zc_alen G o2 dX4_make_4 ?_
  have o4 := h.1
  have h := h.2
  refine zc_anew (t := 116) G M (by decide) q1092 o4.1 o4.2 dX4_make_5 (fun u3 eu3 => ?_)
  have h := h u3 eu3
  refine zc_wk G hp (fun hu3 tu3 => ?_)
  refine zv_astore_n G rfl (by decide) rfl dX4_make_8 ?_
  refine zv_iconst (a := 0) G (by decide) dX4_make_9 ?_
  refine zv_istore G (by decide) rfl dX4_make_10 ?_
  refine zv_aload_n G rfl rfl dX4_make_12 ?_
  have o5 := h.1
  have h := h.2
  refine zc_get (f := 49) (v := ar (fR u3 49 x0)) G o5 rfl q755 (Or.inl rfl) (cV_R rfl) dX4_make_13 ?_
  refine zv_astoreN G (by decide) dX4_make_16 (fun x5_6 ex5_6 => ?_)
  have h := h x5_6 ex5_6
  refine zv_aload G rfl dX4_make_18 ?_
  have o7 := h.1
  have h := h.2
  refine zc_alen G o7 dX4_make_20 ?_
  refine zv_istoreN G (by decide) dX4_make_21 (fun x6_8 ex6_8 => ?_)
  have h := h x6_8 ex6_8
  have rx6_8 : zr x6_8 := by rw [ex6_8]; exact (zc_lnr hu3 _)
  refine zv_iconst (a := 0) G (by decide) dX4_make_23 ?_
  refine zv_istore G (by decide) rfl dX4_make_24 ?_
  exact zv_pick [0, 1, 2, 3, 4, 5, 6, 7] rfl (cpC_X4_make_26 hp G M S hl hk rx1 rx2 (zr_k 0 (by decide) (by decide)) rx6_8 (zr_k 0 (by decide) (by decide)) h)
set_option maxHeartbeats 4000000 in
set_option maxRecDepth 100000 in
theorem cpC_X5_init_0 {Γ : ZG CW} {D : CD} {d p : Nat} (hp : D.K.1 = p) (G : ZOk Γ cX5_init RX5 3 (KnC D) (ZC D)) (M : ZRm Γ (d + 1) D.lim (Option.none : Option Jvm.ClassFile.FieldType) "<init>" []) (S : SdC d D p Γ.l) (hl : Γ.l.stackTraces = false) (hk : 0 ≤ d) {x0 : Nat} {x1 : Int} {x2 : Int} {w : CW} (rx1 : zr x1) (rx2 : zr x2) (h : pC_X5_init_0 p (wpC p d) (fun w => Γ.Q (.inl none) w) x0 x1 x2 w) : ZV Γ w 0 [(0, ar x0), (1, ai x1), (2, ai x2)] [] := by
  refine zc_wk G hp (fun hw tw => ?_)
  refine zv_aload_n G rfl rfl dX5_init_0 ?_
  have o2 := h.1
  have h := h.2
  refine zc_oinit G M q803 q262 q263 o2 (Nat.le_of_ble_eq_true rfl) dX5_init_1 ?_
  refine zv_aload_n G rfl rfl dX5_init_4 ?_
  refine zv_iconst (a := (-1)) G (by decide) dX5_init_5 ?_
  have o4 := h.1
  have h := h.2
  refine zc_putI (f := 61) G M o4 rfl q814 (Or.inl rfl) (Or.inl rfl) (zfty_61) rfl rfl (by decide) (by decide) (zr_k (-1) (by decide) (by decide)) dX5_init_6 (fun u3 eu3 => ?_)
  have h := h u3 eu3
  refine zc_wk G hp (fun hu3 tu3 => ?_)
  refine zv_aload_n G rfl rfl dX5_init_9 ?_
  refine zv_bipush (a := 8) G (by decide) dX5_init_10 ?_
  have o6 := h.1
  have h := h.2
  refine zc_newa (t := 102) (ty := .int) G M (by decide) rfl rfl (fun z => z) (by decide) rfl q708 o6.1 o6.2 dX5_init_12 (fun u5 eu5 => ?_)
  have h := h u5 eu5
  refine zc_wk G hp (fun hu5 tu5 => ?_)
  have o8 := h.1
  have h := h.2
  refine zc_putR (f := 67) G M o8 rfl q821 (Or.inl rfl) (Or.inr ⟨rfl, rfl, rfl⟩) (zfty_67) (Or.inr ⟨_, rfl⟩) rfl dX5_init_14 (fun u7 eu7 => ?_)
  have h := h u7 eu7
  refine zc_wk G hp (fun hu7 tu7 => ?_)
  refine zv_aload_n G rfl rfl dX5_init_17 ?_
  refine zv_iload_n G rfl rfl dX5_init_18 ?_
  have o10 := h.1
  have h := h.2
  refine zc_putI (f := 56) G M o10 rfl q804 (Or.inl rfl) (Or.inr ⟨rfl, rfl, rfl⟩) (zfty_56) rfl rfl (by decide) (by decide) rx1 dX5_init_19 (fun u9 eu9 => ?_)
  have h := h u9 eu9
  refine zc_wk G hp (fun hu9 tu9 => ?_)
  refine zv_aload_n G rfl rfl dX5_init_22 ?_
  refine zv_iload_n G rfl rfl dX5_init_23 ?_
  have o12 := h.1
  have h := h.2
  refine zc_putI (f := 57) G M o12 rfl q806 (Or.inl rfl) (Or.inr ⟨rfl, rfl, rfl⟩) (zfty_57) rfl rfl (by decide) (by decide) rx2 dX5_init_24 (fun u11 eu11 => ?_)
  have h := h u11 eu11
  refine zc_wk G hp (fun hu11 tu11 => ?_)
  exact zv_vret G M dX5_init_27 h
set_option maxHeartbeats 4000000 in
set_option maxRecDepth 100000 in
theorem cpC_X6_init_0 {Γ : ZG CW} {D : CD} {d p : Nat} (hp : D.K.1 = p) (G : ZOk Γ cX6_init RX6 1 (KnC D) (ZC D)) (M : ZRm Γ (d + 1) D.lim (Option.none : Option Jvm.ClassFile.FieldType) "<init>" []) (S : SdC d D p Γ.l) (hl : Γ.l.stackTraces = false) (hk : 0 ≤ d) {x0 : Nat} {w : CW} (h : pC_X6_init_0 p (wpC p d) (fun w => Γ.Q (.inl none) w) x0 w) : ZV Γ w 0 [(0, ar x0)] [] := by
  refine zc_wk G hp (fun hw tw => ?_)
  refine zv_aload_n G rfl rfl dX6_init_0 ?_
  have o2 := h.1
  have h := h.2
  refine zc_oinit G M q866 q262 q263 o2 (Nat.le_of_ble_eq_true rfl) dX6_init_1 ?_
  refine zv_aload_n G rfl rfl dX6_init_4 ?_
  refine zv_iconst (a := (-1)) G (by decide) dX6_init_5 ?_
  have o4 := h.1
  have h := h.2
  refine zc_putI (f := 68) G M o4 rfl q867 (Or.inl rfl) (Or.inl rfl) (zfty_68) rfl rfl (by decide) (by decide) (zr_k (-1) (by decide) (by decide)) dX6_init_6 (fun u3 eu3 => ?_)
  have h := h u3 eu3
  refine zc_wk G hp (fun hu3 tu3 => ?_)
  exact zv_vret G M dX6_init_9 h
set_option maxHeartbeats 4000000 in
set_option maxRecDepth 100000 in
theorem cpC_X6_ways_0 {Γ : ZG CW} {D : CD} {d p : Nat} (hp : D.K.1 = p) (G : ZOk Γ cX6_ways RX6 1 (KnC D) (ZC D)) (M : ZRm Γ (d + 1) D.lim (Option.some Jvm.ClassFile.FieldType.int) "ways" []) (S : SdC d D p Γ.l) (hl : Γ.l.stackTraces = false) (hk : 0 ≤ d) {w : CW} (h : pC_X6_ways_0 p (wpC p d) (fun v w => Γ.Q (.inl (some (ai v))) w) w) : ZV Γ w 0 [] [] := by
  refine zc_wk G hp (fun hw tw => ?_)
  refine zv_iconst (a := 1) G (by decide) dX6_ways_0 ?_
  exact zv_iret (ty := .int) (zr_k 1 (by decide) (by decide)) G M rfl dX6_ways_1 h
set_option maxHeartbeats 4000000 in
set_option maxRecDepth 100000 in
theorem cpC_X6_row_18 {Γ : ZG CW} {D : CD} {d p : Nat} (hp : D.K.1 = p) (G : ZOk Γ cX6_row RX6 5 (KnC D) (ZC D)) (M : ZRm Γ (d + 1) D.lim (Option.none : Option Jvm.ClassFile.FieldType) "row" []) (S : SdC d D p Γ.l) (hl : Γ.l.stackTraces = false) (hk : 0 ≤ d) {w : CW} (h : pC_X6_row_18 p (wpC p d) (fun w => Γ.Q (.inl none) w) w) : ZV Γ w 18 [] [] := by
  refine zc_wk G hp (fun hw tw => ?_)
  exact zv_vret G M dX6_row_18 h
set_option maxHeartbeats 4000000 in
set_option maxRecDepth 100000 in
theorem cpC_X6_row_0 {Γ : ZG CW} {D : CD} {d p : Nat} (hp : D.K.1 = p) (G : ZOk Γ cX6_row RX6 5 (KnC D) (ZC D)) (M : ZRm Γ (d + 1) D.lim (Option.none : Option Jvm.ClassFile.FieldType) "row" []) (S : SdC d D p Γ.l) (hl : Γ.l.stackTraces = false) (hk : 0 ≤ d) {x0 : Nat} {x2 : Nat} {x4 : Nat} {w : CW} (h : pC_X6_row_0 p (wpC p d) (fun w => Γ.Q (.inl none) w) x0 x2 x4 w) : ZV Γ w 0 [(0, ar x0), (2, ar x2), (4, ar x4)] [] := by
  refine zc_wk G hp (fun hw tw => ?_)
  refine zv_aload_n G rfl rfl dX6_row_0 ?_
  have o1 := h.1
  have h := h.2
  refine zc_get (f := 68) (v := ai (fI w 68 x0)) G o1 rfl q867 (Or.inl rfl) (cV_I (by decide) (by decide)) dX6_row_1 ?_
  refine zv_if_lt (tgt := 18) G (hw.i 68 _ (by decide)) (by decide) dX6_row_4 (fun c2 => ?_) (fun c2 => ?_)
  · have h := h.1 c2
    exact zv_pick [] rfl (cpC_X6_row_18 hp G M S hl hk h)
  · have h := h.2 c2
    refine zv_aload G rfl dX6_row_7 ?_
    have o3 := h.1
    have h := h.2
    refine zc_get (f := 84) (v := ar (fR w 84 x4)) G o3 rfl q1112 (Or.inl rfl) (cV_R rfl) dX6_row_9 ?_
    refine zv_aload_n G rfl rfl dX6_row_12 ?_
    have o4 := h.1
    have h := h.2
    refine zc_get (f := 68) (v := ai (fI w 68 x0)) G o4 rfl q867 (Or.inl rfl) (cV_I (by decide) (by decide)) dX6_row_13 ?_
    refine zv_aload_n G rfl rfl dX6_row_16 ?_
    have o6 := h.1
    have h := h.2
    have o7 := h.1
    have h := h.2
    refine zc_aast G o6.1 o7 (hw.i 68 _ (by decide)) o6.2.1 o6.2.2 dX6_row_17 (fun u5 eu5 => ?_)
    have h := h u5 eu5
    refine zc_wk G hp (fun hu5 tu5 => ?_)
    exact zv_pick [] rfl (cpC_X6_row_18 hp G M S hl hk h)
set_option maxHeartbeats 4000000 in
set_option maxRecDepth 100000 in
theorem cpC_X6_fits_25 {Γ : ZG CW} {D : CD} {d p : Nat} (hp : D.K.1 = p) (G : ZOk Γ cX6_fits RX6 3 (KnC D) (ZC D)) (M : ZRm Γ (d + 1) D.lim (Option.some Jvm.ClassFile.FieldType.boolean) "fits" []) (S : SdC d D p Γ.l) (hl : Γ.l.stackTraces = false) (hk : 0 ≤ d) {w : CW} (h : pC_X6_fits_25 p (wpC p d) (fun v w => Γ.Q (.inl (some (ai v))) w) w) : ZV Γ w 25 [] [] := by
  refine zc_wk G hp (fun hw tw => ?_)
  refine zv_iconst (a := 1) G (by decide) dX6_fits_25 ?_
  exact zv_iret (ty := .boolean) (zr_k 1 (by decide) (by decide)) G M (zn_Z (Or.inr rfl)) dX6_fits_26 h
set_option maxHeartbeats 4000000 in
set_option maxRecDepth 100000 in
theorem cpC_X6_fits_0 {Γ : ZG CW} {D : CD} {d p : Nat} (hp : D.K.1 = p) (G : ZOk Γ cX6_fits RX6 3 (KnC D) (ZC D)) (M : ZRm Γ (d + 1) D.lim (Option.some Jvm.ClassFile.FieldType.boolean) "fits" []) (S : SdC d D p Γ.l) (hl : Γ.l.stackTraces = false) (hk : 0 ≤ d) {x0 : Nat} {x1 : Nat} {x2 : Nat} {w : CW} (h : pC_X6_fits_0 p (wpC p d) (fun v w => Γ.Q (.inl (some (ai v))) w) x0 x1 x2 w) : ZV Γ w 0 [(0, ar x0), (1, ar x1), (2, ar x2)] [] := by
  refine zc_wk G hp (fun hw tw => ?_)
  refine zv_aload_n G rfl rfl dX6_fits_0 ?_
  refine zv_aload_n G rfl rfl dX6_fits_1 ?_
  refine zv_aload_n G rfl rfl dX6_fits_2 ?_
  have kj10 : ∀ (v2 : Int) (u1 : CW), zr v2 → (
      (v2 = 0 →
        (fun v w => Γ.Q (.inl (some (ai v))) w) 0 u1) ∧
      (¬ (v2 = 0) →
        (hF 68 (tg u1 x0) = true) ∧
        ((fI u1 68 x0) < 0 →
          pC_X6_fits_25 p (wpC p d) (fun v w => Γ.Q (.inl (some (ai v))) w) u1) ∧
        (¬ ((fI u1 68 x0) < 0) →
          (hF 68 (tg u1 x0) = true) ∧
          ((111 ≤ tg u1 x2 ∧ tg u1 x2 ≤ 119) ∧ 0 ≤ (fI u1 68 x0) ∧ (fI u1 68 x0) < ln u1 x2) ∧
          (x1 = 0 ∨ zst (tg u1 x2) (tg u1 x1) = true) ∧
          ∀ u7 : CW, u7 = qR u1 x2 (fI u1 68 x0) x1 →
          pC_X6_fits_25 p (wpC p d) (fun v w => Γ.Q (.inl (some (ai v))) w) u7))) → ZV Γ u1 6 [(0, ar x0), (1, ar x1), (2, ar x2)] [ai v2] := by
    intro v2 u1 rv2 h
    refine zc_wk G hp (fun hu1 tu1 => ?_)
    refine zv_if_ne (tgt := 11) G rv2 (by decide) dX6_fits_6 (fun c3 => ?_) (fun c3 => ?_)
    · have h := h.2 c3
      refine zv_aload_n G rfl rfl dX6_fits_11 ?_
      have o4 := h.1
      have h := h.2
      refine zc_get (f := 68) (v := ai (fI u1 68 x0)) G o4 rfl q867 (Or.inl rfl) (cV_I (by decide) (by decide)) dX6_fits_12 ?_
      refine zv_if_lt (tgt := 25) G (hu1.i 68 _ (by decide)) (by decide) dX6_fits_15 (fun c5 => ?_) (fun c5 => ?_)
      · have h := h.1 c5
        exact zv_pick [] rfl (cpC_X6_fits_25 hp G M S hl hk h)
      · have h := h.2 c5
        refine zv_aload_n G rfl rfl dX6_fits_18 ?_
        refine zv_aload_n G rfl rfl dX6_fits_19 ?_
        have o6 := h.1
        have h := h.2
        refine zc_get (f := 68) (v := ai (fI u1 68 x0)) G o6 rfl q867 (Or.inl rfl) (cV_I (by decide) (by decide)) dX6_fits_20 ?_
        refine zv_aload_n G rfl rfl dX6_fits_23 ?_
        have o8 := h.1
        have h := h.2
        have o9 := h.1
        have h := h.2
        refine zc_aast G o8.1 o9 (hu1.i 68 _ (by decide)) o8.2.1 o8.2.2 dX6_fits_24 (fun u7 eu7 => ?_)
        have h := h u7 eu7
        refine zc_wk G hp (fun hu7 tu7 => ?_)
        exact zv_pick [] rfl (cpC_X6_fits_25 hp G M S hl hk h)
    · have h := h.1 c3
      refine zv_iconst (a := 0) G (by decide) dX6_fits_9 ?_
      exact zv_iret (ty := .boolean) (zr_k 0 (by decide) (by decide)) G M (zn_Z (Or.inl rfl)) dX6_fits_10 h
  have h : wpC p d (vm11 (tg w x0)) [ar x0, ar x1, ar x2] w _ := h
  by_cases c11 : tg w x0 = 6
  · have e : vm11 (tg w x0) = 96 := by rw [c11]; rfl
    rw [e] at h
    exact zv_callI (as := [ar x0, ar x1, ar x2]) (st := []) G M (zc_eU (C := zcn 6) G q1994 q1996 (zc_declD G q1995) ⟨by decide, by decide⟩ q1997 q1998 mdx_3 (zc_rc G (zne tw c11 (by decide)) c11 (by decide) (by decide) rfl) rfl dX6_fits_3) (S 96 _ rfl _ _ _ h (zoks_cons trivial (zoks_cons trivial (zoks_cons trivial zoks_nil)))) (Or.inl ⟨rfl, rfl⟩) (zc_hk q1999 q163) (by decide) (Nat.le_of_ble_eq_true rfl) kj10 (fun _ _ h => h.elim)
  by_cases c12 : tg w x0 = 7
  · have e : vm11 (tg w x0) = 101 := by rw [c12]; rfl
    rw [e] at h
    exact zv_callI (as := [ar x0, ar x1, ar x2]) (st := []) G M (zc_eU (C := zcn 7) G q1994 q1996 (zc_declD G q1995) ⟨by decide, by decide⟩ q2014 q2015 mdx_3 (zc_rc G (zne tw c12 (by decide)) c12 (by decide) (by decide) rfl) rfl dX6_fits_3) (S 101 _ rfl _ _ _ h (zoks_cons trivial (zoks_cons trivial (zoks_cons trivial zoks_nil)))) (Or.inl ⟨rfl, rfl⟩) (zc_hk q2016 q165) (by decide) (Nat.le_of_ble_eq_true rfl) kj10 (fun _ _ h => h.elim)
  by_cases c13 : tg w x0 = 8
  · have e : vm11 (tg w x0) = 106 := by rw [c13]; rfl
    rw [e] at h
    exact zv_callI (as := [ar x0, ar x1, ar x2]) (st := []) G M (zc_eU (C := zcn 8) G q1994 q1996 (zc_declD G q1995) ⟨by decide, by decide⟩ q2004 q2005 mdx_3 (zc_rc G (zne tw c13 (by decide)) c13 (by decide) (by decide) rfl) rfl dX6_fits_3) (S 106 _ rfl _ _ _ h (zoks_cons trivial (zoks_cons trivial (zoks_cons trivial zoks_nil)))) (Or.inl ⟨rfl, rfl⟩) (zc_hk q2006 q166) (by decide) (Nat.le_of_ble_eq_true rfl) kj10 (fun _ _ h => h.elim)
  by_cases c14 : tg w x0 = 9
  · have e : vm11 (tg w x0) = 110 := by rw [c14]; rfl
    rw [e] at h
    exact zv_callI (as := [ar x0, ar x1, ar x2]) (st := []) G M (zc_eU (C := zcn 9) G q1994 q1996 (zc_declD G q1995) ⟨by decide, by decide⟩ q2000 q2001 mdx_3 (zc_rc G (zne tw c14 (by decide)) c14 (by decide) (by decide) rfl) rfl dX6_fits_3) (S 110 _ rfl _ _ _ h (zoks_cons trivial (zoks_cons trivial (zoks_cons trivial zoks_nil)))) (Or.inl ⟨rfl, rfl⟩) (zc_hk q2002 q167) (by decide) (Nat.le_of_ble_eq_true rfl) kj10 (fun _ _ h => h.elim)
  by_cases c15 : tg w x0 = 10
  · have e : vm11 (tg w x0) = 113 := by rw [c15]; rfl
    rw [e] at h
    exact zv_callI (as := [ar x0, ar x1, ar x2]) (st := []) G M (zc_eU (C := zcn 10) G q1994 q1996 (zc_declD G q1995) ⟨by decide, by decide⟩ q2023 q2024 mdx_3 (zc_rc G (zne tw c15 (by decide)) c15 (by decide) (by decide) rfl) rfl dX6_fits_3) (S 113 _ rfl _ _ _ h (zoks_cons trivial (zoks_cons trivial (zoks_cons trivial zoks_nil)))) (Or.inl ⟨rfl, rfl⟩) (zc_hk q2025 q168) (by decide) (Nat.le_of_ble_eq_true rfl) kj10 (fun _ _ h => h.elim)
  by_cases c16 : tg w x0 = 11
  · have e : vm11 (tg w x0) = 116 := by rw [c16]; rfl
    rw [e] at h
    exact zv_callI (as := [ar x0, ar x1, ar x2]) (st := []) G M (zc_eU (C := zcn 11) G q1994 q1996 (zc_declD G q1995) ⟨by decide, by decide⟩ q2019 q2020 mdx_3 (zc_rc G (zne tw c16 (by decide)) c16 (by decide) (by decide) rfl) rfl dX6_fits_3) (S 116 _ rfl _ _ _ h (zoks_cons trivial (zoks_cons trivial (zoks_cons trivial zoks_nil)))) (Or.inl ⟨rfl, rfl⟩) (zc_hk q2021 q169) (by decide) (Nat.le_of_ble_eq_true rfl) kj10 (fun _ _ h => h.elim)
  by_cases c17 : tg w x0 = 12
  · have e : vm11 (tg w x0) = 119 := by rw [c17]; rfl
    rw [e] at h
    exact zv_callI (as := [ar x0, ar x1, ar x2]) (st := []) G M (zc_eU (C := zcn 12) G q1994 q1996 (zc_declD G q1995) ⟨by decide, by decide⟩ q2010 q2011 mdx_3 (zc_rc G (zne tw c17 (by decide)) c17 (by decide) (by decide) rfl) rfl dX6_fits_3) (S 119 _ rfl _ _ _ h (zoks_cons trivial (zoks_cons trivial (zoks_cons trivial zoks_nil)))) (Or.inl ⟨rfl, rfl⟩) (zc_hk q2012 q170) (by decide) (Nat.le_of_ble_eq_true rfl) kj10 (fun _ _ h => h.elim)
  have e : vm11 (tg w x0) = 9999 := by unfold vm11; rw [if_neg c11, if_neg c12, if_neg c13, if_neg c14, if_neg c15, if_neg c16, if_neg c17]
  rw [e] at h
  exact (wpC_none h).elim
set_option maxHeartbeats 4000000 in
set_option maxRecDepth 100000 in
theorem cpC_X7_init_0 {Γ : ZG CW} {D : CD} {d p : Nat} (hp : D.K.1 = p) (G : ZOk Γ cX7_init RX7 1 (KnC D) (ZC D)) (M : ZRm Γ (d + 1) D.lim (Option.none : Option Jvm.ClassFile.FieldType) "<init>" []) (S : SdC d D p Γ.l) (hl : Γ.l.stackTraces = false) (hk : 0 ≤ d) {x0 : Nat} {w : CW} (h : pC_X7_init_0 p (wpC p d) (fun w => Γ.Q (.inl none) w) x0 w) : ZV Γ w 0 [(0, ar x0)] [] := by
  refine zc_wk G hp (fun hw tw => ?_)
  refine zv_aload_n G rfl rfl dX7_init_0 ?_
  have o3 := h.1
  have h := h.2
  refine zv_callV (as := [ar x0]) (st := []) G M (zc_eIN G rfl q863 q864 q865 md_X6_init o3 rfl dX7_init_1) (S 91 _ rfl _ _ _ h (zoks_cons trivial zoks_nil)) (Or.inl ⟨rfl, rfl⟩) (zc_hk q865 q162) (by decide) (Nat.le_of_ble_eq_true rfl) (fun u1 h => ?_) (fun _ _ h => h.elim)
  refine zc_wk G hp (fun hu1 tu1 => ?_)
  exact zv_vret G M dX7_init_4 h
set_option maxHeartbeats 4000000 in
set_option maxRecDepth 100000 in
theorem cpC_X7_holds_0 {Γ : ZG CW} {D : CD} {d p : Nat} (hp : D.K.1 = p) (G : ZOk Γ cX7_holds RX7 3 (KnC D) (ZC D)) (M : ZRm Γ (d + 1) D.lim (Option.some Jvm.ClassFile.FieldType.boolean) "holds" []) (S : SdC d D p Γ.l) (hl : Γ.l.stackTraces = false) (hk : 0 ≤ d) {w : CW} (h : pC_X7_holds_0 p (wpC p d) (fun v w => Γ.Q (.inl (some (ai v))) w) w) : ZV Γ w 0 [] [] := by
  refine zc_wk G hp (fun hw tw => ?_)
  refine zv_iconst (a := 1) G (by decide) dX7_holds_0 ?_
  exact zv_iret (ty := .boolean) (zr_k 1 (by decide) (by decide)) G M (zn_Z (Or.inr rfl)) dX7_holds_1 h
set_option maxHeartbeats 4000000 in
set_option maxRecDepth 100000 in
theorem cpC_X8_init_0 {Γ : ZG CW} {D : CD} {d p : Nat} (hp : D.K.1 = p) (G : ZOk Γ cX8_init RX8 1 (KnC D) (ZC D)) (M : ZRm Γ (d + 1) D.lim (Option.none : Option Jvm.ClassFile.FieldType) "<init>" []) (S : SdC d D p Γ.l) (hl : Γ.l.stackTraces = false) (hk : 0 ≤ d) {x0 : Nat} {w : CW} (h : pC_X8_init_0 p (wpC p d) (fun w => Γ.Q (.inl none) w) x0 w) : ZV Γ w 0 [(0, ar x0)] [] := by
  refine zc_wk G hp (fun hw tw => ?_)
  refine zv_aload_n G rfl rfl dX8_init_0 ?_
  have o3 := h.1
  have h := h.2
  refine zv_callV (as := [ar x0]) (st := []) G M (zc_eIN G rfl q905 q864 q865 md_X6_init o3 rfl dX8_init_1) (S 91 _ rfl _ _ _ h (zoks_cons trivial zoks_nil)) (Or.inl ⟨rfl, rfl⟩) (zc_hk q865 q162) (by decide) (Nat.le_of_ble_eq_true rfl) (fun u1 h => ?_) (fun _ _ h => h.elim)
  refine zc_wk G hp (fun hu1 tu1 => ?_)
  exact zv_vret G M dX8_init_4 h
set_option maxHeartbeats 4000000 in
set_option maxRecDepth 100000 in
theorem cpC_X8_row_0 {Γ : ZG CW} {D : CD} {d p : Nat} (hp : D.K.1 = p) (G : ZOk Γ cX8_row RX8 5 (KnC D) (ZC D)) (M : ZRm Γ (d + 1) D.lim (Option.none : Option Jvm.ClassFile.FieldType) "row" []) (S : SdC d D p Γ.l) (hl : Γ.l.stackTraces = false) (hk : 0 ≤ d) {x0 : Nat} {x1 : Int} {x2 : Nat} {x3 : Nat} {x4 : Nat} {w : CW} (rx1 : zr x1) (h : pC_X8_row_0 p (wpC p d) (fun w => Γ.Q (.inl none) w) x0 x1 x2 x3 x4 w) : ZV Γ w 0 [(0, ar x0), (1, ai x1), (2, ar x2), (3, ar x3), (4, ar x4)] [] := by
  refine zc_wk G hp (fun hw tw => ?_)
  refine zv_aload G rfl dX8_row_0 ?_
  refine zv_aload_n G rfl rfl dX8_row_2 ?_
  refine zv_aload_n G rfl rfl dX8_row_3 ?_
  have o6 := h.1
  have h := h.2
  refine zv_callV (as := [ar x4, ar x2, ar x0]) (st := []) G M (zc_eV (C := zcn 14) G q1178 q1179 q1180 (Or.inl ⟨rfl, rfl⟩) q1181 md_X16_add (zc_rc G (zne tw o6 (by decide)) o6 (by decide) (by decide) rfl) rfl dX8_row_4) (S 125 _ rfl _ _ _ h (zoks_cons trivial (zoks_cons trivial (zoks_cons trivial zoks_nil)))) (Or.inl ⟨rfl, rfl⟩) (zc_hk q1181 q172) (by decide) (Nat.le_of_ble_eq_true rfl) (fun u1 h => ?_) (fun _ _ h => h.elim)
  refine zc_wk G hp (fun hu1 tu1 => ?_)
  refine zv_aload_n G rfl rfl dX8_row_7 ?_
  refine zv_iload_n G rfl rfl dX8_row_8 ?_
  refine zv_aload_n G rfl rfl dX8_row_9 ?_
  refine zv_aload_n G rfl rfl dX8_row_10 ?_
  refine zv_aload G rfl dX8_row_11 ?_
  have o5 := h.1
  have h := h.2
  refine zv_callV (as := [ar x0, ai x1, ar x2, ar x3, ar x4]) (st := []) G M (zc_eSU G q1183 q1167 q1184 q1166 (Or.inl ⟨rfl, rfl⟩) q1194 (by decide) md_X6_row (zc_rc G (zne tu1 rfl o5.1) rfl o5.1 o5.2 rfl) rfl dX8_row_13) (S 93 _ rfl _ _ _ h (zoks_cons trivial (zoks_cons rx1 (zoks_cons trivial (zoks_cons trivial (zoks_cons trivial zoks_nil)))))) (Or.inl ⟨rfl, rfl⟩) (zc_hk q1194 q162) (by decide) (Nat.le_of_ble_eq_true rfl) (fun u3 h => ?_) (fun _ _ h => h.elim)
  refine zc_wk G hp (fun hu3 tu3 => ?_)
  exact zv_vret G M dX8_row_16 h
set_option maxHeartbeats 4000000 in
set_option maxRecDepth 100000 in
theorem cpC_X9_init_0 {Γ : ZG CW} {D : CD} {d p : Nat} (hp : D.K.1 = p) (G : ZOk Γ cX9_init RX9 3 (KnC D) (ZC D)) (M : ZRm Γ (d + 1) D.lim (Option.none : Option Jvm.ClassFile.FieldType) "<init>" []) (S : SdC d D p Γ.l) (hl : Γ.l.stackTraces = false) (hk : 0 ≤ d) {x0 : Nat} {x1 : Int} {x2 : Int} {w : CW} (rx1 : zr x1) (rx2 : zr x2) (h : pC_X9_init_0 p (wpC p d) (fun w => Γ.Q (.inl none) w) x0 x1 x2 w) : ZV Γ w 0 [(0, ar x0), (1, ai x1), (2, ai x2)] [] := by
  refine zc_wk G hp (fun hw tw => ?_)
  refine zv_aload_n G rfl rfl dX9_init_0 ?_
  have o7 := h.1
  have h := h.2
  refine zv_callV (as := [ar x0]) (st := []) G M (zc_eIN G rfl q902 q903 q904 md_X8_init o7 rfl dX9_init_1) (S 97 _ rfl _ _ _ h (zoks_cons trivial zoks_nil)) (Or.inl ⟨rfl, rfl⟩) (zc_hk q904 q164) (by decide) (Nat.le_of_ble_eq_true rfl) (fun u1 h => ?_) (fun _ _ h => h.elim)
  refine zc_wk G hp (fun hu1 tu1 => ?_)
  refine zv_aload_n G rfl rfl dX9_init_4 ?_
  refine zv_iload_n G rfl rfl dX9_init_5 ?_
  have o4 := h.1
  have h := h.2
  refine zc_putI (f := 69) G M o4 rfl q906 (Or.inl rfl) (Or.inr ⟨rfl, rfl, rfl⟩) (zfty_69) rfl rfl (by decide) (by decide) rx1 dX9_init_6 (fun u3 eu3 => ?_)
  have h := h u3 eu3
  refine zc_wk G hp (fun hu3 tu3 => ?_)
  refine zv_aload_n G rfl rfl dX9_init_9 ?_
  refine zv_iload_n G rfl rfl dX9_init_10 ?_
  have o6 := h.1
  have h := h.2
  refine zc_putI (f := 70) G M o6 rfl q908 (Or.inl rfl) (Or.inr ⟨rfl, rfl, rfl⟩) (zfty_70) rfl rfl (by decide) (by decide) rx2 dX9_init_11 (fun u5 eu5 => ?_)
  have h := h u5 eu5
  refine zc_wk G hp (fun hu5 tu5 => ?_)
  exact zv_vret G M dX9_init_14 h
set_option maxHeartbeats 4000000 in
set_option maxRecDepth 100000 in
theorem cpC_X9_by_0 {Γ : ZG CW} {D : CD} {d p : Nat} (hp : D.K.1 = p) (G : ZOk Γ cX9_by RX9 5 (KnC D) (ZC D)) (M : ZRm Γ (d + 1) D.lim (Option.some Jvm.ClassFile.FieldType.int) "by" []) (S : SdC d D p Γ.l) (hl : Γ.l.stackTraces = false) (hk : 0 ≤ d) {x0 : Nat} {x1 : Nat} {x2 : Nat} {w : CW} (h : pC_X9_by_0 p (wpC p d) (fun v w => Γ.Q (.inl (some (ai v))) w) x0 x1 x2 w) : ZV Γ w 0 [(0, ar x0), (1, ar x1), (2, ar x2)] [] := by
  refine zc_wk G hp (fun hw tw => ?_)
  refine zv_aload_n G rfl rfl dX9_by_0 ?_
  have o1 := h.1
  have h := h.2
  refine zc_get (f := 101) (v := ar (fR w 101 x1)) G o1 rfl q1233 (Or.inl rfl) (cV_R rfl) dX9_by_1 ?_
  refine zv_aload_n G rfl rfl dX9_by_4 ?_
  have o2 := h.1
  have h := h.2
  refine zc_get (f := 89) (v := ai (fI w 89 x2)) G o2 rfl q1145 (Or.inl rfl) (cV_I (by decide) (by decide)) dX9_by_5 ?_
  have o3 := h.1
  have h := h.2
  refine zc_ialdN G o3.1 (hw.i 89 _ (by decide)) o3.2.1 o3.2.2 dX9_by_8 ?_
  refine zv_istore_nN G rfl (by decide) dX9_by_9 (fun x3_4 ex3_4 => ?_)
  have h := h x3_4 ex3_4
  have rx3_4 : zr x3_4 := by rw [ex3_4]; exact (aN_r hw _ _)
  refine zv_aload_n G rfl rfl dX9_by_10 ?_
  have o5 := h.1
  have h := h.2
  refine zc_get (f := 102) (v := ar (fR w 102 x1)) G o5 rfl q1236 (Or.inl rfl) (cV_R rfl) dX9_by_11 ?_
  refine zv_aload_n G rfl rfl dX9_by_14 ?_
  have o6 := h.1
  have h := h.2
  refine zc_get (f := 89) (v := ai (fI w 89 x2)) G o6 rfl q1145 (Or.inl rfl) (cV_I (by decide) (by decide)) dX9_by_15 ?_
  have o7 := h.1
  have h := h.2
  refine zc_ialdN G o7.1 (hw.i 89 _ (by decide)) o7.2.1 o7.2.2 dX9_by_18 ?_
  refine zv_istoreN G (by decide) dX9_by_19 (fun x4_8 ex4_8 => ?_)
  have h := h x4_8 ex4_8
  have rx4_8 : zr x4_8 := by rw [ex4_8]; exact (aN_r hw _ _)
  refine zv_aload_n G rfl rfl dX9_by_21 ?_
  have o9 := h.1
  have h := h.2
  refine zc_get (f := 69) (v := ai (fI w 69 x0)) G o9 rfl q906 (Or.inl rfl) (cV_I (by decide) (by decide)) dX9_by_22 ?_
  refine zv_iload_n G rfl rfl dX9_by_25 ?_
  have o11 := h.1
  have h := h.2
  have kj12 : ∀ v10 : Int, v10 = (if x3_4 < (fI w 69 x0) then (if (fI w 70 x0) < x3_4 then (-1) else (if (fI w 69 x0) ≤ x4_8 then 0 else (-1))) else (if (fI w 70 x0) < x4_8 then (if (fI w 70 x0) < x3_4 then (-1) else (if (fI w 69 x0) ≤ x4_8 then 0 else (-1))) else 1)) → ZV Γ w 64 [(4, ai x4_8), (3, ai x3_4), (0, ar x0), (1, ar x1), (2, ar x2)] (ai v10 :: []) := by
    intro v10 ev10
    have h := h v10 ev10
    have rv10 : zr v10 := by rw [ev10]; exact (zr_ite (zr_ite (zr_k (-1) (by decide) (by decide)) (zr_ite (zr_k 0 (by decide) (by decide)) (zr_k (-1) (by decide) (by decide)))) (zr_ite (zr_ite (zr_k (-1) (by decide) (by decide)) (zr_ite (zr_k 0 (by decide) (by decide)) (zr_k (-1) (by decide) (by decide)))) (zr_k 1 (by decide) (by decide))))
    exact zv_iret (ty := .int) rv10 G M rfl dX9_by_64 h
  refine zv_icmp_gt (tgt := 42) G (hw.i 69 _ (by decide)) rx3_4 (by decide) dX9_by_26 (fun c13 => ?_) (fun c13 => ?_)
  · refine zv_aload_n G rfl rfl dX9_by_42 ?_
    refine zc_get (f := 70) (v := ai (fI w 70 x0)) G (o11.1 c13).1 rfl q908 (Or.inl rfl) (cV_I (by decide) (by decide)) dX9_by_43 ?_
    refine zv_iload_n G rfl rfl dX9_by_46 ?_
    refine zv_icmp_lt (tgt := 59) G (hw.i 70 _ (by decide)) rx3_4 (by decide) dX9_by_47 (fun c14 => ?_) (fun c14 => ?_)
    · refine zv_iconst (a := (-1)) G (by decide) dX9_by_59 ?_
      refine zv_goto (tgt := 64) G (by decide) dX9_by_60 ?_
      exact kj12 _ (by rw [if_pos c13, if_pos c14])
    · refine zv_aload_n G rfl rfl dX9_by_50 ?_
      refine zc_get (f := 69) (v := ai (fI w 69 x0)) G ((o11.1 c13).2 c14) rfl q906 (Or.inl rfl) (cV_I (by decide) (by decide)) dX9_by_51 ?_
      refine zv_iload G rfl dX9_by_54 ?_
      refine zv_icmp_le (tgt := 63) G (hw.i 69 _ (by decide)) rx4_8 (by decide) dX9_by_56 (fun c15 => ?_) (fun c15 => ?_)
      · refine zv_iconst (a := 0) G (by decide) dX9_by_63 ?_
        exact kj12 _ (by rw [if_pos c13, if_neg c14, if_pos c15])
      · refine zv_iconst (a := (-1)) G (by decide) dX9_by_59 ?_
        refine zv_goto (tgt := 64) G (by decide) dX9_by_60 ?_
        exact kj12 _ (by rw [if_pos c13, if_neg c14, if_neg c15])
  · refine zv_iload G rfl dX9_by_29 ?_
    refine zv_aload_n G rfl rfl dX9_by_31 ?_
    refine zc_get (f := 70) (v := ai (fI w 70 x0)) G (o11.2 c13).1 rfl q908 (Or.inl rfl) (cV_I (by decide) (by decide)) dX9_by_32 ?_
    refine zv_icmp_gt (tgt := 42) G rx4_8 (hw.i 70 _ (by decide)) (by decide) dX9_by_35 (fun c16 => ?_) (fun c16 => ?_)
    · refine zv_aload_n G rfl rfl dX9_by_42 ?_
      refine zc_get (f := 70) (v := ai (fI w 70 x0)) G ((o11.2 c13).2 c16).1 rfl q908 (Or.inl rfl) (cV_I (by decide) (by decide)) dX9_by_43 ?_
      refine zv_iload_n G rfl rfl dX9_by_46 ?_
      refine zv_icmp_lt (tgt := 59) G (hw.i 70 _ (by decide)) rx3_4 (by decide) dX9_by_47 (fun c17 => ?_) (fun c17 => ?_)
      · refine zv_iconst (a := (-1)) G (by decide) dX9_by_59 ?_
        refine zv_goto (tgt := 64) G (by decide) dX9_by_60 ?_
        exact kj12 _ (by rw [if_neg c13, if_pos c16, if_pos c17])
      · refine zv_aload_n G rfl rfl dX9_by_50 ?_
        refine zc_get (f := 69) (v := ai (fI w 69 x0)) G (((o11.2 c13).2 c16).2 c17) rfl q906 (Or.inl rfl) (cV_I (by decide) (by decide)) dX9_by_51 ?_
        refine zv_iload G rfl dX9_by_54 ?_
        refine zv_icmp_le (tgt := 63) G (hw.i 69 _ (by decide)) rx4_8 (by decide) dX9_by_56 (fun c18 => ?_) (fun c18 => ?_)
        · refine zv_iconst (a := 0) G (by decide) dX9_by_63 ?_
          exact kj12 _ (by rw [if_neg c13, if_pos c16, if_neg c17, if_pos c18])
        · refine zv_iconst (a := (-1)) G (by decide) dX9_by_59 ?_
          refine zv_goto (tgt := 64) G (by decide) dX9_by_60 ?_
          exact kj12 _ (by rw [if_neg c13, if_pos c16, if_neg c17, if_neg c18])
    · refine zv_iconst (a := 1) G (by decide) dX9_by_38 ?_
      refine zv_goto (tgt := 64) G (by decide) dX9_by_39 ?_
      exact kj12 _ (by rw [if_neg c13, if_neg c16])
set_option maxHeartbeats 4000000 in
set_option maxRecDepth 100000 in
theorem cpC_X9_holds_0 {Γ : ZG CW} {D : CD} {d p : Nat} (hp : D.K.1 = p) (G : ZOk Γ cX9_holds RX9 3 (KnC D) (ZC D)) (M : ZRm Γ (d + 1) D.lim (Option.some Jvm.ClassFile.FieldType.boolean) "holds" []) (S : SdC d D p Γ.l) (hl : Γ.l.stackTraces = false) (hk : 0 ≤ d) {x0 : Nat} {x1 : Nat} {w : CW} (h : pC_X9_holds_0 p (wpC p d) (fun v w => Γ.Q (.inl (some (ai v))) w) x0 x1 w) : ZV Γ w 0 [(0, ar x0), (1, ar x1)] [] := by
  refine zc_wk G hp (fun hw tw => ?_)
  refine zv_aload_n G rfl rfl dX9_holds_0 ?_
  have o1 := h.1
  have h := h.2
  refine zc_cast G q2017 o1 dX9_holds_1 ?_
  have o2 := h.1
  have h := h.2
  refine zc_get (f := 115) (v := ai (fI w 115 x1)) G o2 rfl q1703 (Or.inl rfl) (cV_I (by decide) (by decide)) dX9_holds_4 ?_
  refine zv_i2l G (hw.i 115 _ (by decide)) dX9_holds_7 ?_
  refine zv_aload_n G rfl rfl dX9_holds_8 ?_
  have o3 := h.1
  have h := h.2
  refine zc_get (f := 69) (v := ai (fI w 69 x0)) G o3 rfl q906 (Or.inl rfl) (cV_I (by decide) (by decide)) dX9_holds_9 ?_
  refine zv_i2l G (hw.i 69 _ (by decide)) dX9_holds_12 ?_
  refine zv_aload_n G rfl rfl dX9_holds_13 ?_
  have o4 := h.1
  have h := h.2
  refine zc_get (f := 70) (v := ai (fI w 70 x0)) G o4 rfl q908 (Or.inl rfl) (cV_I (by decide) (by decide)) dX9_holds_14 ?_
  refine zv_i2l G (hw.i 70 _ (by decide)) dX9_holds_17 ?_
  refine zv_callI (as := [al (fI w 115 x1), al (fI w 69 x0), al (fI w 70 x0)]) (st := []) G M (zc_eSN G q2018 q200 q143 q201 md_X0_isIn rfl dX9_holds_18) (S 1 _ rfl _ _ _ h (zoks_cons (zrl_i (hw.i 115 _ (by decide))) (zoks_cons (zrl_i (hw.i 69 _ (by decide))) (zoks_cons (zrl_i (hw.i 70 _ (by decide))) zoks_nil)))) (Or.inl ⟨rfl, rfl⟩) (zc_hk q201 q143) (by decide) (Nat.le_of_ble_eq_true rfl) (fun v6 u5 rv6 h => ?_) (fun _ _ h => h.elim)
  refine zc_wk G hp (fun hu5 tu5 => ?_)
  exact zv_iret (ty := .boolean) rv6 G M (zn_Z h.1) dX9_holds_21 h.2
set_option maxHeartbeats 4000000 in
set_option maxRecDepth 100000 in
theorem cpC_X10_init_0 {Γ : ZG CW} {D : CD} {d p : Nat} (hp : D.K.1 = p) (G : ZOk Γ cX10_init RX10 3 (KnC D) (ZC D)) (M : ZRm Γ (d + 1) D.lim (Option.none : Option Jvm.ClassFile.FieldType) "<init>" []) (S : SdC d D p Γ.l) (hl : Γ.l.stackTraces = false) (hk : 0 ≤ d) {x0 : Nat} {x1 : Nat} {x2 : Nat} {w : CW} (h : pC_X10_init_0 p (wpC p d) (fun w => Γ.Q (.inl none) w) x0 x1 x2 w) : ZV Γ w 0 [(0, ar x0), (1, ar x1), (2, ar x2)] [] := by
  refine zc_wk G hp (fun hw tw => ?_)
  refine zv_aload_n G rfl rfl dX10_init_0 ?_
  have o7 := h.1
  have h := h.2
  refine zv_callV (as := [ar x0]) (st := []) G M (zc_eIN G rfl q936 q903 q904 md_X8_init o7 rfl dX10_init_1) (S 97 _ rfl _ _ _ h (zoks_cons trivial zoks_nil)) (Or.inl ⟨rfl, rfl⟩) (zc_hk q904 q164) (by decide) (Nat.le_of_ble_eq_true rfl) (fun u1 h => ?_) (fun _ _ h => h.elim)
  refine zc_wk G hp (fun hu1 tu1 => ?_)
  refine zv_aload_n G rfl rfl dX10_init_4 ?_
  refine zv_aload_n G rfl rfl dX10_init_5 ?_
  have o4 := h.1
  have h := h.2
  refine zc_putR (f := 71) G M o4 rfl q937 (Or.inl rfl) (Or.inr ⟨rfl, rfl, rfl⟩) (zfty_71) (Or.inl ⟨_, rfl⟩) rfl dX10_init_6 (fun u3 eu3 => ?_)
  have h := h u3 eu3
  refine zc_wk G hp (fun hu3 tu3 => ?_)
  refine zv_aload_n G rfl rfl dX10_init_9 ?_
  refine zv_aload_n G rfl rfl dX10_init_10 ?_
  have o6 := h.1
  have h := h.2
  refine zc_putR (f := 72) G M o6 rfl q938 (Or.inl rfl) (Or.inr ⟨rfl, rfl, rfl⟩) (zfty_72) (Or.inr ⟨_, rfl⟩) rfl dX10_init_11 (fun u5 eu5 => ?_)
  have h := h u5 eu5
  refine zc_wk G hp (fun hu5 tu5 => ?_)
  exact zv_vret G M dX10_init_14 h
set_option maxHeartbeats 4000000 in
set_option maxRecDepth 100000 in
theorem cpC_X10_ways_0 {Γ : ZG CW} {D : CD} {d p : Nat} (hp : D.K.1 = p) (G : ZOk Γ cX10_ways RX10 1 (KnC D) (ZC D)) (M : ZRm Γ (d + 1) D.lim (Option.some Jvm.ClassFile.FieldType.int) "ways" []) (S : SdC d D p Γ.l) (hl : Γ.l.stackTraces = false) (hk : 0 ≤ d) {x0 : Nat} {w : CW} (h : pC_X10_ways_0 p (wpC p d) (fun v w => Γ.Q (.inl (some (ai v))) w) x0 w) : ZV Γ w 0 [(0, ar x0)] [] := by
  refine zc_wk G hp (fun hw tw => ?_)
  refine zv_aload_n G rfl rfl dX10_ways_0 ?_
  have o1 := h.1
  have h := h.2
  refine zc_get (f := 72) (v := ar (fR w 72 x0)) G o1 rfl q938 (Or.inl rfl) (cV_R rfl) dX10_ways_1 ?_
  refine zv_callI (as := [ar (fR w 72 x0)]) (st := []) G M (zc_eSN G q1078 q1066 q143 q1067 md_X0_product rfl dX10_ways_4) (S 43 _ rfl _ _ _ h (zoks_cons trivial zoks_nil)) (Or.inl ⟨rfl, rfl⟩) (zc_hk q1067 q143) (by decide) (Nat.le_of_ble_eq_true rfl) (fun v3 u2 rv3 h => ?_) (fun _ _ h => h.elim)
  refine zc_wk G hp (fun hu2 tu2 => ?_)
  exact zv_iret (ty := .int) rv3 G M rfl dX10_ways_7 h
set_option maxHeartbeats 4000000 in
set_option maxRecDepth 100000 in
theorem cpC_X10_row_98 {Γ : ZG CW} {D : CD} {d p : Nat} (hp : D.K.1 = p) (G : ZOk Γ cX10_row RX10 8 (KnC D) (ZC D)) (M : ZRm Γ (d + 1) D.lim (Option.none : Option Jvm.ClassFile.FieldType) "row" []) (S : SdC d D p Γ.l) (hl : Γ.l.stackTraces = false) (hk : 0 ≤ d) {w : CW} (h : pC_X10_row_98 p (wpC p d) (fun w => Γ.Q (.inl none) w) w) : ZV Γ w 98 [] [] := by
  refine zc_wk G hp (fun hw tw => ?_)
  exact zv_vret G M dX10_row_98 h
set_option maxHeartbeats 4000000 in
set_option maxRecDepth 100000 in
theorem cpC_X10_row_21 {Γ : ZG CW} {D : CD} {d p : Nat} (hp : D.K.1 = p) (G : ZOk Γ cX10_row RX10 8 (KnC D) (ZC D)) (M : ZRm Γ (d + 1) D.lim (Option.none : Option Jvm.ClassFile.FieldType) "row" []) (S : SdC d D p Γ.l) (hl : Γ.l.stackTraces = false) (hk : 0 ≤ d) {x0 : Nat} {x2 : Nat} {x3 : Nat} {x4 : Nat} {x5 : Int} {x6 : Int} {x7 : Int} {w : CW} (rx5 : zr x5) (rx6 : zr x6) (rx7 : zr x7) (h : pC_X10_row_21 p (wpC p d) (fun w => Γ.Q (.inl none) w) x0 x2 x3 x4 x5 x6 x7 w) : ZV Γ w 21 [(0, ar x0), (2, ar x2), (3, ar x3), (4, ar x4), (5, ai x5), (6, ai x6), (7, ai x7)] [] := by
  obtain ⟨I21, eI21⟩ : ∃ I : Int → Int → Int → CW → Prop, I = (fun x5 x6 x7 w => zr x5 → zr x6 → zr x7 → ZV Γ w 21 [(0, ar x0), (2, ar x2), (3, ar x3), (4, ar x4), (5, ai x5), (6, ai x6), (7, ai x7)] []) := ⟨_, rfl⟩
  have hI21 : ∀ (x5 : Int) (x6 : Int) (x7 : Int) (w : CW), I21 x5 x6 x7 w → zr x5 → zr x6 → zr x7 → ZV Γ w 21 [(0, ar x0), (2, ar x2), (3, ar x3), (4, ar x4), (5, ai x5), (6, ai x6), (7, ai x7)] [] := by subst eI21; exact fun _ _ _ _ z => z
  have hJ21 : ∀ (x5 : Int) (x6 : Int) (x7 : Int) (w : CW), (zr x5 → zr x6 → zr x7 → ZV Γ w 21 [(0, ar x0), (2, ar x2), (3, ar x3), (4, ar x4), (5, ai x5), (6, ai x6), (7, ai x7)] []) → I21 x5 x6 x7 w := by subst eI21; exact fun _ _ _ _ z => z
  refine hI21 x5 x6 x7 w (h I21 (fun x5 x6 x7 w h => hJ21 x5 x6 x7 w (fun rx5 rx6 rx7 => ?_))) rx5 rx6 rx7
  refine zc_wk G hp (fun hw tw => ?_)
  refine zv_iload G rfl dX10_row_21 ?_
  refine zv_aload_n G rfl rfl dX10_row_23 ?_
  have o5 := h.1
  have h := h.2
  refine zc_get (f := 72) (v := ar (fR w 72 x0)) G o5 rfl q938 (Or.inl rfl) (cV_R rfl) dX10_row_24 ?_
  have o6 := h.1
  have h := h.2
  refine zc_alen G o6 dX10_row_27 ?_
  refine zv_icmp_ge (tgt := 98) G rx7 (zc_lnr hw _) (by decide) dX10_row_28 (fun c7 => ?_) (fun c7 => ?_)
  · have h := h.1 c7
    exact zv_pick [] rfl (cpC_X10_row_98 hp G M S hl hk h)
  · have h := h.2 c7
    refine zv_iload G rfl dX10_row_31 ?_
    refine zv_aload_n G rfl rfl dX10_row_33 ?_
    have o8 := h.1
    have h := h.2
    refine zc_get (f := 72) (v := ar (fR w 72 x0)) G o8 rfl q938 (Or.inl rfl) (cV_R rfl) dX10_row_34 ?_
    refine zv_iload G rfl dX10_row_37 ?_
    have o9 := h.1
    have h := h.2
    refine zc_aald G o9.1 rx7 o9.2.1 o9.2.2 dX10_row_39 ?_
    have kj37 : ∀ (v11 : Int) (u10 : CW), zr v11 → (
        (¬ v11 = 0) ∧
        ∀ x5_13 : Int, x5_13 = i_div x5 v11 →
        (hF 72 (tg u10 x0) = true) ∧
        ((111 ≤ tg u10 (fR u10 72 x0) ∧ tg u10 (fR u10 72 x0) ≤ 119) ∧ 0 ≤ x7 ∧ x7 < ln u10 (fR u10 72 x0)) ∧
        (¬ x5_13 = 0) ∧
        (hF 71 (tg u10 x0) = true) ∧
        (hF 71 (tg u10 x0) = true) ∧
        (hF 41 (tg u10 (fR u10 71 x0)) = true) ∧
        (tg u10 (fR u10 41 (fR u10 71 x0)) = 102 ∧ 0 ≤ x7 ∧ x7 < ln u10 (fR u10 41 (fR u10 71 x0))) ∧
        (tg u10 x3 = 4) ∧
        (wpC p d) 87 [ar x3, ar x2, ar (fR u10 71 x0), ai x7, ai (aN u10 (fR u10 41 (fR u10 71 x0)) x7)] u10 (zqR (fun v22 u21 =>
          (wpC p d) (vm10 (tg u21 (aR u10 (fR u10 72 x0) x7))) [ar (aR u10 (fR u10 72 x0) x7), ai (i_div x6 x5_13), ar v22, ar x3, ar x4] u21 (zqV (fun u23 =>
            (¬ x5_13 = 0) ∧
            ∀ x6_26 : Int, x6_26 = i_rem x6 x5_13 →
            ∀ x7_27 : Int, x7_27 = w32 (x7 + 1) →
            I21 x5_13 x6_26 x7_27 u23) zno)) zno)) → ZV Γ u10 43 [(0, ar x0), (2, ar x2), (3, ar x3), (4, ar x4), (5, ai x5), (6, ai x6), (7, ai x7)] [ai v11, ai x5] := by
      intro v11 u10 rv11 h
      refine zc_wk G hp (fun hu10 tu10 => ?_)
      have o12 := h.1
      have h := h.2
      refine zv_idiv G rv11 o12 dX10_row_43 ?_
      refine zv_istoreN G (by decide) dX10_row_44 (fun x5_13 ex5_13 => ?_)
      have h := h x5_13 ex5_13
      have rx5_13 : zr x5_13 := by rw [ex5_13]; exact (show zr _ from by first | with_reducible exact i_and_r _ _ | with_reducible exact i_or_r _ _ | with_reducible exact i_shl_r _ _ | with_reducible exact i_shr_r _ _ | with_reducible exact i_ushr_r _ _ | with_reducible exact i_b_r _ | with_reducible exact i_c_r _ | with_reducible exact i_xor_r _ _ | with_reducible exact i_div_r _ _ | with_reducible exact i_rem_r _ _ | exact zr_of _)
      refine zv_aload_n G rfl rfl dX10_row_46 ?_
      have o14 := h.1
      have h := h.2
      refine zc_get (f := 72) (v := ar (fR u10 72 x0)) G o14 rfl q938 (Or.inl rfl) (cV_R rfl) dX10_row_47 ?_
      refine zv_iload G rfl dX10_row_50 ?_
      have o15 := h.1
      have h := h.2
      refine zc_aald G o15.1 rx7 o15.2.1 o15.2.2 dX10_row_52 ?_
      refine zv_iload G rfl dX10_row_53 ?_
      refine zv_iload G rfl dX10_row_55 ?_
      have o16 := h.1
      have h := h.2
      refine zv_idiv G rx5_13 o16 dX10_row_57 ?_
      refine zv_aload_n G rfl rfl dX10_row_58 ?_
      refine zv_aload_n G rfl rfl dX10_row_59 ?_
      refine zv_aload_n G rfl rfl dX10_row_60 ?_
      have o17 := h.1
      have h := h.2
      refine zc_get (f := 71) (v := ar (fR u10 71 x0)) G o17 rfl q937 (Or.inl rfl) (cV_R rfl) dX10_row_61 ?_
      refine zv_iload G rfl dX10_row_64 ?_
      refine zv_aload_n G rfl rfl dX10_row_66 ?_
      have o18 := h.1
      have h := h.2
      refine zc_get (f := 71) (v := ar (fR u10 71 x0)) G o18 rfl q937 (Or.inl rfl) (cV_R rfl) dX10_row_67 ?_
      have o19 := h.1
      have h := h.2
      refine zc_get (f := 41) (v := ar (fR u10 41 (fR u10 71 x0))) G o19 rfl q692 (Or.inl rfl) (cV_R rfl) dX10_row_70 ?_
      refine zv_iload G rfl dX10_row_73 ?_
      have o20 := h.1
      have h := h.2
      refine zc_ialdN G o20.1 rx7 o20.2.1 o20.2.2 dX10_row_75 ?_
      have o36 := h.1
      have h := h.2
      refine zv_callR (as := [ar x3, ar x2, ar (fR u10 71 x0), ai x7, ai (aN u10 (fR u10 41 (fR u10 71 x0)) x7)]) (st := [ai (i_div x6 x5_13), ar (aR u10 (fR u10 72 x0) x7)]) G M (zc_eV (C := zcn 4) G q1187 q1126 q1127 (Or.inl ⟨rfl, rfl⟩) q1128 md_X4_place (zc_rc G (zne tu10 o36 (by decide)) o36 (by decide) (by decide) rfl) rfl dX10_row_76) (S 87 _ rfl _ _ _ h (zoks_cons trivial (zoks_cons trivial (zoks_cons trivial (zoks_cons rx7 (zoks_cons (aN_r hu10 _ _) zoks_nil)))))) (Or.inl ⟨rfl, rfl⟩) (zc_hk q1128 q160) (by decide) (Nat.le_of_ble_eq_true rfl) (fun v22 u21 h => ?_) (fun _ _ h => h.elim)
      refine zc_wk G hp (fun hu21 tu21 => ?_)
      refine zv_aload_n G rfl rfl dX10_row_79 ?_
      refine zv_aload G rfl dX10_row_80 ?_
      have kj28 : ∀ u23 : CW, (
          (¬ x5_13 = 0) ∧
          ∀ x6_26 : Int, x6_26 = i_rem x6 x5_13 →
          ∀ x7_27 : Int, x7_27 = w32 (x7 + 1) →
          I21 x5_13 x6_26 x7_27 u23) → ZV Γ u23 85 [(5, ai x5_13), (0, ar x0), (2, ar x2), (3, ar x3), (4, ar x4), (6, ai x6), (7, ai x7)] [] := by
        intro u23 h
        refine zc_wk G hp (fun hu23 tu23 => ?_)
        refine zv_iload G rfl dX10_row_85 ?_
        refine zv_iload G rfl dX10_row_87 ?_
        have o25 := h.1
        have h := h.2
        refine zv_irem G rx5_13 o25 dX10_row_89 ?_
        refine zv_istoreN G (by decide) dX10_row_90 (fun x6_26 ex6_26 => ?_)
        have h := h x6_26 ex6_26
        have rx6_26 : zr x6_26 := by rw [ex6_26]; exact (show zr _ from by first | with_reducible exact i_and_r _ _ | with_reducible exact i_or_r _ _ | with_reducible exact i_shl_r _ _ | with_reducible exact i_shr_r _ _ | with_reducible exact i_ushr_r _ _ | with_reducible exact i_b_r _ | with_reducible exact i_c_r _ | with_reducible exact i_xor_r _ _ | with_reducible exact i_div_r _ _ | with_reducible exact i_rem_r _ _ | exact zr_of _)
        refine zv_iincN G rfl (by decide) dX10_row_92 (fun x7_27 ex7_27 => ?_)
        have h := h x7_27 ex7_27
        have rx7_27 : zr x7_27 := by rw [ex7_27]; exact w32_r _
        refine zv_goto (tgt := 21) G (by decide) dX10_row_95 ?_
        exact zv_pick [0, 2, 3, 4, 5, 6, 7] rfl (hI21 _ _ _ _ h rx5_13 rx6_26 rx7_27)
      have h : wpC p d (vm10 (tg u21 (aR u10 (fR u10 72 x0) x7))) [ar (aR u10 (fR u10 72 x0) x7), ai (i_div x6 x5_13), ar v22, ar x3, ar x4] u21 _ := h
      by_cases c29 : tg u21 (aR u10 (fR u10 72 x0) x7) = 6
      · have e : vm10 (tg u21 (aR u10 (fR u10 72 x0) x7)) = 93 := by rw [c29]; rfl
        rw [e] at h
        exact zv_callV (as := [ar (aR u10 (fR u10 72 x0) x7), ai (i_div x6 x5_13), ar v22, ar x3, ar x4]) (st := []) G M (zc_eV (C := zcn 6) G q1188 q1166 q1168 (Or.inl ⟨rfl, rfl⟩) q1194 md_X6_row (zc_rc G (zne tu21 c29 (by decide)) c29 (by decide) (by decide) rfl) rfl dX10_row_82) (S 93 _ rfl _ _ _ h (zoks_cons trivial (zoks_cons (show zr _ from by first | with_reducible exact i_and_r _ _ | with_reducible exact i_or_r _ _ | with_reducible exact i_shl_r _ _ | with_reducible exact i_shr_r _ _ | with_reducible exact i_ushr_r _ _ | with_reducible exact i_b_r _ | with_reducible exact i_c_r _ | with_reducible exact i_xor_r _ _ | with_reducible exact i_div_r _ _ | with_reducible exact i_rem_r _ _ | exact zr_of _) (zoks_cons trivial (zoks_cons trivial (zoks_cons trivial zoks_nil)))))) (Or.inl ⟨rfl, rfl⟩) (zc_hk q1194 q162) (by decide) (Nat.le_of_ble_eq_true rfl) kj28 (fun _ _ h => h.elim)
      by_cases c30 : tg u21 (aR u10 (fR u10 72 x0) x7) = 7
      · have e : vm10 (tg u21 (aR u10 (fR u10 72 x0) x7)) = 98 := by rw [c30]; rfl
        rw [e] at h
        exact zv_callV (as := [ar (aR u10 (fR u10 72 x0) x7), ai (i_div x6 x5_13), ar v22, ar x3, ar x4]) (st := []) G M (zc_eU (C := zcn 7) G q1188 q1167 (zc_declC G q1166 q1194) ⟨by decide, by decide⟩ q1191 q1176 md_X6_row (zc_rc G (zne tu21 c30 (by decide)) c30 (by decide) (by decide) rfl) rfl dX10_row_82) (S 98 _ rfl _ _ _ h (zoks_cons trivial (zoks_cons (show zr _ from by first | with_reducible exact i_and_r _ _ | with_reducible exact i_or_r _ _ | with_reducible exact i_shl_r _ _ | with_reducible exact i_shr_r _ _ | with_reducible exact i_ushr_r _ _ | with_reducible exact i_b_r _ | with_reducible exact i_c_r _ | with_reducible exact i_xor_r _ _ | with_reducible exact i_div_r _ _ | with_reducible exact i_rem_r _ _ | exact zr_of _) (zoks_cons trivial (zoks_cons trivial (zoks_cons trivial zoks_nil)))))) (Or.inl ⟨rfl, rfl⟩) (zc_hk q1177 q164) (by decide) (Nat.le_of_ble_eq_true rfl) kj28 (fun _ _ h => h.elim)
      by_cases c31 : tg u21 (aR u10 (fR u10 72 x0) x7) = 8
      · have e : vm10 (tg u21 (aR u10 (fR u10 72 x0) x7)) = 104 := by rw [c31]; rfl
        rw [e] at h
        exact zv_callV (as := [ar (aR u10 (fR u10 72 x0) x7), ai (i_div x6 x5_13), ar v22, ar x3, ar x4]) (st := []) G M (zc_eU (C := zcn 8) G q1188 q1167 (zc_declC G q1166 q1194) ⟨by decide, by decide⟩ q1189 q1173 md_X6_row (zc_rc G (zne tu21 c31 (by decide)) c31 (by decide) (by decide) rfl) rfl dX10_row_82) (S 104 _ rfl _ _ _ h (zoks_cons trivial (zoks_cons (show zr _ from by first | with_reducible exact i_and_r _ _ | with_reducible exact i_or_r _ _ | with_reducible exact i_shl_r _ _ | with_reducible exact i_shr_r _ _ | with_reducible exact i_ushr_r _ _ | with_reducible exact i_b_r _ | with_reducible exact i_c_r _ | with_reducible exact i_xor_r _ _ | with_reducible exact i_div_r _ _ | with_reducible exact i_rem_r _ _ | exact zr_of _) (zoks_cons trivial (zoks_cons trivial (zoks_cons trivial zoks_nil)))))) (Or.inl ⟨rfl, rfl⟩) (zc_hk q1174 q166) (by decide) (Nat.le_of_ble_eq_true rfl) kj28 (fun _ _ h => h.elim)
      by_cases c32 : tg u21 (aR u10 (fR u10 72 x0) x7) = 9
      · have e : vm10 (tg u21 (aR u10 (fR u10 72 x0) x7)) = 109 := by rw [c32]; rfl
        rw [e] at h
        exact zv_callV (as := [ar (aR u10 (fR u10 72 x0) x7), ai (i_div x6 x5_13), ar v22, ar x3, ar x4]) (st := []) G M (zc_eU (C := zcn 9) G q1188 q1167 (zc_declC G q1166 q1194) ⟨by decide, by decide⟩ q1169 q1170 md_X6_row (zc_rc G (zne tu21 c32 (by decide)) c32 (by decide) (by decide) rfl) rfl dX10_row_82) (S 109 _ rfl _ _ _ h (zoks_cons trivial (zoks_cons (show zr _ from by first | with_reducible exact i_and_r _ _ | with_reducible exact i_or_r _ _ | with_reducible exact i_shl_r _ _ | with_reducible exact i_shr_r _ _ | with_reducible exact i_ushr_r _ _ | with_reducible exact i_b_r _ | with_reducible exact i_c_r _ | with_reducible exact i_xor_r _ _ | with_reducible exact i_div_r _ _ | with_reducible exact i_rem_r _ _ | exact zr_of _) (zoks_cons trivial (zoks_cons trivial (zoks_cons trivial zoks_nil)))))) (Or.inl ⟨rfl, rfl⟩) (zc_hk q1171 q167) (by decide) (Nat.le_of_ble_eq_true rfl) kj28 (fun _ _ h => h.elim)
      by_cases c33 : tg u21 (aR u10 (fR u10 72 x0) x7) = 10
      · have e : vm10 (tg u21 (aR u10 (fR u10 72 x0) x7)) = 98 := by rw [c33]; rfl
        rw [e] at h
        exact zv_callV (as := [ar (aR u10 (fR u10 72 x0) x7), ai (i_div x6 x5_13), ar v22, ar x3, ar x4]) (st := []) G M (zc_eU (C := zcn 10) G q1188 q1167 (zc_declC G q1166 q1194) ⟨by decide, by decide⟩ q1193 q1176 md_X6_row (zc_rc G (zne tu21 c33 (by decide)) c33 (by decide) (by decide) rfl) rfl dX10_row_82) (S 98 _ rfl _ _ _ h (zoks_cons trivial (zoks_cons (show zr _ from by first | with_reducible exact i_and_r _ _ | with_reducible exact i_or_r _ _ | with_reducible exact i_shl_r _ _ | with_reducible exact i_shr_r _ _ | with_reducible exact i_ushr_r _ _ | with_reducible exact i_b_r _ | with_reducible exact i_c_r _ | with_reducible exact i_xor_r _ _ | with_reducible exact i_div_r _ _ | with_reducible exact i_rem_r _ _ | exact zr_of _) (zoks_cons trivial (zoks_cons trivial (zoks_cons trivial zoks_nil)))))) (Or.inl ⟨rfl, rfl⟩) (zc_hk q1177 q164) (by decide) (Nat.le_of_ble_eq_true rfl) kj28 (fun _ _ h => h.elim)
      by_cases c34 : tg u21 (aR u10 (fR u10 72 x0) x7) = 11
      · have e : vm10 (tg u21 (aR u10 (fR u10 72 x0) x7)) = 98 := by rw [c34]; rfl
        rw [e] at h
        exact zv_callV (as := [ar (aR u10 (fR u10 72 x0) x7), ai (i_div x6 x5_13), ar v22, ar x3, ar x4]) (st := []) G M (zc_eU (C := zcn 11) G q1188 q1167 (zc_declC G q1166 q1194) ⟨by decide, by decide⟩ q1192 q1176 md_X6_row (zc_rc G (zne tu21 c34 (by decide)) c34 (by decide) (by decide) rfl) rfl dX10_row_82) (S 98 _ rfl _ _ _ h (zoks_cons trivial (zoks_cons (show zr _ from by first | with_reducible exact i_and_r _ _ | with_reducible exact i_or_r _ _ | with_reducible exact i_shl_r _ _ | with_reducible exact i_shr_r _ _ | with_reducible exact i_ushr_r _ _ | with_reducible exact i_b_r _ | with_reducible exact i_c_r _ | with_reducible exact i_xor_r _ _ | with_reducible exact i_div_r _ _ | with_reducible exact i_rem_r _ _ | exact zr_of _) (zoks_cons trivial (zoks_cons trivial (zoks_cons trivial zoks_nil)))))) (Or.inl ⟨rfl, rfl⟩) (zc_hk q1177 q164) (by decide) (Nat.le_of_ble_eq_true rfl) kj28 (fun _ _ h => h.elim)
      by_cases c35 : tg u21 (aR u10 (fR u10 72 x0) x7) = 12
      · have e : vm10 (tg u21 (aR u10 (fR u10 72 x0) x7)) = 98 := by rw [c35]; rfl
        rw [e] at h
        exact zv_callV (as := [ar (aR u10 (fR u10 72 x0) x7), ai (i_div x6 x5_13), ar v22, ar x3, ar x4]) (st := []) G M (zc_eU (C := zcn 12) G q1188 q1167 (zc_declC G q1166 q1194) ⟨by decide, by decide⟩ q1190 q1176 md_X6_row (zc_rc G (zne tu21 c35 (by decide)) c35 (by decide) (by decide) rfl) rfl dX10_row_82) (S 98 _ rfl _ _ _ h (zoks_cons trivial (zoks_cons (show zr _ from by first | with_reducible exact i_and_r _ _ | with_reducible exact i_or_r _ _ | with_reducible exact i_shl_r _ _ | with_reducible exact i_shr_r _ _ | with_reducible exact i_ushr_r _ _ | with_reducible exact i_b_r _ | with_reducible exact i_c_r _ | with_reducible exact i_xor_r _ _ | with_reducible exact i_div_r _ _ | with_reducible exact i_rem_r _ _ | exact zr_of _) (zoks_cons trivial (zoks_cons trivial (zoks_cons trivial zoks_nil)))))) (Or.inl ⟨rfl, rfl⟩) (zc_hk q1177 q164) (by decide) (Nat.le_of_ble_eq_true rfl) kj28 (fun _ _ h => h.elim)
      have e : vm10 (tg u21 (aR u10 (fR u10 72 x0) x7)) = 9999 := by unfold vm10; rw [if_neg c29, if_neg c30, if_neg c31, if_neg c32, if_neg c33, if_neg c34, if_neg c35]
      rw [e] at h
      exact (wpC_none h).elim
    have h : wpC p d (vm0 (tg w (aR w (fR w 72 x0) x7))) [ar (aR w (fR w 72 x0) x7)] w _ := h
    by_cases c38 : tg w (aR w (fR w 72 x0) x7) = 6
    · have e : vm0 (tg w (aR w (fR w 72 x0) x7)) = 92 := by rw [c38]; rfl
      rw [e] at h
      exact zv_callI (as := [ar (aR w (fR w 72 x0) x7)]) (st := [ai x5]) G M (zc_eV (C := zcn 6) G q1186 q1069 q1071 (Or.inl ⟨rfl, rfl⟩) q1085 md_X6_ways (zc_rc G (zne tw c38 (by decide)) c38 (by decide) (by decide) rfl) rfl dX10_row_40) (S 92 _ rfl _ _ _ h (zoks_cons trivial zoks_nil)) (Or.inl ⟨rfl, rfl⟩) (zc_hk q1085 q162) (by decide) (Nat.le_of_ble_eq_true rfl) kj37 (fun _ _ h => h.elim)
    by_cases c39 : tg w (aR w (fR w 72 x0) x7) = 7
    · have e : vm0 (tg w (aR w (fR w 72 x0) x7)) = 92 := by rw [c39]; rfl
      rw [e] at h
      exact zv_callI (as := [ar (aR w (fR w 72 x0) x7)]) (st := [ai x5]) G M (zc_eV (C := zcn 7) G q1186 q1069 q1082 (Or.inl ⟨rfl, rfl⟩) q1085 md_X6_ways (zc_rc G (zne tw c39 (by decide)) c39 (by decide) (by decide) rfl) rfl dX10_row_40) (S 92 _ rfl _ _ _ h (zoks_cons trivial zoks_nil)) (Or.inl ⟨rfl, rfl⟩) (zc_hk q1085 q162) (by decide) (Nat.le_of_ble_eq_true rfl) kj37 (fun _ _ h => h.elim)
    by_cases c40 : tg w (aR w (fR w 72 x0) x7) = 8
    · have e : vm0 (tg w (aR w (fR w 72 x0) x7)) = 103 := by rw [c40]; rfl
      rw [e] at h
      exact zv_callI (as := [ar (aR w (fR w 72 x0) x7)]) (st := [ai x5]) G M (zc_eU (C := zcn 8) G q1186 q1070 (zc_declC G q1069 q1085) ⟨by decide, by decide⟩ q1080 q1076 md_X6_ways (zc_rc G (zne tw c40 (by decide)) c40 (by decide) (by decide) rfl) rfl dX10_row_40) (S 103 _ rfl _ _ _ h (zoks_cons trivial zoks_nil)) (Or.inl ⟨rfl, rfl⟩) (zc_hk q1077 q166) (by decide) (Nat.le_of_ble_eq_true rfl) kj37 (fun _ _ h => h.elim)
    by_cases c41 : tg w (aR w (fR w 72 x0) x7) = 9
    · have e : vm0 (tg w (aR w (fR w 72 x0) x7)) = 108 := by rw [c41]; rfl
      rw [e] at h
      exact zv_callI (as := [ar (aR w (fR w 72 x0) x7)]) (st := [ai x5]) G M (zc_eU (C := zcn 9) G q1186 q1070 (zc_declC G q1069 q1085) ⟨by decide, by decide⟩ q1072 q1073 md_X6_ways (zc_rc G (zne tw c41 (by decide)) c41 (by decide) (by decide) rfl) rfl dX10_row_40) (S 108 _ rfl _ _ _ h (zoks_cons trivial zoks_nil)) (Or.inl ⟨rfl, rfl⟩) (zc_hk q1074 q167) (by decide) (Nat.le_of_ble_eq_true rfl) kj37 (fun _ _ h => h.elim)
    by_cases c42 : tg w (aR w (fR w 72 x0) x7) = 10
    · have e : vm0 (tg w (aR w (fR w 72 x0) x7)) = 92 := by rw [c42]; rfl
      rw [e] at h
      exact zv_callI (as := [ar (aR w (fR w 72 x0) x7)]) (st := [ai x5]) G M (zc_eV (C := zcn 10) G q1186 q1069 q1084 (Or.inl ⟨rfl, rfl⟩) q1085 md_X6_ways (zc_rc G (zne tw c42 (by decide)) c42 (by decide) (by decide) rfl) rfl dX10_row_40) (S 92 _ rfl _ _ _ h (zoks_cons trivial zoks_nil)) (Or.inl ⟨rfl, rfl⟩) (zc_hk q1085 q162) (by decide) (Nat.le_of_ble_eq_true rfl) kj37 (fun _ _ h => h.elim)
    by_cases c43 : tg w (aR w (fR w 72 x0) x7) = 11
    · have e : vm0 (tg w (aR w (fR w 72 x0) x7)) = 92 := by rw [c43]; rfl
      rw [e] at h
      exact zv_callI (as := [ar (aR w (fR w 72 x0) x7)]) (st := [ai x5]) G M (zc_eV (C := zcn 11) G q1186 q1069 q1083 (Or.inl ⟨rfl, rfl⟩) q1085 md_X6_ways (zc_rc G (zne tw c43 (by decide)) c43 (by decide) (by decide) rfl) rfl dX10_row_40) (S 92 _ rfl _ _ _ h (zoks_cons trivial zoks_nil)) (Or.inl ⟨rfl, rfl⟩) (zc_hk q1085 q162) (by decide) (Nat.le_of_ble_eq_true rfl) kj37 (fun _ _ h => h.elim)
    by_cases c44 : tg w (aR w (fR w 72 x0) x7) = 12
    · have e : vm0 (tg w (aR w (fR w 72 x0) x7)) = 92 := by rw [c44]; rfl
      rw [e] at h
      exact zv_callI (as := [ar (aR w (fR w 72 x0) x7)]) (st := [ai x5]) G M (zc_eV (C := zcn 12) G q1186 q1069 q1081 (Or.inl ⟨rfl, rfl⟩) q1085 md_X6_ways (zc_rc G (zne tw c44 (by decide)) c44 (by decide) (by decide) rfl) rfl dX10_row_40) (S 92 _ rfl _ _ _ h (zoks_cons trivial zoks_nil)) (Or.inl ⟨rfl, rfl⟩) (zc_hk q1085 q162) (by decide) (Nat.le_of_ble_eq_true rfl) kj37 (fun _ _ h => h.elim)
    have e : vm0 (tg w (aR w (fR w 72 x0) x7)) = 9999 := by unfold vm0; rw [if_neg c38, if_neg c39, if_neg c40, if_neg c41, if_neg c42, if_neg c43, if_neg c44]
    rw [e] at h
    exact (wpC_none h).elim
set_option maxHeartbeats 4000000 in
set_option maxRecDepth 100000 in
theorem cpC_X10_row_0 {Γ : ZG CW} {D : CD} {d p : Nat} (hp : D.K.1 = p) (G : ZOk Γ cX10_row RX10 8 (KnC D) (ZC D)) (M : ZRm Γ (d + 1) D.lim (Option.none : Option Jvm.ClassFile.FieldType) "row" []) (S : SdC d D p Γ.l) (hl : Γ.l.stackTraces = false) (hk : 0 ≤ d) {x0 : Nat} {x1 : Int} {x2 : Nat} {x3 : Nat} {x4 : Nat} {w : CW} (rx1 : zr x1) (h : pC_X10_row_0 p (wpC p d) (fun w => Γ.Q (.inl none) w) x0 x1 x2 x3 x4 w) : ZV Γ w 0 [(0, ar x0), (1, ai x1), (2, ar x2), (3, ar x3), (4, ar x4)] [] := by
  refine zc_wk G hp (fun hw tw => ?_)
  refine zv_aload_n G rfl rfl dX10_row_0 ?_
  refine zv_iload_n G rfl rfl dX10_row_1 ?_
  refine zv_aload_n G rfl rfl dX10_row_2 ?_
  refine zv_aload_n G rfl rfl dX10_row_3 ?_
  refine zv_aload G rfl dX10_row_4 ?_
  have o46 := h.1
  have h := h.2
  refine zv_callV (as := [ar x0, ai x1, ar x2, ar x3, ar x4]) (st := []) G M (zc_eSU G q1175 q2999 q944 q1176 (Or.inl ⟨rfl, rfl⟩) q1177 (by decide) md_X8_row (zc_rc G (zne tw rfl o46.1) rfl o46.1 o46.2 rfl) rfl dX10_row_6) (S 98 _ rfl _ _ _ h (zoks_cons trivial (zoks_cons rx1 (zoks_cons trivial (zoks_cons trivial (zoks_cons trivial zoks_nil)))))) (Or.inl ⟨rfl, rfl⟩) (zc_hk q1177 q164) (by decide) (Nat.le_of_ble_eq_true rfl) (fun u1 h => ?_) (fun _ _ h => h.elim)
  refine zc_wk G hp (fun hu1 tu1 => ?_)
  refine zv_aload_n G rfl rfl dX10_row_9 ?_
  have o45 := h.1
  have h := h.2
  refine zv_callI (as := [ar x0]) (st := []) G M (zc_eV (C := zcn 8) G q1185 q1076 q3000 (Or.inl ⟨rfl, rfl⟩) q1077 md_X10_ways (zc_rc G (zne tu1 o45 (by decide)) o45 (by decide) (by decide) rfl) rfl dX10_row_10) (S 103 _ rfl _ _ _ h (zoks_cons trivial zoks_nil)) (Or.inl ⟨rfl, rfl⟩) (zc_hk q1077 q166) (by decide) (Nat.le_of_ble_eq_true rfl) (fun v4 u3 rv4 h => ?_) (fun _ _ h => h.elim)
  refine zc_wk G hp (fun hu3 tu3 => ?_)
  refine zv_istore G (by decide) rfl dX10_row_13 ?_
  refine zv_iload_n G rfl rfl dX10_row_15 ?_
  refine zv_istore G (by decide) rfl dX10_row_16 ?_
  refine zv_iconst (a := 0) G (by decide) dX10_row_18 ?_
  refine zv_istore G (by decide) rfl dX10_row_19 ?_
  exact zv_pick [0, 2, 3, 4, 5, 6, 7] rfl (cpC_X10_row_21 hp G M S hl hk rv4 rx1 (zr_k 0 (by decide) (by decide)) h)
set_option maxHeartbeats 4000000 in
set_option maxRecDepth 100000 in
theorem cpC_X10_by_47 {Γ : ZG CW} {D : CD} {d p : Nat} (hp : D.K.1 = p) (G : ZOk Γ cX10_by RX10 4 (KnC D) (ZC D)) (M : ZRm Γ (d + 1) D.lim (Option.some Jvm.ClassFile.FieldType.int) "by" []) (S : SdC d D p Γ.l) (hl : Γ.l.stackTraces = false) (hk : 0 ≤ d) {s0 : Int} {w : CW} (rs0 : zr s0) (h : pC_X10_by_47 p (wpC p d) (fun v w => Γ.Q (.inl (some (ai v))) w) s0 w) : ZV Γ w 47 [] [ai s0] := by
  refine zc_wk G hp (fun hw tw => ?_)
  exact zv_iret (ty := .int) rs0 G M rfl dX10_by_47 h
set_option maxHeartbeats 4000000 in
set_option maxRecDepth 100000 in
theorem cpC_X10_by_46 {Γ : ZG CW} {D : CD} {d p : Nat} (hp : D.K.1 = p) (G : ZOk Γ cX10_by RX10 4 (KnC D) (ZC D)) (M : ZRm Γ (d + 1) D.lim (Option.some Jvm.ClassFile.FieldType.int) "by" []) (S : SdC d D p Γ.l) (hl : Γ.l.stackTraces = false) (hk : 0 ≤ d) {w : CW} (h : pC_X10_by_46 p (wpC p d) (fun v w => Γ.Q (.inl (some (ai v))) w) w) : ZV Γ w 46 [] [] := by
  refine zc_wk G hp (fun hw tw => ?_)
  refine zv_iconst (a := (-1)) G (by decide) dX10_by_46 ?_
  exact zv_pick [] rfl (cpC_X10_by_47 hp G M S hl hk (zr_k (-1) (by decide) (by decide)) h)
set_option maxHeartbeats 4000000 in
set_option maxRecDepth 100000 in
theorem cpC_X10_by_0 {Γ : ZG CW} {D : CD} {d p : Nat} (hp : D.K.1 = p) (G : ZOk Γ cX10_by RX10 4 (KnC D) (ZC D)) (M : ZRm Γ (d + 1) D.lim (Option.some Jvm.ClassFile.FieldType.int) "by" []) (S : SdC d D p Γ.l) (hl : Γ.l.stackTraces = false) (hk : 0 ≤ d) {x0 : Nat} {x1 : Nat} {x2 : Nat} {w : CW} (h : pC_X10_by_0 p (wpC p d) (fun v w => Γ.Q (.inl (some (ai v))) w) x0 x1 x2 w) : ZV Γ w 0 [(0, ar x0), (1, ar x1), (2, ar x2)] [] := by
  refine zc_wk G hp (fun hw tw => ?_)
  refine zv_aload_n G rfl rfl dX10_by_0 ?_
  have o1 := h.1
  have h := h.2
  refine zc_get (f := 98) (v := ar (fR w 98 x1)) G o1 rfl q1224 (Or.inl rfl) (cV_R rfl) dX10_by_1 ?_
  refine zv_aload_n G rfl rfl dX10_by_4 ?_
  have o2 := h.1
  have h := h.2
  refine zc_get (f := 89) (v := ai (fI w 89 x2)) G o2 rfl q1148 (Or.inl rfl) (cV_I (by decide) (by decide)) dX10_by_5 ?_
  have o3 := h.1
  have h := h.2
  refine zc_ialdN G o3.1 (hw.i 89 _ (by decide)) o3.2.1 o3.2.2 dX10_by_8 ?_
  refine zv_istore_nN G rfl (by decide) dX10_by_9 (fun x3_4 ex3_4 => ?_)
  have h := h x3_4 ex3_4
  have rx3_4 : zr x3_4 := by rw [ex3_4]; exact (aN_r hw _ _)
  refine zv_iload_n G rfl rfl dX10_by_10 ?_
  refine zv_if_ne (tgt := 18) G rx3_4 (by decide) dX10_by_11 (fun c5 => ?_) (fun c5 => ?_)
  · have h := h.2 c5
    refine zv_iload_n G rfl rfl dX10_by_18 ?_
    refine zv_iconst (a := 2) G (by decide) dX10_by_19 ?_
    refine zv_icmp_ne (tgt := 46) G rx3_4 (zr_k 2 (by decide) (by decide)) (by decide) dX10_by_20 (fun c6 => ?_) (fun c6 => ?_)
    · have h := h.2 c6
      exact zv_pick [] rfl (cpC_X10_by_46 hp G M S hl hk h)
    · have h := h.1 c6
      refine zv_aload_n G rfl rfl dX10_by_23 ?_
      have o7 := h.1
      have h := h.2
      refine zc_get (f := 99) (v := ar (fR w 99 x1)) G o7 rfl q1227 (Or.inl rfl) (cV_R rfl) dX10_by_24 ?_
      refine zv_aload_n G rfl rfl dX10_by_27 ?_
      have o8 := h.1
      have h := h.2
      refine zc_get (f := 89) (v := ai (fI w 89 x2)) G o8 rfl q1148 (Or.inl rfl) (cV_I (by decide) (by decide)) dX10_by_28 ?_
      have o9 := h.1
      have h := h.2
      refine zc_aald G o9.1 (hw.i 89 _ (by decide)) o9.2.1 o9.2.2 dX10_by_31 ?_
      refine zv_aload_n G rfl rfl dX10_by_32 ?_
      have o10 := h.1
      have h := h.2
      refine zc_get (f := 71) (v := ar (fR w 71 x0)) G o10 rfl q937 (Or.inl rfl) (cV_R rfl) dX10_by_33 ?_
      have o14 := h.1
      have h := h.2
      refine zv_callI (as := [ar (aR w (fR w 99 x1) (fI w 89 x2)), ar (fR w 71 x0)]) (st := []) G M (zc_eV (C := zcn 3) G q1300 q928 q929 (Or.inl ⟨rfl, rfl⟩) q930 md_X3_is (zc_rc G (zne tw o14 (by decide)) o14 (by decide) (by decide) rfl) rfl dX10_by_36) (S 83 _ rfl _ _ _ h (zoks_cons trivial (zoks_cons trivial zoks_nil))) (Or.inl ⟨rfl, rfl⟩) (zc_hk q930 q159) (by decide) (Nat.le_of_ble_eq_true rfl) (fun v12 u11 rv12 h => ?_) (fun _ _ h => h.elim)
      refine zc_wk G hp (fun hu11 tu11 => ?_)
      refine zv_if_eq (tgt := 46) G rv12 (by decide) dX10_by_39 (fun c13 => ?_) (fun c13 => ?_)
      · have h := h.1 c13
        exact zv_pick [] rfl (cpC_X10_by_46 hp G M S hl hk h)
      · have h := h.2 c13
        refine zv_iconst (a := 1) G (by decide) dX10_by_42 ?_
        refine zv_goto (tgt := 47) G (by decide) dX10_by_43 ?_
        exact zv_pick [] rfl (cpC_X10_by_47 hp G M S hl hk (zr_k 1 (by decide) (by decide)) h)
  · have h := h.1 c5
    refine zv_iconst (a := 0) G (by decide) dX10_by_14 ?_
    refine zv_goto (tgt := 47) G (by decide) dX10_by_15 ?_
    exact zv_pick [] rfl (cpC_X10_by_47 hp G M S hl hk (zr_k 0 (by decide) (by decide)) h)
set_option maxHeartbeats 4000000 in
set_option maxRecDepth 100000 in
theorem cpC_X10_holds_72 {Γ : ZG CW} {D : CD} {d p : Nat} (hp : D.K.1 = p) (G : ZOk Γ cX10_holds RX10 5 (KnC D) (ZC D)) (M : ZRm Γ (d + 1) D.lim (Option.some Jvm.ClassFile.FieldType.boolean) "holds" []) (S : SdC d D p Γ.l) (hl : Γ.l.stackTraces = false) (hk : 0 ≤ d) {x3 : Int} {w : CW} (rx3 : zr x3) (h : pC_X10_holds_72 p (wpC p d) (fun v w => Γ.Q (.inl (some (ai v))) w) x3 w) : ZV Γ w 72 [(3, ai x3)] [] := by
  refine zc_wk G hp (fun hw tw => ?_)
  refine zv_iload_n G rfl rfl dX10_holds_72 ?_
  exact zv_iret (ty := .boolean) rx3 G M (zn_Z h.1) dX10_holds_73 h.2
set_option maxHeartbeats 4000000 in
set_option maxRecDepth 100000 in
theorem cpC_X10_holds_30 {Γ : ZG CW} {D : CD} {d p : Nat} (hp : D.K.1 = p) (G : ZOk Γ cX10_holds RX10 5 (KnC D) (ZC D)) (M : ZRm Γ (d + 1) D.lim (Option.some Jvm.ClassFile.FieldType.boolean) "holds" []) (S : SdC d D p Γ.l) (hl : Γ.l.stackTraces = false) (hk : 0 ≤ d) {x0 : Nat} {x1 : Nat} {x2 : Nat} {x3 : Int} {x4 : Int} {w : CW} (rx3 : zr x3) (rx4 : zr x4) (h : pC_X10_holds_30 p (wpC p d) (fun v w => Γ.Q (.inl (some (ai v))) w) x0 x1 x2 x3 x4 w) : ZV Γ w 30 [(0, ar x0), (1, ar x1), (2, ar x2), (3, ai x3), (4, ai x4)] [] := by
  obtain ⟨I30, eI30⟩ : ∃ I : Int → Int → CW → Prop, I = (fun x3 x4 w => zr x3 → zr x4 → ZV Γ w 30 [(0, ar x0), (1, ar x1), (2, ar x2), (3, ai x3), (4, ai x4)] []) := ⟨_, rfl⟩
  have hI30 : ∀ (x3 : Int) (x4 : Int) (w : CW), I30 x3 x4 w → zr x3 → zr x4 → ZV Γ w 30 [(0, ar x0), (1, ar x1), (2, ar x2), (3, ai x3), (4, ai x4)] [] := by subst eI30; exact fun _ _ _ z => z
  have hJ30 : ∀ (x3 : Int) (x4 : Int) (w : CW), (zr x3 → zr x4 → ZV Γ w 30 [(0, ar x0), (1, ar x1), (2, ar x2), (3, ai x3), (4, ai x4)] []) → I30 x3 x4 w := by subst eI30; exact fun _ _ _ z => z
  refine hI30 x3 x4 w (h I30 (fun x3 x4 w h => hJ30 x3 x4 w (fun rx3 rx4 => ?_))) rx3 rx4
  refine zc_wk G hp (fun hw tw => ?_)
  refine zv_iload_n G rfl rfl dX10_holds_30 ?_
  have o4 := h.1
  have h := h.2
  have kt15 : ¬ (x3 = 0) ∧ (¬ (((ln w (fR w 72 x0) : Nat) : Int) ≤ x4)) → ZV Γ w 44 [(0, ar x0), (1, ar x1), (2, ar x2), (3, ai x3), (4, ai x4)] [] := by
    intro c17
    have h := h.1 c17
    refine zv_aload_n G rfl rfl dX10_holds_44 ?_
    have o5 := h.1
    have h := h.2
    refine zc_get (f := 72) (v := ar (fR w 72 x0)) G o5 rfl q938 (Or.inl rfl) (cV_R rfl) dX10_holds_45 ?_
    refine zv_iload G rfl dX10_holds_48 ?_
    have o6 := h.1
    have h := h.2
    refine zc_aald G o6.1 rx4 o6.2.1 o6.2.2 dX10_holds_50 ?_
    refine zv_aload_n G rfl rfl dX10_holds_51 ?_
    have o7 := h.1
    have h := h.2
    refine zc_cast G q2008 o7 dX10_holds_52 ?_
    have o8 := h.1
    have h := h.2
    refine zc_get (f := 118) (v := ar (fR w 118 x1)) G o8 rfl q1819 (Or.inl rfl) (cV_R rfl) dX10_holds_55 ?_
    refine zv_iload G rfl dX10_holds_58 ?_
    have o9 := h.1
    have h := h.2
    refine zc_aald G o9.1 rx4 o9.2.1 o9.2.2 dX10_holds_60 ?_
    refine zv_aload_n G rfl rfl dX10_holds_61 ?_
    have o13 := h.1
    have h := h.2
    have en14 : ZEn Γ w 62 [(0, ar x0), (1, ar x1), (2, ar x2), (3, ai x3), (4, ai x4)] yX6_fits 3 [ar (aR w (fR w 72 x0) x4), ar (aR w (fR w 118 x1) x4), ar x2] [] := by
      rcases o13 with z | z | z | z | z | z | z
      · exact (zc_eV (C := zcn 6) G q2009 q1984 q1986 (Or.inl ⟨rfl, rfl⟩) q1993 md_X6_fits (zc_rc G (zne tw z (by decide)) z (by decide) (by decide) rfl) rfl dX10_holds_62)
      · exact (zc_eV (C := zcn 7) G q2009 q1984 q1990 (Or.inl ⟨rfl, rfl⟩) q1993 md_X6_fits (zc_rc G (zne tw z (by decide)) z (by decide) (by decide) rfl) rfl dX10_holds_62)
      · exact (zc_eV (C := zcn 8) G q2009 q1984 q1988 (Or.inl ⟨rfl, rfl⟩) q1993 md_X6_fits (zc_rc G (zne tw z (by decide)) z (by decide) (by decide) rfl) rfl dX10_holds_62)
      · exact (zc_eV (C := zcn 9) G q2009 q1984 q1987 (Or.inl ⟨rfl, rfl⟩) q1993 md_X6_fits (zc_rc G (zne tw z (by decide)) z (by decide) (by decide) rfl) rfl dX10_holds_62)
      · exact (zc_eV (C := zcn 10) G q2009 q1984 q1992 (Or.inl ⟨rfl, rfl⟩) q1993 md_X6_fits (zc_rc G (zne tw z (by decide)) z (by decide) (by decide) rfl) rfl dX10_holds_62)
      · exact (zc_eV (C := zcn 11) G q2009 q1984 q1991 (Or.inl ⟨rfl, rfl⟩) q1993 md_X6_fits (zc_rc G (zne tw z (by decide)) z (by decide) (by decide) rfl) rfl dX10_holds_62)
      · exact (zc_eV (C := zcn 12) G q2009 q1984 q1989 (Or.inl ⟨rfl, rfl⟩) q1993 md_X6_fits (zc_rc G (zne tw z (by decide)) z (by decide) (by decide) rfl) rfl dX10_holds_62)
    refine zv_callI (as := [ar (aR w (fR w 72 x0) x4), ar (aR w (fR w 118 x1) x4), ar x2]) (st := []) G M en14 (S 94 _ rfl _ _ _ h (zoks_cons trivial (zoks_cons trivial (zoks_cons trivial zoks_nil)))) (Or.inl ⟨rfl, rfl⟩) (zc_hk q1993 q162) (by decide) (Nat.le_of_ble_eq_true rfl) (fun v11 u10 rv11 h => ?_) (fun _ _ h => h.elim)
    refine zc_wk G hp (fun hu10 tu10 => ?_)
    refine zv_istore_n G rfl (by decide) rfl dX10_holds_65 ?_
    refine zv_iincN G rfl (by decide) dX10_holds_66 (fun x4_12 ex4_12 => ?_)
    have h := h x4_12 ex4_12
    have rx4_12 : zr x4_12 := by rw [ex4_12]; exact w32_r _
    refine zv_goto (tgt := 30) G (by decide) dX10_holds_69 ?_
    exact zv_pick [0, 1, 2, 3, 4] rfl (hI30 _ _ _ h rv11 rx4_12)
  have kf16 : ¬ (¬ (x3 = 0) ∧ (¬ (((ln w (fR w 72 x0) : Nat) : Int) ≤ x4))) → ZV Γ w 72 [(0, ar x0), (1, ar x1), (2, ar x2), (3, ai x3), (4, ai x4)] [] := by
    intro c17
    have h := h.2 c17
    exact zv_pick [3] rfl (cpC_X10_holds_72 hp G M S hl hk rx3 h)
  refine zv_if_eq (tgt := 72) G rx3 (by decide) dX10_holds_31 (fun c18 => ?_) (fun c18 => ?_)
  · exact kf16 (fun q => q.1 c18)
  · refine zv_iload G rfl dX10_holds_34 ?_
    refine zv_aload_n G rfl rfl dX10_holds_36 ?_
    refine zc_get (f := 72) (v := ar (fR w 72 x0)) G (o4 c18).1 rfl q938 (Or.inl rfl) (cV_R rfl) dX10_holds_37 ?_
    refine zc_alen G (o4 c18).2 dX10_holds_40 ?_
    refine zv_icmp_ge (tgt := 72) G rx4 (zc_lnr hw _) (by decide) dX10_holds_41 (fun c19 => ?_) (fun c19 => ?_)
    · exact kf16 (fun q => (fun q => q c19) q.2)
    · exact kt15 ⟨c18, c19⟩
set_option maxHeartbeats 4000000 in
set_option maxRecDepth 100000 in
theorem cpC_X10_holds_26 {Γ : ZG CW} {D : CD} {d p : Nat} (hp : D.K.1 = p) (G : ZOk Γ cX10_holds RX10 5 (KnC D) (ZC D)) (M : ZRm Γ (d + 1) D.lim (Option.some Jvm.ClassFile.FieldType.boolean) "holds" []) (S : SdC d D p Γ.l) (hl : Γ.l.stackTraces = false) (hk : 0 ≤ d) {x0 : Nat} {x1 : Nat} {x2 : Nat} {s0 : Int} {w : CW} (rs0 : zr s0) (h : pC_X10_holds_26 p (wpC p d) (fun v w => Γ.Q (.inl (some (ai v))) w) x0 x1 x2 s0 w) : ZV Γ w 26 [(0, ar x0), (1, ar x1), (2, ar x2)] [ai s0] := by
  refine zc_wk G hp (fun hw tw => ?_)
  refine zv_istore_n G rfl (by decide) rfl dX10_holds_26 ?_
  refine zv_iconst (a := 0) G (by decide) dX10_holds_27 ?_
  refine zv_istore G (by decide) rfl dX10_holds_28 ?_
  exact zv_pick [0, 1, 2, 3, 4] rfl (cpC_X10_holds_30 hp G M S hl hk rs0 (zr_k 0 (by decide) (by decide)) h)
set_option maxHeartbeats 4000000 in
set_option maxRecDepth 100000 in
theorem cpC_X10_holds_25 {Γ : ZG CW} {D : CD} {d p : Nat} (hp : D.K.1 = p) (G : ZOk Γ cX10_holds RX10 5 (KnC D) (ZC D)) (M : ZRm Γ (d + 1) D.lim (Option.some Jvm.ClassFile.FieldType.boolean) "holds" []) (S : SdC d D p Γ.l) (hl : Γ.l.stackTraces = false) (hk : 0 ≤ d) {x0 : Nat} {x1 : Nat} {x2 : Nat} {w : CW} (h : pC_X10_holds_25 p (wpC p d) (fun v w => Γ.Q (.inl (some (ai v))) w) x0 x1 x2 w) : ZV Γ w 25 [(0, ar x0), (1, ar x1), (2, ar x2)] [] := by
  refine zc_wk G hp (fun hw tw => ?_)
  refine zv_iconst (a := 0) G (by decide) dX10_holds_25 ?_
  exact zv_pick [0, 1, 2] rfl (cpC_X10_holds_26 hp G M S hl hk (zr_k 0 (by decide) (by decide)) h)
set_option maxHeartbeats 4000000 in
set_option maxRecDepth 100000 in
theorem cpC_X10_holds_0 {Γ : ZG CW} {D : CD} {d p : Nat} (hp : D.K.1 = p) (G : ZOk Γ cX10_holds RX10 5 (KnC D) (ZC D)) (M : ZRm Γ (d + 1) D.lim (Option.some Jvm.ClassFile.FieldType.boolean) "holds" []) (S : SdC d D p Γ.l) (hl : Γ.l.stackTraces = false) (hk : 0 ≤ d) {x0 : Nat} {x1 : Nat} {x2 : Nat} {w : CW} (h : pC_X10_holds_0 p (wpC p d) (fun v w => Γ.Q (.inl (some (ai v))) w) x0 x1 x2 w) : ZV Γ w 0 [(0, ar x0), (1, ar x1), (2, ar x2)] [] := by
  refine zc_wk G hp (fun hw tw => ?_)
  refine zv_aload_n G rfl rfl dX10_holds_0 ?_
  have kj33 : ∀ (v2 : Nat) (u1 : CW), (
      (v2 = 0 →
        pC_X10_holds_25 p (wpC p d) (fun v w => Γ.Q (.inl (some (ai v))) w) x0 x1 x2 u1) ∧
      (¬ (v2 = 0) →
        (wpC p d) (vm4 (tg u1 x1)) [ar x1] u1 (zqR (fun v21 u20 =>
          (hF 71 (tg u20 x0) = true) ∧
          (tg u20 v21 = 3) ∧
          (wpC p d) 83 [ar v21, ar (fR u20 71 x0)] u20 (zqI (fun v24 u23 =>
            (v24 = 0 →
              pC_X10_holds_25 p (wpC p d) (fun v w => Γ.Q (.inl (some (ai v))) w) x0 x1 x2 u23) ∧
            (¬ (v24 = 0) →
              pC_X10_holds_26 p (wpC p d) (fun v w => Γ.Q (.inl (some (ai v))) w) x0 x1 x2 1 u23)) zno)) zno))) → ZV Γ u1 4 [(0, ar x0), (1, ar x1), (2, ar x2)] [ar v2] := by
    intro v2 u1 h
    refine zc_wk G hp (fun hu1 tu1 => ?_)
    refine zv_ifnull (tgt := 25) G (by decide) dX10_holds_4 (fun c3 => ?_) (fun c3 => ?_)
    · have h := h.1 c3
      exact zv_pick [0, 1, 2] rfl (cpC_X10_holds_25 hp G M S hl hk h)
    · have h := h.2 c3
      refine zv_aload_n G rfl rfl dX10_holds_7 ?_
      have kj27 : ∀ (v21 : Nat) (u20 : CW), (
          (hF 71 (tg u20 x0) = true) ∧
          (tg u20 v21 = 3) ∧
          (wpC p d) 83 [ar v21, ar (fR u20 71 x0)] u20 (zqI (fun v24 u23 =>
            (v24 = 0 →
              pC_X10_holds_25 p (wpC p d) (fun v w => Γ.Q (.inl (some (ai v))) w) x0 x1 x2 u23) ∧
            (¬ (v24 = 0) →
              pC_X10_holds_26 p (wpC p d) (fun v w => Γ.Q (.inl (some (ai v))) w) x0 x1 x2 1 u23)) zno)) → ZV Γ u20 11 [(0, ar x0), (1, ar x1), (2, ar x2)] [ar v21] := by
        intro v21 u20 h
        refine zc_wk G hp (fun hu20 tu20 => ?_)
        refine zv_aload_n G rfl rfl dX10_holds_11 ?_
        have o22 := h.1
        have h := h.2
        refine zc_get (f := 71) (v := ar (fR u20 71 x0)) G o22 rfl q937 (Or.inl rfl) (cV_R rfl) dX10_holds_12 ?_
        have o26 := h.1
        have h := h.2
        refine zv_callI (as := [ar v21, ar (fR u20 71 x0)]) (st := []) G M (zc_eV (C := zcn 3) G q1300 q928 q929 (Or.inl ⟨rfl, rfl⟩) q930 md_X3_is (zc_rc G (zne tu20 o26 (by decide)) o26 (by decide) (by decide) rfl) rfl dX10_holds_15) (S 83 _ rfl _ _ _ h (zoks_cons trivial (zoks_cons trivial zoks_nil))) (Or.inl ⟨rfl, rfl⟩) (zc_hk q930 q159) (by decide) (Nat.le_of_ble_eq_true rfl) (fun v24 u23 rv24 h => ?_) (fun _ _ h => h.elim)
        refine zc_wk G hp (fun hu23 tu23 => ?_)
        refine zv_if_eq (tgt := 25) G rv24 (by decide) dX10_holds_18 (fun c25 => ?_) (fun c25 => ?_)
        · have h := h.1 c25
          exact zv_pick [0, 1, 2] rfl (cpC_X10_holds_25 hp G M S hl hk h)
        · have h := h.2 c25
          refine zv_iconst (a := 1) G (by decide) dX10_holds_21 ?_
          refine zv_goto (tgt := 26) G (by decide) dX10_holds_22 ?_
          exact zv_pick [0, 1, 2] rfl (cpC_X10_holds_26 hp G M S hl hk (zr_k 1 (by decide) (by decide)) h)
      have h : wpC p d (vm4 (tg u1 x1)) [ar x1] u1 _ := h
      by_cases c28 : tg u1 x1 = 26
      · have e : vm4 (tg u1 x1) = 184 := by rw [c28]; rfl
        rw [e] at h
        exact zv_callR (as := [ar x1]) (st := []) G M (zc_eV (C := zcn 26) G q2007 q1800 q1808 (Or.inl ⟨rfl, rfl⟩) q1809 md_X30_kind (zc_rc G (zne tu1 c28 (by decide)) c28 (by decide) (by decide) rfl) rfl dX10_holds_8) (S 184 _ rfl _ _ _ h (zoks_cons trivial zoks_nil)) (Or.inl ⟨rfl, rfl⟩) (zc_hk q1809 q186) (by decide) (Nat.le_of_ble_eq_true rfl) kj27 (fun _ _ h => h.elim)
      by_cases c29 : tg u1 x1 = 27
      · have e : vm4 (tg u1 x1) = 184 := by rw [c29]; rfl
        rw [e] at h
        exact zv_callR (as := [ar x1]) (st := []) G M (zc_eV (C := zcn 27) G q2007 q1800 q1807 (Or.inl ⟨rfl, rfl⟩) q1809 md_X30_kind (zc_rc G (zne tu1 c29 (by decide)) c29 (by decide) (by decide) rfl) rfl dX10_holds_8) (S 184 _ rfl _ _ _ h (zoks_cons trivial zoks_nil)) (Or.inl ⟨rfl, rfl⟩) (zc_hk q1809 q186) (by decide) (Nat.le_of_ble_eq_true rfl) kj27 (fun _ _ h => h.elim)
      by_cases c30 : tg u1 x1 = 28
      · have e : vm4 (tg u1 x1) = 184 := by rw [c30]; rfl
        rw [e] at h
        exact zv_callR (as := [ar x1]) (st := []) G M (zc_eV (C := zcn 28) G q2007 q1800 q1806 (Or.inl ⟨rfl, rfl⟩) q1809 md_X30_kind (zc_rc G (zne tu1 c30 (by decide)) c30 (by decide) (by decide) rfl) rfl dX10_holds_8) (S 184 _ rfl _ _ _ h (zoks_cons trivial zoks_nil)) (Or.inl ⟨rfl, rfl⟩) (zc_hk q1809 q186) (by decide) (Nat.le_of_ble_eq_true rfl) kj27 (fun _ _ h => h.elim)
      by_cases c31 : tg u1 x1 = 29
      · have e : vm4 (tg u1 x1) = 184 := by rw [c31]; rfl
        rw [e] at h
        exact zv_callR (as := [ar x1]) (st := []) G M (zc_eV (C := zcn 29) G q2007 q1800 q1805 (Or.inl ⟨rfl, rfl⟩) q1809 md_X30_kind (zc_rc G (zne tu1 c31 (by decide)) c31 (by decide) (by decide) rfl) rfl dX10_holds_8) (S 184 _ rfl _ _ _ h (zoks_cons trivial zoks_nil)) (Or.inl ⟨rfl, rfl⟩) (zc_hk q1809 q186) (by decide) (Nat.le_of_ble_eq_true rfl) kj27 (fun _ _ h => h.elim)
      by_cases c32 : tg u1 x1 = 30
      · have e : vm4 (tg u1 x1) = 200 := by rw [c32]; rfl
        rw [e] at h
        exact zv_callR (as := [ar x1]) (st := []) G M (zc_eU (C := zcn 30) G q2007 q1801 (zc_declC G q1800 q1809) ⟨by decide, by decide⟩ q1802 q1803 md_X30_kind (zc_rc G (zne tu1 c32 (by decide)) c32 (by decide) (by decide) rfl) rfl dX10_holds_8) (S 200 _ rfl _ _ _ h (zoks_cons trivial zoks_nil)) (Or.inl ⟨rfl, rfl⟩) (zc_hk q1804 q191) (by decide) (Nat.le_of_ble_eq_true rfl) kj27 (fun _ _ h => h.elim)
      have e : vm4 (tg u1 x1) = 9999 := by unfold vm4; rw [if_neg c28, if_neg c29, if_neg c30, if_neg c31, if_neg c32]
      rw [e] at h
      exact (wpC_none h).elim
  have h : wpC p d (vm4 (tg w x1)) [ar x1] w _ := h
  by_cases c34 : tg w x1 = 26
  · have e : vm4 (tg w x1) = 184 := by rw [c34]; rfl
    rw [e] at h
    exact zv_callR (as := [ar x1]) (st := []) G M (zc_eV (C := zcn 26) G q2007 q1800 q1808 (Or.inl ⟨rfl, rfl⟩) q1809 md_X30_kind (zc_rc G (zne tw c34 (by decide)) c34 (by decide) (by decide) rfl) rfl dX10_holds_1) (S 184 _ rfl _ _ _ h (zoks_cons trivial zoks_nil)) (Or.inl ⟨rfl, rfl⟩) (zc_hk q1809 q186) (by decide) (Nat.le_of_ble_eq_true rfl) kj33 (fun _ _ h => h.elim)
  by_cases c35 : tg w x1 = 27
  · have e : vm4 (tg w x1) = 184 := by rw [c35]; rfl
    rw [e] at h
    exact zv_callR (as := [ar x1]) (st := []) G M (zc_eV (C := zcn 27) G q2007 q1800 q1807 (Or.inl ⟨rfl, rfl⟩) q1809 md_X30_kind (zc_rc G (zne tw c35 (by decide)) c35 (by decide) (by decide) rfl) rfl dX10_holds_1) (S 184 _ rfl _ _ _ h (zoks_cons trivial zoks_nil)) (Or.inl ⟨rfl, rfl⟩) (zc_hk q1809 q186) (by decide) (Nat.le_of_ble_eq_true rfl) kj33 (fun _ _ h => h.elim)
  by_cases c36 : tg w x1 = 28
  · have e : vm4 (tg w x1) = 184 := by rw [c36]; rfl
    rw [e] at h
    exact zv_callR (as := [ar x1]) (st := []) G M (zc_eV (C := zcn 28) G q2007 q1800 q1806 (Or.inl ⟨rfl, rfl⟩) q1809 md_X30_kind (zc_rc G (zne tw c36 (by decide)) c36 (by decide) (by decide) rfl) rfl dX10_holds_1) (S 184 _ rfl _ _ _ h (zoks_cons trivial zoks_nil)) (Or.inl ⟨rfl, rfl⟩) (zc_hk q1809 q186) (by decide) (Nat.le_of_ble_eq_true rfl) kj33 (fun _ _ h => h.elim)
  by_cases c37 : tg w x1 = 29
  · have e : vm4 (tg w x1) = 184 := by rw [c37]; rfl
    rw [e] at h
    exact zv_callR (as := [ar x1]) (st := []) G M (zc_eV (C := zcn 29) G q2007 q1800 q1805 (Or.inl ⟨rfl, rfl⟩) q1809 md_X30_kind (zc_rc G (zne tw c37 (by decide)) c37 (by decide) (by decide) rfl) rfl dX10_holds_1) (S 184 _ rfl _ _ _ h (zoks_cons trivial zoks_nil)) (Or.inl ⟨rfl, rfl⟩) (zc_hk q1809 q186) (by decide) (Nat.le_of_ble_eq_true rfl) kj33 (fun _ _ h => h.elim)
  by_cases c38 : tg w x1 = 30
  · have e : vm4 (tg w x1) = 200 := by rw [c38]; rfl
    rw [e] at h
    exact zv_callR (as := [ar x1]) (st := []) G M (zc_eU (C := zcn 30) G q2007 q1801 (zc_declC G q1800 q1809) ⟨by decide, by decide⟩ q1802 q1803 md_X30_kind (zc_rc G (zne tw c38 (by decide)) c38 (by decide) (by decide) rfl) rfl dX10_holds_1) (S 200 _ rfl _ _ _ h (zoks_cons trivial zoks_nil)) (Or.inl ⟨rfl, rfl⟩) (zc_hk q1804 q191) (by decide) (Nat.le_of_ble_eq_true rfl) kj33 (fun _ _ h => h.elim)
  have e : vm4 (tg w x1) = 9999 := by unfold vm4; rw [if_neg c34, if_neg c35, if_neg c36, if_neg c37, if_neg c38]
  rw [e] at h
  exact (wpC_none h).elim
set_option maxHeartbeats 4000000 in
set_option maxRecDepth 100000 in
theorem cpC_X11_init_0 {Γ : ZG CW} {D : CD} {d p : Nat} (hp : D.K.1 = p) (G : ZOk Γ cX11_init RX11 2 (KnC D) (ZC D)) (M : ZRm Γ (d + 1) D.lim (Option.none : Option Jvm.ClassFile.FieldType) "<init>" []) (S : SdC d D p Γ.l) (hl : Γ.l.stackTraces = false) (hk : 0 ≤ d) {x0 : Nat} {x1 : Nat} {w : CW} (h : pC_X11_init_0 p (wpC p d) (fun w => Γ.Q (.inl none) w) x0 x1 w) : ZV Γ w 0 [(0, ar x0), (1, ar x1)] [] := by
  refine zc_wk G hp (fun hw tw => ?_)
  refine zv_aload_n G rfl rfl dX11_init_0 ?_
  have o5 := h.1
  have h := h.2
  refine zv_callV (as := [ar x0]) (st := []) G M (zc_eIN G rfl q955 q864 q865 md_X6_init o5 rfl dX11_init_1) (S 91 _ rfl _ _ _ h (zoks_cons trivial zoks_nil)) (Or.inl ⟨rfl, rfl⟩) (zc_hk q865 q162) (by decide) (Nat.le_of_ble_eq_true rfl) (fun u1 h => ?_) (fun _ _ h => h.elim)
  refine zc_wk G hp (fun hu1 tu1 => ?_)
  refine zv_aload_n G rfl rfl dX11_init_4 ?_
  refine zv_aload_n G rfl rfl dX11_init_5 ?_
  have o4 := h.1
  have h := h.2
  refine zc_putR (f := 73) G M o4 rfl q956 (Or.inl rfl) (Or.inr ⟨rfl, rfl, rfl⟩) (zfty_73) (Or.inr ⟨_, rfl⟩) rfl dX11_init_6 (fun u3 eu3 => ?_)
  have h := h u3 eu3
  refine zc_wk G hp (fun hu3 tu3 => ?_)
  exact zv_vret G M dX11_init_9 h
set_option maxHeartbeats 4000000 in
set_option maxRecDepth 100000 in
theorem cpC_X11_ways_44 {Γ : ZG CW} {D : CD} {d p : Nat} (hp : D.K.1 = p) (G : ZOk Γ cX11_ways RX11 6 (KnC D) (ZC D)) (M : ZRm Γ (d + 1) D.lim (Option.some Jvm.ClassFile.FieldType.int) "ways" []) (S : SdC d D p Γ.l) (hl : Γ.l.stackTraces = false) (hk : 0 ≤ d) {x1 : Int} {w : CW} (rx1 : zr x1) (h : pC_X11_ways_44 p (wpC p d) (fun v w => Γ.Q (.inl (some (ai v))) w) x1 w) : ZV Γ w 44 [(1, ai x1)] [] := by
  refine zc_wk G hp (fun hw tw => ?_)
  refine zv_iload_n G rfl rfl dX11_ways_44 ?_
  exact zv_iret (ty := .int) rx1 G M rfl dX11_ways_45 h
set_option maxHeartbeats 4000000 in
set_option maxRecDepth 100000 in
theorem cpC_X11_ways_13 {Γ : ZG CW} {D : CD} {d p : Nat} (hp : D.K.1 = p) (G : ZOk Γ cX11_ways RX11 6 (KnC D) (ZC D)) (M : ZRm Γ (d + 1) D.lim (Option.some Jvm.ClassFile.FieldType.int) "ways" []) (S : SdC d D p Γ.l) (hl : Γ.l.stackTraces = false) (hk : 0 ≤ d) {x1 : Int} {x2 : Nat} {x3 : Int} {x4 : Int} {w : CW} (rx1 : zr x1) (rx3 : zr x3) (rx4 : zr x4) (h : pC_X11_ways_13 p (wpC p d) (fun v w => Γ.Q (.inl (some (ai v))) w) x1 x2 x3 x4 w) : ZV Γ w 13 [(1, ai x1), (2, ar x2), (3, ai x3), (4, ai x4)] [] := by
  obtain ⟨I13, eI13⟩ : ∃ I : Int → Int → CW → Prop, I = (fun x1 x4 w => zr x1 → zr x4 → ZV Γ w 13 [(1, ai x1), (2, ar x2), (3, ai x3), (4, ai x4)] []) := ⟨_, rfl⟩
  have hI13 : ∀ (x1 : Int) (x4 : Int) (w : CW), I13 x1 x4 w → zr x1 → zr x4 → ZV Γ w 13 [(1, ai x1), (2, ar x2), (3, ai x3), (4, ai x4)] [] := by subst eI13; exact fun _ _ _ z => z
  have hJ13 : ∀ (x1 : Int) (x4 : Int) (w : CW), (zr x1 → zr x4 → ZV Γ w 13 [(1, ai x1), (2, ar x2), (3, ai x3), (4, ai x4)] []) → I13 x1 x4 w := by subst eI13; exact fun _ _ _ z => z
  refine hI13 x1 x4 w (h I13 (fun x1 x4 w h => hJ13 x1 x4 w (fun rx1 rx4 => ?_))) rx1 rx4
  refine zc_wk G hp (fun hw tw => ?_)
  refine zv_iload G rfl dX11_ways_13 ?_
  refine zv_iload_n G rfl rfl dX11_ways_15 ?_
  refine zv_icmp_ge (tgt := 44) G rx4 rx3 (by decide) dX11_ways_16 (fun c5 => ?_) (fun c5 => ?_)
  · have h := h.1 c5
    exact zv_pick [1] rfl (cpC_X11_ways_44 hp G M S hl hk rx1 h)
  · have h := h.2 c5
    refine zv_aload_n G rfl rfl dX11_ways_19 ?_
    refine zv_iload G rfl dX11_ways_20 ?_
    have o6 := h.1
    have h := h.2
    refine zc_aald G o6.1 rx4 o6.2.1 o6.2.2 dX11_ways_22 ?_
    refine zv_astoreN G (by decide) dX11_ways_23 (fun x5_7 ex5_7 => ?_)
    have h := h x5_7 ex5_7
    refine zv_bipush (a := 41) G (by decide) dX11_ways_25 ?_
    refine zv_iload_n G rfl rfl dX11_ways_27 ?_
    refine zv_aload G rfl dX11_ways_28 ?_
    have kj12 : ∀ (v9 : Int) (u8 : CW), zr v9 → (
        ∀ x1_10 : Int, x1_10 = (if (w32 (x1 + v9)) < 41 then (w32 (x1 + v9)) else 41) →
        ∀ x4_11 : Int, x4_11 = w32 (x4 + 1) →
        I13 x1_10 x4_11 u8) → ZV Γ u8 33 [(5, ar x5_7), (1, ai x1), (2, ar x2), (3, ai x3), (4, ai x4)] [ai v9, ai x1, ai 41] := by
      intro v9 u8 rv9 h
      refine zc_wk G hp (fun hu8 tu8 => ?_)
      refine zv_iadd G dX11_ways_33 ?_
      refine zc_mmin G M q1079 q385 q153 q386 (zr_k 41 (by decide) (by decide)) (w32_r _) (Nat.le_of_ble_eq_true rfl) dX11_ways_34 ?_
      refine zv_istore_nN G rfl (by decide) dX11_ways_37 (fun x1_10 ex1_10 => ?_)
      have h := h x1_10 ex1_10
      have rx1_10 : zr x1_10 := by rw [ex1_10]; exact (zr_ite (w32_r _) (zr_k 41 (by decide) (by decide)))
      refine zv_iincN G rfl (by decide) dX11_ways_38 (fun x4_11 ex4_11 => ?_)
      have h := h x4_11 ex4_11
      have rx4_11 : zr x4_11 := by rw [ex4_11]; exact w32_r _
      refine zv_goto (tgt := 13) G (by decide) dX11_ways_41 ?_
      exact zv_pick [1, 2, 3, 4] rfl (hI13 _ _ _ h rx1_10 rx4_11)
    have h : wpC p d (vm0 (tg w x5_7)) [ar x5_7] w _ := h
    by_cases c13 : tg w x5_7 = 6
    · have e : vm0 (tg w x5_7) = 92 := by rw [c13]; rfl
      rw [e] at h
      exact zv_callI (as := [ar x5_7]) (st := [ai x1, ai 41]) G M (zc_eV (C := zcn 6) G q1075 q1069 q1071 (Or.inl ⟨rfl, rfl⟩) q1085 md_X6_ways (zc_rc G (zne tw c13 (by decide)) c13 (by decide) (by decide) rfl) rfl dX11_ways_30) (S 92 _ rfl _ _ _ h (zoks_cons trivial zoks_nil)) (Or.inl ⟨rfl, rfl⟩) (zc_hk q1085 q162) (by decide) (Nat.le_of_ble_eq_true rfl) kj12 (fun _ _ h => h.elim)
    by_cases c14 : tg w x5_7 = 7
    · have e : vm0 (tg w x5_7) = 92 := by rw [c14]; rfl
      rw [e] at h
      exact zv_callI (as := [ar x5_7]) (st := [ai x1, ai 41]) G M (zc_eV (C := zcn 7) G q1075 q1069 q1082 (Or.inl ⟨rfl, rfl⟩) q1085 md_X6_ways (zc_rc G (zne tw c14 (by decide)) c14 (by decide) (by decide) rfl) rfl dX11_ways_30) (S 92 _ rfl _ _ _ h (zoks_cons trivial zoks_nil)) (Or.inl ⟨rfl, rfl⟩) (zc_hk q1085 q162) (by decide) (Nat.le_of_ble_eq_true rfl) kj12 (fun _ _ h => h.elim)
    by_cases c15 : tg w x5_7 = 8
    · have e : vm0 (tg w x5_7) = 103 := by rw [c15]; rfl
      rw [e] at h
      exact zv_callI (as := [ar x5_7]) (st := [ai x1, ai 41]) G M (zc_eU (C := zcn 8) G q1075 q1070 (zc_declC G q1069 q1085) ⟨by decide, by decide⟩ q1080 q1076 md_X6_ways (zc_rc G (zne tw c15 (by decide)) c15 (by decide) (by decide) rfl) rfl dX11_ways_30) (S 103 _ rfl _ _ _ h (zoks_cons trivial zoks_nil)) (Or.inl ⟨rfl, rfl⟩) (zc_hk q1077 q166) (by decide) (Nat.le_of_ble_eq_true rfl) kj12 (fun _ _ h => h.elim)
    by_cases c16 : tg w x5_7 = 9
    · have e : vm0 (tg w x5_7) = 108 := by rw [c16]; rfl
      rw [e] at h
      exact zv_callI (as := [ar x5_7]) (st := [ai x1, ai 41]) G M (zc_eU (C := zcn 9) G q1075 q1070 (zc_declC G q1069 q1085) ⟨by decide, by decide⟩ q1072 q1073 md_X6_ways (zc_rc G (zne tw c16 (by decide)) c16 (by decide) (by decide) rfl) rfl dX11_ways_30) (S 108 _ rfl _ _ _ h (zoks_cons trivial zoks_nil)) (Or.inl ⟨rfl, rfl⟩) (zc_hk q1074 q167) (by decide) (Nat.le_of_ble_eq_true rfl) kj12 (fun _ _ h => h.elim)
    by_cases c17 : tg w x5_7 = 10
    · have e : vm0 (tg w x5_7) = 92 := by rw [c17]; rfl
      rw [e] at h
      exact zv_callI (as := [ar x5_7]) (st := [ai x1, ai 41]) G M (zc_eV (C := zcn 10) G q1075 q1069 q1084 (Or.inl ⟨rfl, rfl⟩) q1085 md_X6_ways (zc_rc G (zne tw c17 (by decide)) c17 (by decide) (by decide) rfl) rfl dX11_ways_30) (S 92 _ rfl _ _ _ h (zoks_cons trivial zoks_nil)) (Or.inl ⟨rfl, rfl⟩) (zc_hk q1085 q162) (by decide) (Nat.le_of_ble_eq_true rfl) kj12 (fun _ _ h => h.elim)
    by_cases c18 : tg w x5_7 = 11
    · have e : vm0 (tg w x5_7) = 92 := by rw [c18]; rfl
      rw [e] at h
      exact zv_callI (as := [ar x5_7]) (st := [ai x1, ai 41]) G M (zc_eV (C := zcn 11) G q1075 q1069 q1083 (Or.inl ⟨rfl, rfl⟩) q1085 md_X6_ways (zc_rc G (zne tw c18 (by decide)) c18 (by decide) (by decide) rfl) rfl dX11_ways_30) (S 92 _ rfl _ _ _ h (zoks_cons trivial zoks_nil)) (Or.inl ⟨rfl, rfl⟩) (zc_hk q1085 q162) (by decide) (Nat.le_of_ble_eq_true rfl) kj12 (fun _ _ h => h.elim)
    by_cases c19 : tg w x5_7 = 12
    · have e : vm0 (tg w x5_7) = 92 := by rw [c19]; rfl
      rw [e] at h
      exact zv_callI (as := [ar x5_7]) (st := [ai x1, ai 41]) G M (zc_eV (C := zcn 12) G q1075 q1069 q1081 (Or.inl ⟨rfl, rfl⟩) q1085 md_X6_ways (zc_rc G (zne tw c19 (by decide)) c19 (by decide) (by decide) rfl) rfl dX11_ways_30) (S 92 _ rfl _ _ _ h (zoks_cons trivial zoks_nil)) (Or.inl ⟨rfl, rfl⟩) (zc_hk q1085 q162) (by decide) (Nat.le_of_ble_eq_true rfl) kj12 (fun _ _ h => h.elim)
    have e : vm0 (tg w x5_7) = 9999 := by unfold vm0; rw [if_neg c13, if_neg c14, if_neg c15, if_neg c16, if_neg c17, if_neg c18, if_neg c19]
    rw [e] at h
    exact (wpC_none h).elim
set_option maxHeartbeats 4000000 in
set_option maxRecDepth 100000 in
theorem cpC_X11_ways_0 {Γ : ZG CW} {D : CD} {d p : Nat} (hp : D.K.1 = p) (G : ZOk Γ cX11_ways RX11 6 (KnC D) (ZC D)) (M : ZRm Γ (d + 1) D.lim (Option.some Jvm.ClassFile.FieldType.int) "ways" []) (S : SdC d D p Γ.l) (hl : Γ.l.stackTraces = false) (hk : 0 ≤ d) {x0 : Nat} {w : CW} (h : pC_X11_ways_0 p (wpC p d) (fun v w => Γ.Q (.inl (some (ai v))) w) x0 w) : ZV Γ w 0 [(0, ar x0)] [] := by
  refine zc_wk G hp (fun hw tw => ?_)
  refine zv_iconst (a := 0) G (by decide) dX11_ways_0 ?_
  refine zv_istore_n G rfl (by decide) rfl dX11_ways_1 ?_
  refine zv_aload_n G rfl rfl dX11_ways_2 ?_
  have o1 := h.1
  have h := h.2
  refine zc_get (f := 73) (v := ar (fR w 73 x0)) G o1 rfl q956 (Or.inl rfl) (cV_R rfl) dX11_ways_3 ?_
  refine zv_astore_nN G rfl (by decide) dX11_ways_6 (fun x2_2 ex2_2 => ?_)
  have h := h x2_2 ex2_2
  refine zv_aload_n G rfl rfl dX11_ways_7 ?_
  have o3 := h.1
  have h := h.2
  refine zc_alen G o3 dX11_ways_8 ?_
  refine zv_istore_nN G rfl (by decide) dX11_ways_9 (fun x3_4 ex3_4 => ?_)
  have h := h x3_4 ex3_4
  have rx3_4 : zr x3_4 := by rw [ex3_4]; exact (zc_lnr hw _)
  refine zv_iconst (a := 0) G (by decide) dX11_ways_10 ?_
  refine zv_istore G (by decide) rfl dX11_ways_11 ?_
  exact zv_pick [1, 2, 3, 4] rfl (cpC_X11_ways_13 hp G M S hl hk (zr_k 0 (by decide) (by decide)) rx3_4 (zr_k 0 (by decide) (by decide)) h)
set_option maxHeartbeats 4000000 in
set_option maxRecDepth 100000 in
theorem cpC_X11_row_42 {Γ : ZG CW} {D : CD} {d p : Nat} (hp : D.K.1 = p) (G : ZOk Γ cX11_row RX11 7 (KnC D) (ZC D)) (M : ZRm Γ (d + 1) D.lim (Option.none : Option Jvm.ClassFile.FieldType) "row" []) (S : SdC d D p Γ.l) (hl : Γ.l.stackTraces = false) (hk : 0 ≤ d) {x0 : Nat} {x1 : Int} {x2 : Nat} {x3 : Nat} {x4 : Nat} {x5 : Int} {x6 : Int} {w : CW} (rx1 : zr x1) (rx5 : zr x5) (rx6 : zr x6) (h : pC_X11_row_42 p (wpC p d) (fun w => Γ.Q (.inl none) w) x0 x1 x2 x3 x4 x5 x6 w) : ZV Γ w 42 [(0, ar x0), (1, ai x1), (2, ar x2), (3, ar x3), (4, ar x4), (5, ai x5), (6, ai x6)] [] := by
  refine zc_wk G hp (fun hw tw => ?_)
  refine zv_aload_n G rfl rfl dX11_row_42 ?_
  have o6 := h.1
  have h := h.2
  refine zc_get (f := 73) (v := ar (fR w 73 x0)) G o6 rfl q956 (Or.inl rfl) (cV_R rfl) dX11_row_43 ?_
  refine zv_iload G rfl dX11_row_46 ?_
  have o7 := h.1
  have h := h.2
  refine zc_aald G o7.1 rx6 o7.2.1 o7.2.2 dX11_row_48 ?_
  refine zv_iload G rfl dX11_row_49 ?_
  refine zv_aload_n G rfl rfl dX11_row_51 ?_
  refine zv_aload_n G rfl rfl dX11_row_52 ?_
  refine zv_aload G rfl dX11_row_53 ?_
  have kj13 : ∀ u8 : CW, (
      (1 ≤ tg u8 x0 ∧ tg u8 x0 ≤ 35) ∧
      (wpC p d) 93 [ar x0, ai x1, ar x2, ar x3, ar x4] u8 (zqV (fun u10 =>
        (fun w => Γ.Q (.inl none) w) u10) zno)) → ZV Γ u8 58 [(0, ar x0), (1, ai x1), (2, ar x2), (3, ar x3), (4, ar x4), (5, ai x5), (6, ai x6)] [] := by
    intro u8 h
    refine zc_wk G hp (fun hu8 tu8 => ?_)
    refine zv_aload_n G rfl rfl dX11_row_58 ?_
    refine zv_iload_n G rfl rfl dX11_row_59 ?_
    refine zv_aload_n G rfl rfl dX11_row_60 ?_
    refine zv_aload_n G rfl rfl dX11_row_61 ?_
    refine zv_aload G rfl dX11_row_62 ?_
    have o12 := h.1
    have h := h.2
    refine zv_callV (as := [ar x0, ai x1, ar x2, ar x3, ar x4]) (st := []) G M (zc_eSU G q1172 q1167 q960 q1166 (Or.inl ⟨rfl, rfl⟩) q1194 (by decide) md_X6_row (zc_rc G (zne tu8 rfl o12.1) rfl o12.1 o12.2 rfl) rfl dX11_row_64) (S 93 _ rfl _ _ _ h (zoks_cons trivial (zoks_cons rx1 (zoks_cons trivial (zoks_cons trivial (zoks_cons trivial zoks_nil)))))) (Or.inl ⟨rfl, rfl⟩) (zc_hk q1194 q162) (by decide) (Nat.le_of_ble_eq_true rfl) (fun u10 h => ?_) (fun _ _ h => h.elim)
    refine zc_wk G hp (fun hu10 tu10 => ?_)
    exact zv_vret G M dX11_row_67 h
  have h : wpC p d (vm10 (tg w (aR w (fR w 73 x0) x6))) [ar (aR w (fR w 73 x0) x6), ai x5, ar x2, ar x3, ar x4] w _ := h
  by_cases c14 : tg w (aR w (fR w 73 x0) x6) = 6
  · have e : vm10 (tg w (aR w (fR w 73 x0) x6)) = 93 := by rw [c14]; rfl
    rw [e] at h
    exact zv_callV (as := [ar (aR w (fR w 73 x0) x6), ai x5, ar x2, ar x3, ar x4]) (st := []) G M (zc_eV (C := zcn 6) G q1172 q1166 q1168 (Or.inl ⟨rfl, rfl⟩) q1194 md_X6_row (zc_rc G (zne tw c14 (by decide)) c14 (by decide) (by decide) rfl) rfl dX11_row_55) (S 93 _ rfl _ _ _ h (zoks_cons trivial (zoks_cons rx5 (zoks_cons trivial (zoks_cons trivial (zoks_cons trivial zoks_nil)))))) (Or.inl ⟨rfl, rfl⟩) (zc_hk q1194 q162) (by decide) (Nat.le_of_ble_eq_true rfl) kj13 (fun _ _ h => h.elim)
  by_cases c15 : tg w (aR w (fR w 73 x0) x6) = 7
  · have e : vm10 (tg w (aR w (fR w 73 x0) x6)) = 98 := by rw [c15]; rfl
    rw [e] at h
    exact zv_callV (as := [ar (aR w (fR w 73 x0) x6), ai x5, ar x2, ar x3, ar x4]) (st := []) G M (zc_eU (C := zcn 7) G q1172 q1167 (zc_declC G q1166 q1194) ⟨by decide, by decide⟩ q1191 q1176 md_X6_row (zc_rc G (zne tw c15 (by decide)) c15 (by decide) (by decide) rfl) rfl dX11_row_55) (S 98 _ rfl _ _ _ h (zoks_cons trivial (zoks_cons rx5 (zoks_cons trivial (zoks_cons trivial (zoks_cons trivial zoks_nil)))))) (Or.inl ⟨rfl, rfl⟩) (zc_hk q1177 q164) (by decide) (Nat.le_of_ble_eq_true rfl) kj13 (fun _ _ h => h.elim)
  by_cases c16 : tg w (aR w (fR w 73 x0) x6) = 8
  · have e : vm10 (tg w (aR w (fR w 73 x0) x6)) = 104 := by rw [c16]; rfl
    rw [e] at h
    exact zv_callV (as := [ar (aR w (fR w 73 x0) x6), ai x5, ar x2, ar x3, ar x4]) (st := []) G M (zc_eU (C := zcn 8) G q1172 q1167 (zc_declC G q1166 q1194) ⟨by decide, by decide⟩ q1189 q1173 md_X6_row (zc_rc G (zne tw c16 (by decide)) c16 (by decide) (by decide) rfl) rfl dX11_row_55) (S 104 _ rfl _ _ _ h (zoks_cons trivial (zoks_cons rx5 (zoks_cons trivial (zoks_cons trivial (zoks_cons trivial zoks_nil)))))) (Or.inl ⟨rfl, rfl⟩) (zc_hk q1174 q166) (by decide) (Nat.le_of_ble_eq_true rfl) kj13 (fun _ _ h => h.elim)
  by_cases c17 : tg w (aR w (fR w 73 x0) x6) = 9
  · have e : vm10 (tg w (aR w (fR w 73 x0) x6)) = 109 := by rw [c17]; rfl
    rw [e] at h
    exact zv_callV (as := [ar (aR w (fR w 73 x0) x6), ai x5, ar x2, ar x3, ar x4]) (st := []) G M (zc_eU (C := zcn 9) G q1172 q1167 (zc_declC G q1166 q1194) ⟨by decide, by decide⟩ q1169 q1170 md_X6_row (zc_rc G (zne tw c17 (by decide)) c17 (by decide) (by decide) rfl) rfl dX11_row_55) (S 109 _ rfl _ _ _ h (zoks_cons trivial (zoks_cons rx5 (zoks_cons trivial (zoks_cons trivial (zoks_cons trivial zoks_nil)))))) (Or.inl ⟨rfl, rfl⟩) (zc_hk q1171 q167) (by decide) (Nat.le_of_ble_eq_true rfl) kj13 (fun _ _ h => h.elim)
  by_cases c18 : tg w (aR w (fR w 73 x0) x6) = 10
  · have e : vm10 (tg w (aR w (fR w 73 x0) x6)) = 98 := by rw [c18]; rfl
    rw [e] at h
    exact zv_callV (as := [ar (aR w (fR w 73 x0) x6), ai x5, ar x2, ar x3, ar x4]) (st := []) G M (zc_eU (C := zcn 10) G q1172 q1167 (zc_declC G q1166 q1194) ⟨by decide, by decide⟩ q1193 q1176 md_X6_row (zc_rc G (zne tw c18 (by decide)) c18 (by decide) (by decide) rfl) rfl dX11_row_55) (S 98 _ rfl _ _ _ h (zoks_cons trivial (zoks_cons rx5 (zoks_cons trivial (zoks_cons trivial (zoks_cons trivial zoks_nil)))))) (Or.inl ⟨rfl, rfl⟩) (zc_hk q1177 q164) (by decide) (Nat.le_of_ble_eq_true rfl) kj13 (fun _ _ h => h.elim)
  by_cases c19 : tg w (aR w (fR w 73 x0) x6) = 11
  · have e : vm10 (tg w (aR w (fR w 73 x0) x6)) = 98 := by rw [c19]; rfl
    rw [e] at h
    exact zv_callV (as := [ar (aR w (fR w 73 x0) x6), ai x5, ar x2, ar x3, ar x4]) (st := []) G M (zc_eU (C := zcn 11) G q1172 q1167 (zc_declC G q1166 q1194) ⟨by decide, by decide⟩ q1192 q1176 md_X6_row (zc_rc G (zne tw c19 (by decide)) c19 (by decide) (by decide) rfl) rfl dX11_row_55) (S 98 _ rfl _ _ _ h (zoks_cons trivial (zoks_cons rx5 (zoks_cons trivial (zoks_cons trivial (zoks_cons trivial zoks_nil)))))) (Or.inl ⟨rfl, rfl⟩) (zc_hk q1177 q164) (by decide) (Nat.le_of_ble_eq_true rfl) kj13 (fun _ _ h => h.elim)
  by_cases c20 : tg w (aR w (fR w 73 x0) x6) = 12
  · have e : vm10 (tg w (aR w (fR w 73 x0) x6)) = 98 := by rw [c20]; rfl
    rw [e] at h
    exact zv_callV (as := [ar (aR w (fR w 73 x0) x6), ai x5, ar x2, ar x3, ar x4]) (st := []) G M (zc_eU (C := zcn 12) G q1172 q1167 (zc_declC G q1166 q1194) ⟨by decide, by decide⟩ q1190 q1176 md_X6_row (zc_rc G (zne tw c20 (by decide)) c20 (by decide) (by decide) rfl) rfl dX11_row_55) (S 98 _ rfl _ _ _ h (zoks_cons trivial (zoks_cons rx5 (zoks_cons trivial (zoks_cons trivial (zoks_cons trivial zoks_nil)))))) (Or.inl ⟨rfl, rfl⟩) (zc_hk q1177 q164) (by decide) (Nat.le_of_ble_eq_true rfl) kj13 (fun _ _ h => h.elim)
  have e : vm10 (tg w (aR w (fR w 73 x0) x6)) = 9999 := by unfold vm10; rw [if_neg c14, if_neg c15, if_neg c16, if_neg c17, if_neg c18, if_neg c19, if_neg c20]
  rw [e] at h
  exact (wpC_none h).elim
set_option maxHeartbeats 4000000 in
set_option maxRecDepth 100000 in
theorem cpC_X11_row_6 {Γ : ZG CW} {D : CD} {d p : Nat} (hp : D.K.1 = p) (G : ZOk Γ cX11_row RX11 7 (KnC D) (ZC D)) (M : ZRm Γ (d + 1) D.lim (Option.none : Option Jvm.ClassFile.FieldType) "row" []) (S : SdC d D p Γ.l) (hl : Γ.l.stackTraces = false) (hk : 0 ≤ d) {x0 : Nat} {x1 : Int} {x2 : Nat} {x3 : Nat} {x4 : Nat} {x5 : Int} {x6 : Int} {w : CW} (rx1 : zr x1) (rx5 : zr x5) (rx6 : zr x6) (h : pC_X11_row_6 p (wpC p d) (fun w => Γ.Q (.inl none) w) x0 x1 x2 x3 x4 x5 x6 w) : ZV Γ w 6 [(0, ar x0), (1, ai x1), (2, ar x2), (3, ar x3), (4, ar x4), (5, ai x5), (6, ai x6)] [] := by
  obtain ⟨I6, eI6⟩ : ∃ I : Int → Int → CW → Prop, I = (fun x5 x6 w => zr x5 → zr x6 → ZV Γ w 6 [(0, ar x0), (1, ai x1), (2, ar x2), (3, ar x3), (4, ar x4), (5, ai x5), (6, ai x6)] []) := ⟨_, rfl⟩
  have hI6 : ∀ (x5 : Int) (x6 : Int) (w : CW), I6 x5 x6 w → zr x5 → zr x6 → ZV Γ w 6 [(0, ar x0), (1, ai x1), (2, ar x2), (3, ar x3), (4, ar x4), (5, ai x5), (6, ai x6)] [] := by subst eI6; exact fun _ _ _ z => z
  have hJ6 : ∀ (x5 : Int) (x6 : Int) (w : CW), (zr x5 → zr x6 → ZV Γ w 6 [(0, ar x0), (1, ai x1), (2, ar x2), (3, ar x3), (4, ar x4), (5, ai x5), (6, ai x6)] []) → I6 x5 x6 w := by subst eI6; exact fun _ _ _ z => z
  refine hI6 x5 x6 w (h I6 (fun x5 x6 w h => hJ6 x5 x6 w (fun rx5 rx6 => ?_))) rx5 rx6
  refine zc_wk G hp (fun hw tw => ?_)
  refine zv_iload G rfl dX11_row_6 ?_
  refine zv_aload_n G rfl rfl dX11_row_8 ?_
  have o1 := h.1
  have h := h.2
  refine zc_get (f := 73) (v := ar (fR w 73 x0)) G o1 rfl q956 (Or.inl rfl) (cV_R rfl) dX11_row_9 ?_
  refine zv_iload G rfl dX11_row_12 ?_
  have o2 := h.1
  have h := h.2
  refine zc_aald G o2.1 rx6 o2.2.1 o2.2.2 dX11_row_14 ?_
  have kj35 : ∀ (v4 : Int) (u3 : CW), zr v4 → (
      (x5 < v4 →
        pC_X11_row_42 p (wpC p d) (fun w => Γ.Q (.inl none) w) x0 x1 x2 x3 x4 x5 x6 u3) ∧
      (¬ (x5 < v4) →
        (hF 73 (tg u3 x0) = true) ∧
        ((111 ≤ tg u3 (fR u3 73 x0) ∧ tg u3 (fR u3 73 x0) ≤ 119) ∧ 0 ≤ x6 ∧ x6 < ln u3 (fR u3 73 x0)) ∧
        (wpC p d) (vm0 (tg u3 (aR u3 (fR u3 73 x0) x6))) [ar (aR u3 (fR u3 73 x0) x6)] u3 (zqI (fun v24 u23 =>
          ∀ x5_25 : Int, x5_25 = w32 (x5 - v24) →
          ∀ x6_26 : Int, x6_26 = w32 (x6 + 1) →
          I6 x5_25 x6_26 u23) zno))) → ZV Γ u3 18 [(0, ar x0), (1, ai x1), (2, ar x2), (3, ar x3), (4, ar x4), (5, ai x5), (6, ai x6)] [ai v4, ai x5] := by
    intro v4 u3 rv4 h
    refine zc_wk G hp (fun hu3 tu3 => ?_)
    refine zv_icmp_lt (tgt := 42) G rx5 rv4 (by decide) dX11_row_18 (fun c5 => ?_) (fun c5 => ?_)
    · have h := h.1 c5
      exact zv_pick [0, 1, 2, 3, 4, 5, 6] rfl (cpC_X11_row_42 hp G M S hl hk rx1 rx5 rx6 h)
    · have h := h.2 c5
      refine zv_iload G rfl dX11_row_21 ?_
      refine zv_aload_n G rfl rfl dX11_row_23 ?_
      have o21 := h.1
      have h := h.2
      refine zc_get (f := 73) (v := ar (fR u3 73 x0)) G o21 rfl q956 (Or.inl rfl) (cV_R rfl) dX11_row_24 ?_
      refine zv_iload G rfl dX11_row_27 ?_
      have o22 := h.1
      have h := h.2
      refine zc_aald G o22.1 rx6 o22.2.1 o22.2.2 dX11_row_29 ?_
      have kj27 : ∀ (v24 : Int) (u23 : CW), zr v24 → (
          ∀ x5_25 : Int, x5_25 = w32 (x5 - v24) →
          ∀ x6_26 : Int, x6_26 = w32 (x6 + 1) →
          I6 x5_25 x6_26 u23) → ZV Γ u23 33 [(0, ar x0), (1, ai x1), (2, ar x2), (3, ar x3), (4, ar x4), (5, ai x5), (6, ai x6)] [ai v24, ai x5] := by
        intro v24 u23 rv24 h
        refine zc_wk G hp (fun hu23 tu23 => ?_)
        refine zv_isub G dX11_row_33 ?_
        refine zv_istoreN G (by decide) dX11_row_34 (fun x5_25 ex5_25 => ?_)
        have h := h x5_25 ex5_25
        have rx5_25 : zr x5_25 := by rw [ex5_25]; exact (w32_r _)
        refine zv_iincN G rfl (by decide) dX11_row_36 (fun x6_26 ex6_26 => ?_)
        have h := h x6_26 ex6_26
        have rx6_26 : zr x6_26 := by rw [ex6_26]; exact w32_r _
        refine zv_goto (tgt := 6) G (by decide) dX11_row_39 ?_
        exact zv_pick [0, 1, 2, 3, 4, 5, 6] rfl (hI6 _ _ _ h rx5_25 rx6_26)
      have h : wpC p d (vm0 (tg u3 (aR u3 (fR u3 73 x0) x6))) [ar (aR u3 (fR u3 73 x0) x6)] u3 _ := h
      by_cases c28 : tg u3 (aR u3 (fR u3 73 x0) x6) = 6
      · have e : vm0 (tg u3 (aR u3 (fR u3 73 x0) x6)) = 92 := by rw [c28]; rfl
        rw [e] at h
        exact zv_callI (as := [ar (aR u3 (fR u3 73 x0) x6)]) (st := [ai x5]) G M (zc_eV (C := zcn 6) G q1075 q1069 q1071 (Or.inl ⟨rfl, rfl⟩) q1085 md_X6_ways (zc_rc G (zne tu3 c28 (by decide)) c28 (by decide) (by decide) rfl) rfl dX11_row_30) (S 92 _ rfl _ _ _ h (zoks_cons trivial zoks_nil)) (Or.inl ⟨rfl, rfl⟩) (zc_hk q1085 q162) (by decide) (Nat.le_of_ble_eq_true rfl) kj27 (fun _ _ h => h.elim)
      by_cases c29 : tg u3 (aR u3 (fR u3 73 x0) x6) = 7
      · have e : vm0 (tg u3 (aR u3 (fR u3 73 x0) x6)) = 92 := by rw [c29]; rfl
        rw [e] at h
        exact zv_callI (as := [ar (aR u3 (fR u3 73 x0) x6)]) (st := [ai x5]) G M (zc_eV (C := zcn 7) G q1075 q1069 q1082 (Or.inl ⟨rfl, rfl⟩) q1085 md_X6_ways (zc_rc G (zne tu3 c29 (by decide)) c29 (by decide) (by decide) rfl) rfl dX11_row_30) (S 92 _ rfl _ _ _ h (zoks_cons trivial zoks_nil)) (Or.inl ⟨rfl, rfl⟩) (zc_hk q1085 q162) (by decide) (Nat.le_of_ble_eq_true rfl) kj27 (fun _ _ h => h.elim)
      by_cases c30 : tg u3 (aR u3 (fR u3 73 x0) x6) = 8
      · have e : vm0 (tg u3 (aR u3 (fR u3 73 x0) x6)) = 103 := by rw [c30]; rfl
        rw [e] at h
        exact zv_callI (as := [ar (aR u3 (fR u3 73 x0) x6)]) (st := [ai x5]) G M (zc_eU (C := zcn 8) G q1075 q1070 (zc_declC G q1069 q1085) ⟨by decide, by decide⟩ q1080 q1076 md_X6_ways (zc_rc G (zne tu3 c30 (by decide)) c30 (by decide) (by decide) rfl) rfl dX11_row_30) (S 103 _ rfl _ _ _ h (zoks_cons trivial zoks_nil)) (Or.inl ⟨rfl, rfl⟩) (zc_hk q1077 q166) (by decide) (Nat.le_of_ble_eq_true rfl) kj27 (fun _ _ h => h.elim)
      by_cases c31 : tg u3 (aR u3 (fR u3 73 x0) x6) = 9
      · have e : vm0 (tg u3 (aR u3 (fR u3 73 x0) x6)) = 108 := by rw [c31]; rfl
        rw [e] at h
        exact zv_callI (as := [ar (aR u3 (fR u3 73 x0) x6)]) (st := [ai x5]) G M (zc_eU (C := zcn 9) G q1075 q1070 (zc_declC G q1069 q1085) ⟨by decide, by decide⟩ q1072 q1073 md_X6_ways (zc_rc G (zne tu3 c31 (by decide)) c31 (by decide) (by decide) rfl) rfl dX11_row_30) (S 108 _ rfl _ _ _ h (zoks_cons trivial zoks_nil)) (Or.inl ⟨rfl, rfl⟩) (zc_hk q1074 q167) (by decide) (Nat.le_of_ble_eq_true rfl) kj27 (fun _ _ h => h.elim)
      by_cases c32 : tg u3 (aR u3 (fR u3 73 x0) x6) = 10
      · have e : vm0 (tg u3 (aR u3 (fR u3 73 x0) x6)) = 92 := by rw [c32]; rfl
        rw [e] at h
        exact zv_callI (as := [ar (aR u3 (fR u3 73 x0) x6)]) (st := [ai x5]) G M (zc_eV (C := zcn 10) G q1075 q1069 q1084 (Or.inl ⟨rfl, rfl⟩) q1085 md_X6_ways (zc_rc G (zne tu3 c32 (by decide)) c32 (by decide) (by decide) rfl) rfl dX11_row_30) (S 92 _ rfl _ _ _ h (zoks_cons trivial zoks_nil)) (Or.inl ⟨rfl, rfl⟩) (zc_hk q1085 q162) (by decide) (Nat.le_of_ble_eq_true rfl) kj27 (fun _ _ h => h.elim)
      by_cases c33 : tg u3 (aR u3 (fR u3 73 x0) x6) = 11
      · have e : vm0 (tg u3 (aR u3 (fR u3 73 x0) x6)) = 92 := by rw [c33]; rfl
        rw [e] at h
        exact zv_callI (as := [ar (aR u3 (fR u3 73 x0) x6)]) (st := [ai x5]) G M (zc_eV (C := zcn 11) G q1075 q1069 q1083 (Or.inl ⟨rfl, rfl⟩) q1085 md_X6_ways (zc_rc G (zne tu3 c33 (by decide)) c33 (by decide) (by decide) rfl) rfl dX11_row_30) (S 92 _ rfl _ _ _ h (zoks_cons trivial zoks_nil)) (Or.inl ⟨rfl, rfl⟩) (zc_hk q1085 q162) (by decide) (Nat.le_of_ble_eq_true rfl) kj27 (fun _ _ h => h.elim)
      by_cases c34 : tg u3 (aR u3 (fR u3 73 x0) x6) = 12
      · have e : vm0 (tg u3 (aR u3 (fR u3 73 x0) x6)) = 92 := by rw [c34]; rfl
        rw [e] at h
        exact zv_callI (as := [ar (aR u3 (fR u3 73 x0) x6)]) (st := [ai x5]) G M (zc_eV (C := zcn 12) G q1075 q1069 q1081 (Or.inl ⟨rfl, rfl⟩) q1085 md_X6_ways (zc_rc G (zne tu3 c34 (by decide)) c34 (by decide) (by decide) rfl) rfl dX11_row_30) (S 92 _ rfl _ _ _ h (zoks_cons trivial zoks_nil)) (Or.inl ⟨rfl, rfl⟩) (zc_hk q1085 q162) (by decide) (Nat.le_of_ble_eq_true rfl) kj27 (fun _ _ h => h.elim)
      have e : vm0 (tg u3 (aR u3 (fR u3 73 x0) x6)) = 9999 := by unfold vm0; rw [if_neg c28, if_neg c29, if_neg c30, if_neg c31, if_neg c32, if_neg c33, if_neg c34]
      rw [e] at h
      exact (wpC_none h).elim
  have h : wpC p d (vm0 (tg w (aR w (fR w 73 x0) x6))) [ar (aR w (fR w 73 x0) x6)] w _ := h
  by_cases c36 : tg w (aR w (fR w 73 x0) x6) = 6
  · have e : vm0 (tg w (aR w (fR w 73 x0) x6)) = 92 := by rw [c36]; rfl
    rw [e] at h
    exact zv_callI (as := [ar (aR w (fR w 73 x0) x6)]) (st := [ai x5]) G M (zc_eV (C := zcn 6) G q1075 q1069 q1071 (Or.inl ⟨rfl, rfl⟩) q1085 md_X6_ways (zc_rc G (zne tw c36 (by decide)) c36 (by decide) (by decide) rfl) rfl dX11_row_15) (S 92 _ rfl _ _ _ h (zoks_cons trivial zoks_nil)) (Or.inl ⟨rfl, rfl⟩) (zc_hk q1085 q162) (by decide) (Nat.le_of_ble_eq_true rfl) kj35 (fun _ _ h => h.elim)
  by_cases c37 : tg w (aR w (fR w 73 x0) x6) = 7
  · have e : vm0 (tg w (aR w (fR w 73 x0) x6)) = 92 := by rw [c37]; rfl
    rw [e] at h
    exact zv_callI (as := [ar (aR w (fR w 73 x0) x6)]) (st := [ai x5]) G M (zc_eV (C := zcn 7) G q1075 q1069 q1082 (Or.inl ⟨rfl, rfl⟩) q1085 md_X6_ways (zc_rc G (zne tw c37 (by decide)) c37 (by decide) (by decide) rfl) rfl dX11_row_15) (S 92 _ rfl _ _ _ h (zoks_cons trivial zoks_nil)) (Or.inl ⟨rfl, rfl⟩) (zc_hk q1085 q162) (by decide) (Nat.le_of_ble_eq_true rfl) kj35 (fun _ _ h => h.elim)
  by_cases c38 : tg w (aR w (fR w 73 x0) x6) = 8
  · have e : vm0 (tg w (aR w (fR w 73 x0) x6)) = 103 := by rw [c38]; rfl
    rw [e] at h
    exact zv_callI (as := [ar (aR w (fR w 73 x0) x6)]) (st := [ai x5]) G M (zc_eU (C := zcn 8) G q1075 q1070 (zc_declC G q1069 q1085) ⟨by decide, by decide⟩ q1080 q1076 md_X6_ways (zc_rc G (zne tw c38 (by decide)) c38 (by decide) (by decide) rfl) rfl dX11_row_15) (S 103 _ rfl _ _ _ h (zoks_cons trivial zoks_nil)) (Or.inl ⟨rfl, rfl⟩) (zc_hk q1077 q166) (by decide) (Nat.le_of_ble_eq_true rfl) kj35 (fun _ _ h => h.elim)
  by_cases c39 : tg w (aR w (fR w 73 x0) x6) = 9
  · have e : vm0 (tg w (aR w (fR w 73 x0) x6)) = 108 := by rw [c39]; rfl
    rw [e] at h
    exact zv_callI (as := [ar (aR w (fR w 73 x0) x6)]) (st := [ai x5]) G M (zc_eU (C := zcn 9) G q1075 q1070 (zc_declC G q1069 q1085) ⟨by decide, by decide⟩ q1072 q1073 md_X6_ways (zc_rc G (zne tw c39 (by decide)) c39 (by decide) (by decide) rfl) rfl dX11_row_15) (S 108 _ rfl _ _ _ h (zoks_cons trivial zoks_nil)) (Or.inl ⟨rfl, rfl⟩) (zc_hk q1074 q167) (by decide) (Nat.le_of_ble_eq_true rfl) kj35 (fun _ _ h => h.elim)
  by_cases c40 : tg w (aR w (fR w 73 x0) x6) = 10
  · have e : vm0 (tg w (aR w (fR w 73 x0) x6)) = 92 := by rw [c40]; rfl
    rw [e] at h
    exact zv_callI (as := [ar (aR w (fR w 73 x0) x6)]) (st := [ai x5]) G M (zc_eV (C := zcn 10) G q1075 q1069 q1084 (Or.inl ⟨rfl, rfl⟩) q1085 md_X6_ways (zc_rc G (zne tw c40 (by decide)) c40 (by decide) (by decide) rfl) rfl dX11_row_15) (S 92 _ rfl _ _ _ h (zoks_cons trivial zoks_nil)) (Or.inl ⟨rfl, rfl⟩) (zc_hk q1085 q162) (by decide) (Nat.le_of_ble_eq_true rfl) kj35 (fun _ _ h => h.elim)
  by_cases c41 : tg w (aR w (fR w 73 x0) x6) = 11
  · have e : vm0 (tg w (aR w (fR w 73 x0) x6)) = 92 := by rw [c41]; rfl
    rw [e] at h
    exact zv_callI (as := [ar (aR w (fR w 73 x0) x6)]) (st := [ai x5]) G M (zc_eV (C := zcn 11) G q1075 q1069 q1083 (Or.inl ⟨rfl, rfl⟩) q1085 md_X6_ways (zc_rc G (zne tw c41 (by decide)) c41 (by decide) (by decide) rfl) rfl dX11_row_15) (S 92 _ rfl _ _ _ h (zoks_cons trivial zoks_nil)) (Or.inl ⟨rfl, rfl⟩) (zc_hk q1085 q162) (by decide) (Nat.le_of_ble_eq_true rfl) kj35 (fun _ _ h => h.elim)
  by_cases c42 : tg w (aR w (fR w 73 x0) x6) = 12
  · have e : vm0 (tg w (aR w (fR w 73 x0) x6)) = 92 := by rw [c42]; rfl
    rw [e] at h
    exact zv_callI (as := [ar (aR w (fR w 73 x0) x6)]) (st := [ai x5]) G M (zc_eV (C := zcn 12) G q1075 q1069 q1081 (Or.inl ⟨rfl, rfl⟩) q1085 md_X6_ways (zc_rc G (zne tw c42 (by decide)) c42 (by decide) (by decide) rfl) rfl dX11_row_15) (S 92 _ rfl _ _ _ h (zoks_cons trivial zoks_nil)) (Or.inl ⟨rfl, rfl⟩) (zc_hk q1085 q162) (by decide) (Nat.le_of_ble_eq_true rfl) kj35 (fun _ _ h => h.elim)
  have e : vm0 (tg w (aR w (fR w 73 x0) x6)) = 9999 := by unfold vm0; rw [if_neg c36, if_neg c37, if_neg c38, if_neg c39, if_neg c40, if_neg c41, if_neg c42]
  rw [e] at h
  exact (wpC_none h).elim
set_option maxHeartbeats 4000000 in
set_option maxRecDepth 100000 in
theorem cpC_X11_row_0 {Γ : ZG CW} {D : CD} {d p : Nat} (hp : D.K.1 = p) (G : ZOk Γ cX11_row RX11 7 (KnC D) (ZC D)) (M : ZRm Γ (d + 1) D.lim (Option.none : Option Jvm.ClassFile.FieldType) "row" []) (S : SdC d D p Γ.l) (hl : Γ.l.stackTraces = false) (hk : 0 ≤ d) {x0 : Nat} {x1 : Int} {x2 : Nat} {x3 : Nat} {x4 : Nat} {w : CW} (rx1 : zr x1) (h : pC_X11_row_0 p (wpC p d) (fun w => Γ.Q (.inl none) w) x0 x1 x2 x3 x4 w) : ZV Γ w 0 [(0, ar x0), (1, ai x1), (2, ar x2), (3, ar x3), (4, ar x4)] [] := by
  refine zc_wk G hp (fun hw tw => ?_)
  refine zv_iload_n G rfl rfl dX11_row_0 ?_
  refine zv_istore G (by decide) rfl dX11_row_1 ?_
  refine zv_iconst (a := 0) G (by decide) dX11_row_3 ?_
  refine zv_istore G (by decide) rfl dX11_row_4 ?_
  exact zv_pick [0, 1, 2, 3, 4, 5, 6] rfl (cpC_X11_row_6 hp G M S hl hk rx1 rx1 (zr_k 0 (by decide) (by decide)) h)
set_option maxHeartbeats 4000000 in
set_option maxRecDepth 100000 in
theorem cpC_X11_holds_38 {Γ : ZG CW} {D : CD} {d p : Nat} (hp : D.K.1 = p) (G : ZOk Γ cX11_holds RX11 5 (KnC D) (ZC D)) (M : ZRm Γ (d + 1) D.lim (Option.some Jvm.ClassFile.FieldType.boolean) "holds" []) (S : SdC d D p Γ.l) (hl : Γ.l.stackTraces = false) (hk : 0 ≤ d) {x3 : Int} {w : CW} (rx3 : zr x3) (h : pC_X11_holds_38 p (wpC p d) (fun v w => Γ.Q (.inl (some (ai v))) w) x3 w) : ZV Γ w 38 [(3, ai x3)] [] := by
  refine zc_wk G hp (fun hw tw => ?_)
  refine zv_iload_n G rfl rfl dX11_holds_38 ?_
  exact zv_iret (ty := .boolean) rx3 G M (zn_Z h.1) dX11_holds_39 h.2
set_option maxHeartbeats 4000000 in
set_option maxRecDepth 100000 in
theorem cpC_X11_holds_5 {Γ : ZG CW} {D : CD} {d p : Nat} (hp : D.K.1 = p) (G : ZOk Γ cX11_holds RX11 5 (KnC D) (ZC D)) (M : ZRm Γ (d + 1) D.lim (Option.some Jvm.ClassFile.FieldType.boolean) "holds" []) (S : SdC d D p Γ.l) (hl : Γ.l.stackTraces = false) (hk : 0 ≤ d) {x0 : Nat} {x1 : Nat} {x2 : Nat} {x3 : Int} {x4 : Int} {w : CW} (rx3 : zr x3) (rx4 : zr x4) (h : pC_X11_holds_5 p (wpC p d) (fun v w => Γ.Q (.inl (some (ai v))) w) x0 x1 x2 x3 x4 w) : ZV Γ w 5 [(0, ar x0), (1, ar x1), (2, ar x2), (3, ai x3), (4, ai x4)] [] := by
  obtain ⟨I5, eI5⟩ : ∃ I : Int → Int → CW → Prop, I = (fun x3 x4 w => zr x3 → zr x4 → ZV Γ w 5 [(0, ar x0), (1, ar x1), (2, ar x2), (3, ai x3), (4, ai x4)] []) := ⟨_, rfl⟩
  have hI5 : ∀ (x3 : Int) (x4 : Int) (w : CW), I5 x3 x4 w → zr x3 → zr x4 → ZV Γ w 5 [(0, ar x0), (1, ar x1), (2, ar x2), (3, ai x3), (4, ai x4)] [] := by subst eI5; exact fun _ _ _ z => z
  have hJ5 : ∀ (x3 : Int) (x4 : Int) (w : CW), (zr x3 → zr x4 → ZV Γ w 5 [(0, ar x0), (1, ar x1), (2, ar x2), (3, ai x3), (4, ai x4)] []) → I5 x3 x4 w := by subst eI5; exact fun _ _ _ z => z
  refine hI5 x3 x4 w (h I5 (fun x3 x4 w h => hJ5 x3 x4 w (fun rx3 rx4 => ?_))) rx3 rx4
  refine zc_wk G hp (fun hw tw => ?_)
  refine zv_iload_n G rfl rfl dX11_holds_5 ?_
  have o1 := h.1
  have h := h.2
  have kt9 : (x3 = 0) ∧ (¬ (((ln w (fR w 73 x0) : Nat) : Int) ≤ x4)) → ZV Γ w 19 [(0, ar x0), (1, ar x1), (2, ar x2), (3, ai x3), (4, ai x4)] [] := by
    intro c11
    have h := h.1 c11
    refine zv_aload_n G rfl rfl dX11_holds_19 ?_
    have o2 := h.1
    have h := h.2
    refine zc_get (f := 73) (v := ar (fR w 73 x0)) G o2 rfl q956 (Or.inl rfl) (cV_R rfl) dX11_holds_20 ?_
    refine zv_iload G rfl dX11_holds_23 ?_
    have o3 := h.1
    have h := h.2
    refine zc_aald G o3.1 rx4 o3.2.1 o3.2.2 dX11_holds_25 ?_
    refine zv_aload_n G rfl rfl dX11_holds_26 ?_
    refine zv_aload_n G rfl rfl dX11_holds_27 ?_
    have o7 := h.1
    have h := h.2
    have en8 : ZEn Γ w 28 [(0, ar x0), (1, ar x1), (2, ar x2), (3, ai x3), (4, ai x4)] yX6_fits 3 [ar (aR w (fR w 73 x0) x4), ar x1, ar x2] [] := by
      rcases o7 with z | z | z | z | z | z | z
      · exact (zc_eV (C := zcn 6) G q2003 q1984 q1986 (Or.inl ⟨rfl, rfl⟩) q1993 md_X6_fits (zc_rc G (zne tw z (by decide)) z (by decide) (by decide) rfl) rfl dX11_holds_28)
      · exact (zc_eV (C := zcn 7) G q2003 q1984 q1990 (Or.inl ⟨rfl, rfl⟩) q1993 md_X6_fits (zc_rc G (zne tw z (by decide)) z (by decide) (by decide) rfl) rfl dX11_holds_28)
      · exact (zc_eV (C := zcn 8) G q2003 q1984 q1988 (Or.inl ⟨rfl, rfl⟩) q1993 md_X6_fits (zc_rc G (zne tw z (by decide)) z (by decide) (by decide) rfl) rfl dX11_holds_28)
      · exact (zc_eV (C := zcn 9) G q2003 q1984 q1987 (Or.inl ⟨rfl, rfl⟩) q1993 md_X6_fits (zc_rc G (zne tw z (by decide)) z (by decide) (by decide) rfl) rfl dX11_holds_28)
      · exact (zc_eV (C := zcn 10) G q2003 q1984 q1992 (Or.inl ⟨rfl, rfl⟩) q1993 md_X6_fits (zc_rc G (zne tw z (by decide)) z (by decide) (by decide) rfl) rfl dX11_holds_28)
      · exact (zc_eV (C := zcn 11) G q2003 q1984 q1991 (Or.inl ⟨rfl, rfl⟩) q1993 md_X6_fits (zc_rc G (zne tw z (by decide)) z (by decide) (by decide) rfl) rfl dX11_holds_28)
      · exact (zc_eV (C := zcn 12) G q2003 q1984 q1989 (Or.inl ⟨rfl, rfl⟩) q1993 md_X6_fits (zc_rc G (zne tw z (by decide)) z (by decide) (by decide) rfl) rfl dX11_holds_28)
    refine zv_callI (as := [ar (aR w (fR w 73 x0) x4), ar x1, ar x2]) (st := []) G M en8 (S 94 _ rfl _ _ _ h (zoks_cons trivial (zoks_cons trivial (zoks_cons trivial zoks_nil)))) (Or.inl ⟨rfl, rfl⟩) (zc_hk q1993 q162) (by decide) (Nat.le_of_ble_eq_true rfl) (fun v5 u4 rv5 h => ?_) (fun _ _ h => h.elim)
    refine zc_wk G hp (fun hu4 tu4 => ?_)
    refine zv_istore_n G rfl (by decide) rfl dX11_holds_31 ?_
    refine zv_iincN G rfl (by decide) dX11_holds_32 (fun x4_6 ex4_6 => ?_)
    have h := h x4_6 ex4_6
    have rx4_6 : zr x4_6 := by rw [ex4_6]; exact w32_r _
    refine zv_goto (tgt := 5) G (by decide) dX11_holds_35 ?_
    exact zv_pick [0, 1, 2, 3, 4] rfl (hI5 _ _ _ h rv5 rx4_6)
  have kf10 : ¬ ((x3 = 0) ∧ (¬ (((ln w (fR w 73 x0) : Nat) : Int) ≤ x4))) → ZV Γ w 38 [(0, ar x0), (1, ar x1), (2, ar x2), (3, ai x3), (4, ai x4)] [] := by
    intro c11
    have h := h.2 c11
    exact zv_pick [3] rfl (cpC_X11_holds_38 hp G M S hl hk rx3 h)
  refine zv_if_ne (tgt := 38) G rx3 (by decide) dX11_holds_6 (fun c12 => ?_) (fun c12 => ?_)
  · exact kf10 (fun q => c12 q.1)
  · refine zv_iload G rfl dX11_holds_9 ?_
    refine zv_aload_n G rfl rfl dX11_holds_11 ?_
    refine zc_get (f := 73) (v := ar (fR w 73 x0)) G (o1 c12).1 rfl q956 (Or.inl rfl) (cV_R rfl) dX11_holds_12 ?_
    refine zc_alen G (o1 c12).2 dX11_holds_15 ?_
    refine zv_icmp_ge (tgt := 38) G rx4 (zc_lnr hw _) (by decide) dX11_holds_16 (fun c13 => ?_) (fun c13 => ?_)
    · exact kf10 (fun q => (fun q => q c13) q.2)
    · exact kt9 ⟨c12, c13⟩
set_option maxHeartbeats 4000000 in
set_option maxRecDepth 100000 in
theorem cpC_X11_holds_0 {Γ : ZG CW} {D : CD} {d p : Nat} (hp : D.K.1 = p) (G : ZOk Γ cX11_holds RX11 5 (KnC D) (ZC D)) (M : ZRm Γ (d + 1) D.lim (Option.some Jvm.ClassFile.FieldType.boolean) "holds" []) (S : SdC d D p Γ.l) (hl : Γ.l.stackTraces = false) (hk : 0 ≤ d) {x0 : Nat} {x1 : Nat} {x2 : Nat} {w : CW} (h : pC_X11_holds_0 p (wpC p d) (fun v w => Γ.Q (.inl (some (ai v))) w) x0 x1 x2 w) : ZV Γ w 0 [(0, ar x0), (1, ar x1), (2, ar x2)] [] := by
  refine zc_wk G hp (fun hw tw => ?_)
  refine zv_iconst (a := 0) G (by decide) dX11_holds_0 ?_
  refine zv_istore_n G rfl (by decide) rfl dX11_holds_1 ?_
  refine zv_iconst (a := 0) G (by decide) dX11_holds_2 ?_
  refine zv_istore G (by decide) rfl dX11_holds_3 ?_
  exact zv_pick [0, 1, 2, 3, 4] rfl (cpC_X11_holds_5 hp G M S hl hk (zr_k 0 (by decide) (by decide)) (zr_k 0 (by decide) (by decide)) h)
set_option maxHeartbeats 4000000 in
set_option maxRecDepth 100000 in
theorem cpC_X12_init_0 {Γ : ZG CW} {D : CD} {d p : Nat} (hp : D.K.1 = p) (G : ZOk Γ cX12_init RX12 3 (KnC D) (ZC D)) (M : ZRm Γ (d + 1) D.lim (Option.none : Option Jvm.ClassFile.FieldType) "<init>" []) (S : SdC d D p Γ.l) (hl : Γ.l.stackTraces = false) (hk : 0 ≤ d) {x0 : Nat} {x1 : Int} {w : CW} (rx1 : zrl x1) (h : pC_X12_init_0 p (wpC p d) (fun w => Γ.Q (.inl none) w) x0 x1 w) : ZV Γ w 0 [(0, ar x0), (1, al x1)] [] := by
  refine zc_wk G hp (fun hw tw => ?_)
  refine zv_aload_n G rfl rfl dX12_init_0 ?_
  have o5 := h.1
  have h := h.2
  refine zv_callV (as := [ar x0]) (st := []) G M (zc_eIN G rfl q966 q903 q904 md_X8_init o5 rfl dX12_init_1) (S 97 _ rfl _ _ _ h (zoks_cons trivial zoks_nil)) (Or.inl ⟨rfl, rfl⟩) (zc_hk q904 q164) (by decide) (Nat.le_of_ble_eq_true rfl) (fun u1 h => ?_) (fun _ _ h => h.elim)
  refine zc_wk G hp (fun hu1 tu1 => ?_)
  refine zv_aload_n G rfl rfl dX12_init_4 ?_
  refine zv_lload_n G rfl rfl dX12_init_5 ?_
  have o4 := h.1
  have h := h.2
  refine zc_putL (f := 74) G M o4 rfl q967 (Or.inl rfl) (Or.inr ⟨rfl, rfl, rfl⟩) (zfty_74) rfl rfl rfl rx1 dX12_init_6 (fun u3 eu3 => ?_)
  have h := h u3 eu3
  refine zc_wk G hp (fun hu3 tu3 => ?_)
  exact zv_vret G M dX12_init_9 h
set_option maxHeartbeats 4000000 in
set_option maxRecDepth 100000 in
theorem cpC_X12_by_0 {Γ : ZG CW} {D : CD} {d p : Nat} (hp : D.K.1 = p) (G : ZOk Γ cX12_by RX12 3 (KnC D) (ZC D)) (M : ZRm Γ (d + 1) D.lim (Option.some Jvm.ClassFile.FieldType.int) "by" []) (S : SdC d D p Γ.l) (hl : Γ.l.stackTraces = false) (hk : 0 ≤ d) {x0 : Nat} {x1 : Nat} {x2 : Nat} {w : CW} (h : pC_X12_by_0 p (wpC p d) (fun v w => Γ.Q (.inl (some (ai v))) w) x0 x1 x2 w) : ZV Γ w 0 [(0, ar x0), (1, ar x1), (2, ar x2)] [] := by
  refine zc_wk G hp (fun hw tw => ?_)
  refine zv_aload_n G rfl rfl dX12_by_0 ?_
  have o1 := h.1
  have h := h.2
  refine zc_get (f := 98) (v := ar (fR w 98 x1)) G o1 rfl q1223 (Or.inl rfl) (cV_R rfl) dX12_by_1 ?_
  refine zv_aload_n G rfl rfl dX12_by_4 ?_
  have o2 := h.1
  have h := h.2
  refine zc_get (f := 89) (v := ai (fI w 89 x2)) G o2 rfl q1147 (Or.inl rfl) (cV_I (by decide) (by decide)) dX12_by_5 ?_
  have o3 := h.1
  have h := h.2
  refine zc_ialdN G o3.1 (hw.i 89 _ (by decide)) o3.2.1 o3.2.2 dX12_by_8 ?_
  refine zv_iconst (a := 1) G (by decide) dX12_by_9 ?_
  refine zv_icmp_ne (tgt := 36) G (aN_r hw _ _) (zr_k 1 (by decide) (by decide)) (by decide) dX12_by_10 (fun c4 => ?_) (fun c4 => ?_)
  · have h := h.2 c4
    refine zv_aload_n G rfl rfl dX12_by_36 ?_
    refine zv_aload_n G rfl rfl dX12_by_37 ?_
    refine zv_aload_n G rfl rfl dX12_by_38 ?_
    have o5 := h.1
    have h := h.2
    refine zc_get (f := 74) (v := al (fI w 74 x0)) G o5 rfl q967 (Or.inl rfl) (cV_L rfl) dX12_by_39 ?_
    have o11 := h.1
    have h := h.2
    refine zv_callI (as := [ar x1, ar x2, al (fI w 74 x0)]) (st := []) G M (zc_eV (C := zcn 17) G q1313 q1314 q1315 (Or.inl ⟨rfl, rfl⟩) q1316 md_X19_isOut (zc_rc G (zne tw o11 (by decide)) o11 (by decide) (by decide) rfl) rfl dX12_by_42) (S 150 _ rfl _ _ _ h (zoks_cons trivial (zoks_cons trivial (zoks_cons (hw.l 74 _ (by decide)) zoks_nil)))) (Or.inl ⟨rfl, rfl⟩) (zc_hk q1316 q175) (by decide) (Nat.le_of_ble_eq_true rfl) (fun v7 u6 rv7 h => ?_) (fun _ _ h => h.elim)
    refine zc_wk G hp (fun hu6 tu6 => ?_)
    have kj9 : ∀ v8 : Int, v8 = (if ¬ (v7 = 0) then (-1) else 0) → ZV Γ u6 53 [(0, ar x0), (1, ar x1), (2, ar x2)] (ai v8 :: []) := by
      intro v8 ev8
      have h := h v8 ev8
      have rv8 : zr v8 := by rw [ev8]; exact (zr_ite (zr_k (-1) (by decide) (by decide)) (zr_k 0 (by decide) (by decide)))
      exact zv_iret (ty := .int) rv8 G M rfl dX12_by_53 h
    refine zv_if_eq (tgt := 52) G rv7 (by decide) dX12_by_45 (fun c10 => ?_) (fun c10 => ?_)
    · refine zv_iconst (a := 0) G (by decide) dX12_by_52 ?_
      exact kj9 _ (if_neg (fun q => q c10)).symm
    · refine zv_iconst (a := (-1)) G (by decide) dX12_by_48 ?_
      refine zv_goto (tgt := 53) G (by decide) dX12_by_49 ?_
      exact kj9 _ (if_pos c10).symm
  · have h := h.1 c4
    refine zv_aload_n G rfl rfl dX12_by_13 ?_
    have o12 := h.1
    have h := h.2
    refine zc_get (f := 100) (v := ar (fR w 100 x1)) G o12 rfl q1230 (Or.inl rfl) (cV_R rfl) dX12_by_14 ?_
    refine zv_aload_n G rfl rfl dX12_by_17 ?_
    have o13 := h.1
    have h := h.2
    refine zc_get (f := 89) (v := ai (fI w 89 x2)) G o13 rfl q1147 (Or.inl rfl) (cV_I (by decide) (by decide)) dX12_by_18 ?_
    have o14 := h.1
    have h := h.2
    refine zc_laldN G o14.1 (hw.i 89 _ (by decide)) o14.2.1 o14.2.2 dX12_by_21 ?_
    refine zv_aload_n G rfl rfl dX12_by_22 ?_
    have o15 := h.1
    have h := h.2
    refine zc_get (f := 74) (v := al (fI w 74 x0)) G o15 rfl q967 (Or.inl rfl) (cV_L rfl) dX12_by_23 ?_
    refine zv_lcmp G (aW_r hw _ _) (hw.l 74 _ (by decide)) dX12_by_26 ?_
    have kj17 : ∀ v16 : Int, v16 = (if (aW w (fR w 100 x1) (fI w 89 x2)) = (fI w 74 x0) then 1 else (-1)) → ZV Γ w 35 [(0, ar x0), (1, ar x1), (2, ar x2)] (ai v16 :: []) := by
      intro v16 ev16
      have h := h v16 ev16
      have rv16 : zr v16 := by rw [ev16]; exact (zr_ite (zr_k 1 (by decide) (by decide)) (zr_k (-1) (by decide) (by decide)))
      exact zv_iret (ty := .int) rv16 G M rfl dX12_by_35 h
    refine zv_lif_ne (tgt := 34) G (by decide) dX12_by_27 (fun c18 => ?_) (fun c18 => ?_)
    · refine zv_iconst (a := (-1)) G (by decide) dX12_by_34 ?_
      exact kj17 _ (if_neg c18).symm
    · refine zv_iconst (a := 1) G (by decide) dX12_by_30 ?_
      refine zv_goto (tgt := 35) G (by decide) dX12_by_31 ?_
      exact kj17 _ (if_pos c18).symm
set_option maxHeartbeats 4000000 in
set_option maxRecDepth 100000 in
theorem cpC_X12_holds_0 {Γ : ZG CW} {D : CD} {d p : Nat} (hp : D.K.1 = p) (G : ZOk Γ cX12_holds RX12 3 (KnC D) (ZC D)) (M : ZRm Γ (d + 1) D.lim (Option.some Jvm.ClassFile.FieldType.boolean) "holds" []) (S : SdC d D p Γ.l) (hl : Γ.l.stackTraces = false) (hk : 0 ≤ d) {x0 : Nat} {x1 : Nat} {w : CW} (h : pC_X12_holds_0 p (wpC p d) (fun v w => Γ.Q (.inl (some (ai v))) w) x0 x1 w) : ZV Γ w 0 [(0, ar x0), (1, ar x1)] [] := by
  refine zc_wk G hp (fun hw tw => ?_)
  refine zv_aload_n G rfl rfl dX12_holds_0 ?_
  have o1 := h.1
  have h := h.2
  refine zc_cast G q2026 o1 dX12_holds_1 ?_
  have o2 := h.1
  have h := h.2
  refine zc_get (f := 116) (v := al (fI w 116 x1)) G o2 rfl q1747 (Or.inl rfl) (cV_L rfl) dX12_holds_4 ?_
  refine zv_aload_n G rfl rfl dX12_holds_7 ?_
  have o3 := h.1
  have h := h.2
  refine zc_get (f := 74) (v := al (fI w 74 x0)) G o3 rfl q967 (Or.inl rfl) (cV_L rfl) dX12_holds_8 ?_
  refine zv_lcmp G (hw.l 116 _ (by decide)) (hw.l 74 _ (by decide)) dX12_holds_11 ?_
  have kj5 : ∀ v4 : Int, v4 = (if (fI w 116 x1) = (fI w 74 x0) then 1 else 0) → ZV Γ w 20 [(0, ar x0), (1, ar x1)] (ai v4 :: []) := by
    intro v4 ev4
    have h := h v4 ev4
    have rv4 : zr v4 := by rw [ev4]; exact (zr_ite (zr_k 1 (by decide) (by decide)) (zr_k 0 (by decide) (by decide)))
    have bv4 : v4 = 0 ∨ v4 = 1 := by rw [ev4]; exact (zb_ite (Or.inr rfl) (Or.inl rfl))
    exact zv_iret (ty := .boolean) rv4 G M (zn_Z bv4) dX12_holds_20 h
  refine zv_lif_ne (tgt := 19) G (by decide) dX12_holds_12 (fun c6 => ?_) (fun c6 => ?_)
  · refine zv_iconst (a := 0) G (by decide) dX12_holds_19 ?_
    exact kj5 _ (if_neg c6).symm
  · refine zv_iconst (a := 1) G (by decide) dX12_holds_15 ?_
    refine zv_goto (tgt := 20) G (by decide) dX12_holds_16 ?_
    exact kj5 _ (if_pos c6).symm
set_option maxHeartbeats 4000000 in
set_option maxRecDepth 100000 in
theorem cpC_X13_init_0 {Γ : ZG CW} {D : CD} {d p : Nat} (hp : D.K.1 = p) (G : ZOk Γ cX13_init RX13 2 (KnC D) (ZC D)) (M : ZRm Γ (d + 1) D.lim (Option.none : Option Jvm.ClassFile.FieldType) "<init>" []) (S : SdC d D p Γ.l) (hl : Γ.l.stackTraces = false) (hk : 0 ≤ d) {x0 : Nat} {x1 : Int} {w : CW} (rx1 : zr x1) (h : pC_X13_init_0 p (wpC p d) (fun w => Γ.Q (.inl none) w) x0 x1 w) : ZV Γ w 0 [(0, ar x0), (1, ai x1)] [] := by
  refine zc_wk G hp (fun hw tw => ?_)
  refine zv_aload_n G rfl rfl dX13_init_0 ?_
  have o6 := h.1
  have h := h.2
  refine zv_callV (as := [ar x0]) (st := []) G M (zc_eIN G rfl q980 q903 q904 md_X8_init o6 rfl dX13_init_1) (S 97 _ rfl _ _ _ h (zoks_cons trivial zoks_nil)) (Or.inl ⟨rfl, rfl⟩) (zc_hk q904 q164) (by decide) (Nat.le_of_ble_eq_true rfl) (fun u1 h => ?_) (fun _ _ h => h.elim)
  refine zc_wk G hp (fun hu1 tu1 => ?_)
  refine zv_aload_n G rfl rfl dX13_init_4 ?_
  refine zv_iload_n G rfl rfl dX13_init_5 ?_
  have o4 := h.1
  have h := h.2
  have o5 := h.1
  have h := h.2
  refine zc_putI (f := 75) G M o4 rfl q981 (Or.inl rfl) (Or.inr ⟨rfl, rfl, rfl⟩) (zfty_75) (zn_Z o5) (zf_Z o5) (by decide) (by decide) rx1 dX13_init_6 (fun u3 eu3 => ?_)
  have h := h u3 eu3
  refine zc_wk G hp (fun hu3 tu3 => ?_)
  exact zv_vret G M dX13_init_9 h
set_option maxHeartbeats 4000000 in
set_option maxRecDepth 100000 in
theorem cpC_X13_by_39 {Γ : ZG CW} {D : CD} {d p : Nat} (hp : D.K.1 = p) (G : ZOk Γ cX13_by RX13 4 (KnC D) (ZC D)) (M : ZRm Γ (d + 1) D.lim (Option.some Jvm.ClassFile.FieldType.int) "by" []) (S : SdC d D p Γ.l) (hl : Γ.l.stackTraces = false) (hk : 0 ≤ d) {s0 : Int} {w : CW} (rs0 : zr s0) (h : pC_X13_by_39 p (wpC p d) (fun v w => Γ.Q (.inl (some (ai v))) w) s0 w) : ZV Γ w 39 [] [ai s0] := by
  refine zc_wk G hp (fun hw tw => ?_)
  exact zv_iret (ty := .int) rs0 G M rfl dX13_by_39 h
set_option maxHeartbeats 4000000 in
set_option maxRecDepth 100000 in
theorem cpC_X13_by_0 {Γ : ZG CW} {D : CD} {d p : Nat} (hp : D.K.1 = p) (G : ZOk Γ cX13_by RX13 4 (KnC D) (ZC D)) (M : ZRm Γ (d + 1) D.lim (Option.some Jvm.ClassFile.FieldType.int) "by" []) (S : SdC d D p Γ.l) (hl : Γ.l.stackTraces = false) (hk : 0 ≤ d) {x0 : Nat} {x1 : Nat} {x2 : Nat} {w : CW} (h : pC_X13_by_0 p (wpC p d) (fun v w => Γ.Q (.inl (some (ai v))) w) x0 x1 x2 w) : ZV Γ w 0 [(0, ar x0), (1, ar x1), (2, ar x2)] [] := by
  refine zc_wk G hp (fun hw tw => ?_)
  refine zv_aload_n G rfl rfl dX13_by_0 ?_
  have o1 := h.1
  have h := h.2
  refine zc_get (f := 98) (v := ar (fR w 98 x1)) G o1 rfl q1222 (Or.inl rfl) (cV_R rfl) dX13_by_1 ?_
  refine zv_aload_n G rfl rfl dX13_by_4 ?_
  have o2 := h.1
  have h := h.2
  refine zc_get (f := 89) (v := ai (fI w 89 x2)) G o2 rfl q1146 (Or.inl rfl) (cV_I (by decide) (by decide)) dX13_by_5 ?_
  have o3 := h.1
  have h := h.2
  refine zc_ialdN G o3.1 (hw.i 89 _ (by decide)) o3.2.1 o3.2.2 dX13_by_8 ?_
  refine zv_istore_nN G rfl (by decide) dX13_by_9 (fun x3_4 ex3_4 => ?_)
  have h := h x3_4 ex3_4
  have rx3_4 : zr x3_4 := by rw [ex3_4]; exact (aN_r hw _ _)
  refine zv_iload_n G rfl rfl dX13_by_10 ?_
  refine zv_if_ne (tgt := 18) G rx3_4 (by decide) dX13_by_11 (fun c5 => ?_) (fun c5 => ?_)
  · have h := h.2 c5
    refine zv_iload_n G rfl rfl dX13_by_18 ?_
    refine zv_aload_n G rfl rfl dX13_by_19 ?_
    have o6 := h.1
    have h := h.2
    refine zc_get (f := 75) (v := ai (fI w 75 x0)) G o6 rfl q981 (Or.inl rfl) (cV_I (by decide) (by decide)) dX13_by_20 ?_
    have kj9 : ∀ v7 : Int, v7 = (if (fI w 75 x0) = 0 then 1 else 2) → ZV Γ w 31 [(3, ai x3_4), (0, ar x0), (1, ar x1), (2, ar x2)] (ai v7 :: ai x3_4 :: []) := by
      intro v7 ev7
      have h := h v7 ev7
      have rv7 : zr v7 := by rw [ev7]; exact (zr_ite (zr_k 1 (by decide) (by decide)) (zr_k 2 (by decide) (by decide)))
      refine zv_icmp_ne (tgt := 38) G rx3_4 rv7 (by decide) dX13_by_31 (fun c8 => ?_) (fun c8 => ?_)
      · have h := h.2 c8
        refine zv_iconst (a := (-1)) G (by decide) dX13_by_38 ?_
        exact zv_pick [] rfl (cpC_X13_by_39 hp G M S hl hk (zr_k (-1) (by decide) (by decide)) h)
      · have h := h.1 c8
        refine zv_iconst (a := 1) G (by decide) dX13_by_34 ?_
        refine zv_goto (tgt := 39) G (by decide) dX13_by_35 ?_
        exact zv_pick [] rfl (cpC_X13_by_39 hp G M S hl hk (zr_k 1 (by decide) (by decide)) h)
    refine zv_if_eq (tgt := 30) G (hw.i 75 _ (by decide)) (by decide) dX13_by_23 (fun c10 => ?_) (fun c10 => ?_)
    · refine zv_iconst (a := 1) G (by decide) dX13_by_30 ?_
      exact kj9 _ (if_pos c10).symm
    · refine zv_iconst (a := 2) G (by decide) dX13_by_26 ?_
      refine zv_goto (tgt := 31) G (by decide) dX13_by_27 ?_
      exact kj9 _ (if_neg c10).symm
  · have h := h.1 c5
    refine zv_iconst (a := 0) G (by decide) dX13_by_14 ?_
    refine zv_goto (tgt := 39) G (by decide) dX13_by_15 ?_
    exact zv_pick [] rfl (cpC_X13_by_39 hp G M S hl hk (zr_k 0 (by decide) (by decide)) h)
set_option maxHeartbeats 4000000 in
set_option maxRecDepth 100000 in
theorem cpC_X13_holds_0 {Γ : ZG CW} {D : CD} {d p : Nat} (hp : D.K.1 = p) (G : ZOk Γ cX13_holds RX13 3 (KnC D) (ZC D)) (M : ZRm Γ (d + 1) D.lim (Option.some Jvm.ClassFile.FieldType.boolean) "holds" []) (S : SdC d D p Γ.l) (hl : Γ.l.stackTraces = false) (hk : 0 ≤ d) {x0 : Nat} {x1 : Nat} {w : CW} (h : pC_X13_holds_0 p (wpC p d) (fun v w => Γ.Q (.inl (some (ai v))) w) x0 x1 w) : ZV Γ w 0 [(0, ar x0), (1, ar x1)] [] := by
  refine zc_wk G hp (fun hw tw => ?_)
  refine zv_aload_n G rfl rfl dX13_holds_0 ?_
  have kj10 : ∀ (v2 : Int) (u1 : CW), zr v2 → (
      (hF 75 (tg u1 x0) = true) ∧
      ∀ v4 : Int, v4 = (if ¬ ((fI u1 75 x0) = 0) then 1 else 0) →
      ∀ v5 : Int, v5 = (if v2 = v4 then 1 else 0) →
      (fun v w => Γ.Q (.inl (some (ai v))) w) v5 u1) → ZV Γ u1 4 [(0, ar x0), (1, ar x1)] [ai v2] := by
    intro v2 u1 rv2 h
    refine zc_wk G hp (fun hu1 tu1 => ?_)
    refine zv_aload_n G rfl rfl dX13_holds_4 ?_
    have o3 := h.1
    have h := h.2
    refine zc_get (f := 75) (v := ai (fI u1 75 x0)) G o3 rfl q981 (Or.inl rfl) (cV_I (by decide) (by decide)) dX13_holds_5 ?_
    have kj8 : ∀ v4 : Int, v4 = (if ¬ ((fI u1 75 x0) = 0) then 1 else 0) → ZV Γ u1 16 [(0, ar x0), (1, ar x1)] (ai v4 :: ai v2 :: []) := by
      intro v4 ev4
      have h := h v4 ev4
      have rv4 : zr v4 := by rw [ev4]; exact (zr_ite (zr_k 1 (by decide) (by decide)) (zr_k 0 (by decide) (by decide)))
      have bv4 : v4 = 0 ∨ v4 = 1 := by rw [ev4]; exact (zb_ite (Or.inr rfl) (Or.inl rfl))
      have kj6 : ∀ v5 : Int, v5 = (if v2 = v4 then 1 else 0) → ZV Γ u1 24 [(0, ar x0), (1, ar x1)] (ai v5 :: []) := by
        intro v5 ev5
        have h := h v5 ev5
        have rv5 : zr v5 := by rw [ev5]; exact (zr_ite (zr_k 1 (by decide) (by decide)) (zr_k 0 (by decide) (by decide)))
        have bv5 : v5 = 0 ∨ v5 = 1 := by rw [ev5]; exact (zb_ite (Or.inr rfl) (Or.inl rfl))
        exact zv_iret (ty := .boolean) rv5 G M (zn_Z bv5) dX13_holds_24 h
      refine zv_icmp_ne (tgt := 23) G rv2 rv4 (by decide) dX13_holds_16 (fun c7 => ?_) (fun c7 => ?_)
      · refine zv_iconst (a := 0) G (by decide) dX13_holds_23 ?_
        exact kj6 _ (if_neg c7).symm
      · refine zv_iconst (a := 1) G (by decide) dX13_holds_19 ?_
        refine zv_goto (tgt := 24) G (by decide) dX13_holds_20 ?_
        exact kj6 _ (if_pos c7).symm
    refine zv_if_eq (tgt := 15) G (hu1.i 75 _ (by decide)) (by decide) dX13_holds_8 (fun c9 => ?_) (fun c9 => ?_)
    · refine zv_iconst (a := 0) G (by decide) dX13_holds_15 ?_
      exact kj8 _ (if_neg (fun q => q c9)).symm
    · refine zv_iconst (a := 1) G (by decide) dX13_holds_11 ?_
      refine zv_goto (tgt := 16) G (by decide) dX13_holds_12 ?_
      exact kj8 _ (if_pos c9).symm
  have h : wpC p d (vm6 (tg w x1)) [ar x1] w _ := h
  by_cases c11 : tg w x1 = 26
  · have e : vm6 (tg w x1) = 188 := by rw [c11]; rfl
    rw [e] at h
    exact zv_callI (as := [ar x1]) (st := []) G M (zc_eU (C := zcn 26) G q2022 q1835 (zc_declC G q1834 q1847) ⟨by decide, by decide⟩ q1846 q1844 md_X30_told (zc_rc G (zne tw c11 (by decide)) c11 (by decide) (by decide) rfl) rfl dX13_holds_1) (S 188 _ rfl _ _ _ h (zoks_cons trivial zoks_nil)) (Or.inl ⟨rfl, rfl⟩) (zc_hk q1845 q187) (by decide) (Nat.le_of_ble_eq_true rfl) kj10 (fun _ _ h => h.elim)
  by_cases c12 : tg w x1 = 27
  · have e : vm6 (tg w x1) = 188 := by rw [c12]; rfl
    rw [e] at h
    exact zv_callI (as := [ar x1]) (st := []) G M (zc_eU (C := zcn 27) G q2022 q1835 (zc_declC G q1834 q1847) ⟨by decide, by decide⟩ q1843 q1844 md_X30_told (zc_rc G (zne tw c12 (by decide)) c12 (by decide) (by decide) rfl) rfl dX13_holds_1) (S 188 _ rfl _ _ _ h (zoks_cons trivial zoks_nil)) (Or.inl ⟨rfl, rfl⟩) (zc_hk q1845 q187) (by decide) (Nat.le_of_ble_eq_true rfl) kj10 (fun _ _ h => h.elim)
  by_cases c13 : tg w x1 = 28
  · have e : vm6 (tg w x1) = 194 := by rw [c13]; rfl
    rw [e] at h
    exact zv_callI (as := [ar x1]) (st := []) G M (zc_eU (C := zcn 28) G q2022 q1835 (zc_declC G q1834 q1847) ⟨by decide, by decide⟩ q1840 q1841 md_X30_told (zc_rc G (zne tw c13 (by decide)) c13 (by decide) (by decide) rfl) rfl dX13_holds_1) (S 194 _ rfl _ _ _ h (zoks_cons trivial zoks_nil)) (Or.inl ⟨rfl, rfl⟩) (zc_hk q1842 q189) (by decide) (Nat.le_of_ble_eq_true rfl) kj10 (fun _ _ h => h.elim)
  by_cases c14 : tg w x1 = 29
  · have e : vm6 (tg w x1) = 185 := by rw [c14]; rfl
    rw [e] at h
    exact zv_callI (as := [ar x1]) (st := []) G M (zc_eV (C := zcn 29) G q2022 q1834 q1839 (Or.inl ⟨rfl, rfl⟩) q1847 md_X30_told (zc_rc G (zne tw c14 (by decide)) c14 (by decide) (by decide) rfl) rfl dX13_holds_1) (S 185 _ rfl _ _ _ h (zoks_cons trivial zoks_nil)) (Or.inl ⟨rfl, rfl⟩) (zc_hk q1847 q186) (by decide) (Nat.le_of_ble_eq_true rfl) kj10 (fun _ _ h => h.elim)
  by_cases c15 : tg w x1 = 30
  · have e : vm6 (tg w x1) = 202 := by rw [c15]; rfl
    rw [e] at h
    exact zv_callI (as := [ar x1]) (st := []) G M (zc_eU (C := zcn 30) G q2022 q1835 (zc_declC G q1834 q1847) ⟨by decide, by decide⟩ q1836 q1837 md_X30_told (zc_rc G (zne tw c15 (by decide)) c15 (by decide) (by decide) rfl) rfl dX13_holds_1) (S 202 _ rfl _ _ _ h (zoks_cons trivial zoks_nil)) (Or.inl ⟨rfl, rfl⟩) (zc_hk q1838 q191) (by decide) (Nat.le_of_ble_eq_true rfl) kj10 (fun _ _ h => h.elim)
  have e : vm6 (tg w x1) = 9999 := by unfold vm6; rw [if_neg c11, if_neg c12, if_neg c13, if_neg c14, if_neg c15]
  rw [e] at h
  exact (wpC_none h).elim
set_option maxHeartbeats 4000000 in
set_option maxRecDepth 100000 in
theorem cpC_X14_init_0 {Γ : ZG CW} {D : CD} {d p : Nat} (hp : D.K.1 = p) (G : ZOk Γ cX14_init RX14 1 (KnC D) (ZC D)) (M : ZRm Γ (d + 1) D.lim (Option.none : Option Jvm.ClassFile.FieldType) "<init>" []) (S : SdC d D p Γ.l) (hl : Γ.l.stackTraces = false) (hk : 0 ≤ d) {x0 : Nat} {w : CW} (h : pC_X14_init_0 p (wpC p d) (fun w => Γ.Q (.inl none) w) x0 w) : ZV Γ w 0 [(0, ar x0)] [] := by
  refine zc_wk G hp (fun hw tw => ?_)
  refine zv_aload_n G rfl rfl dX14_init_0 ?_
  have o3 := h.1
  have h := h.2
  refine zv_callV (as := [ar x0]) (st := []) G M (zc_eIN G rfl q992 q903 q904 md_X8_init o3 rfl dX14_init_1) (S 97 _ rfl _ _ _ h (zoks_cons trivial zoks_nil)) (Or.inl ⟨rfl, rfl⟩) (zc_hk q904 q164) (by decide) (Nat.le_of_ble_eq_true rfl) (fun u1 h => ?_) (fun _ _ h => h.elim)
  refine zc_wk G hp (fun hu1 tu1 => ?_)
  exact zv_vret G M dX14_init_4 h
set_option maxHeartbeats 4000000 in
set_option maxRecDepth 100000 in
theorem cpC_X14_by_0 {Γ : ZG CW} {D : CD} {d p : Nat} (hp : D.K.1 = p) (G : ZOk Γ cX14_by RX14 4 (KnC D) (ZC D)) (M : ZRm Γ (d + 1) D.lim (Option.some Jvm.ClassFile.FieldType.int) "by" []) (S : SdC d D p Γ.l) (hl : Γ.l.stackTraces = false) (hk : 0 ≤ d) {x1 : Nat} {x2 : Nat} {w : CW} (h : pC_X14_by_0 p (wpC p d) (fun v w => Γ.Q (.inl (some (ai v))) w) x1 x2 w) : ZV Γ w 0 [(1, ar x1), (2, ar x2)] [] := by
  refine zc_wk G hp (fun hw tw => ?_)
  refine zv_aload_n G rfl rfl dX14_by_0 ?_
  have o1 := h.1
  have h := h.2
  refine zc_get (f := 98) (v := ar (fR w 98 x1)) G o1 rfl q1221 (Or.inl rfl) (cV_R rfl) dX14_by_1 ?_
  refine zv_aload_n G rfl rfl dX14_by_4 ?_
  have o2 := h.1
  have h := h.2
  refine zc_get (f := 89) (v := ai (fI w 89 x2)) G o2 rfl q1144 (Or.inl rfl) (cV_I (by decide) (by decide)) dX14_by_5 ?_
  have o3 := h.1
  have h := h.2
  refine zc_ialdN G o3.1 (hw.i 89 _ (by decide)) o3.2.1 o3.2.2 dX14_by_8 ?_
  refine zv_istore_nN G rfl (by decide) dX14_by_9 (fun x3_4 ex3_4 => ?_)
  have h := h x3_4 ex3_4
  have rx3_4 : zr x3_4 := by rw [ex3_4]; exact (aN_r hw _ _)
  refine zv_iload_n G rfl rfl dX14_by_10 ?_
  have kj6 : ∀ v5 : Int, v5 = (if x3_4 = 0 then 0 else (if x3_4 = 1 then 1 else (-1))) → ZV Γ w 28 [(3, ai x3_4), (1, ar x1), (2, ar x2)] (ai v5 :: []) := by
    intro v5 ev5
    have h := h v5 ev5
    have rv5 : zr v5 := by rw [ev5]; exact (zr_ite (zr_k 0 (by decide) (by decide)) (zr_ite (zr_k 1 (by decide) (by decide)) (zr_k (-1) (by decide) (by decide))))
    exact zv_iret (ty := .int) rv5 G M rfl dX14_by_28 h
  refine zv_if_ne (tgt := 18) G rx3_4 (by decide) dX14_by_11 (fun c7 => ?_) (fun c7 => ?_)
  · refine zv_iload_n G rfl rfl dX14_by_18 ?_
    refine zv_iconst (a := 1) G (by decide) dX14_by_19 ?_
    refine zv_icmp_ne (tgt := 27) G rx3_4 (zr_k 1 (by decide) (by decide)) (by decide) dX14_by_20 (fun c8 => ?_) (fun c8 => ?_)
    · refine zv_iconst (a := (-1)) G (by decide) dX14_by_27 ?_
      exact kj6 _ (by rw [if_neg c7, if_neg c8])
    · refine zv_iconst (a := 1) G (by decide) dX14_by_23 ?_
      refine zv_goto (tgt := 28) G (by decide) dX14_by_24 ?_
      exact kj6 _ (by rw [if_neg c7, if_pos c8])
  · refine zv_iconst (a := 0) G (by decide) dX14_by_14 ?_
    refine zv_goto (tgt := 28) G (by decide) dX14_by_15 ?_
    exact kj6 _ (by rw [if_pos c7])
set_option maxHeartbeats 4000000 in
set_option maxRecDepth 100000 in
theorem cpC_X14_holds_0 {Γ : ZG CW} {D : CD} {d p : Nat} (hp : D.K.1 = p) (G : ZOk Γ cX14_holds RX14 3 (KnC D) (ZC D)) (M : ZRm Γ (d + 1) D.lim (Option.some Jvm.ClassFile.FieldType.boolean) "holds" []) (S : SdC d D p Γ.l) (hl : Γ.l.stackTraces = false) (hk : 0 ≤ d) {x1 : Nat} {w : CW} (h : pC_X14_holds_0 p (wpC p d) (fun v w => Γ.Q (.inl (some (ai v))) w) x1 w) : ZV Γ w 0 [(1, ar x1)] [] := by
  refine zc_wk G hp (fun hw tw => ?_)
  refine zv_aload_n G rfl rfl dX14_holds_0 ?_
  have kj6 : ∀ (v2 : Nat) (u1 : CW), (
      ∀ v3 : Int, v3 = (if v2 = 0 then 1 else 0) →
      (fun v w => Γ.Q (.inl (some (ai v))) w) v3 u1) → ZV Γ u1 4 [(1, ar x1)] [ar v2] := by
    intro v2 u1 h
    refine zc_wk G hp (fun hu1 tu1 => ?_)
    have kj4 : ∀ v3 : Int, v3 = (if v2 = 0 then 1 else 0) → ZV Γ u1 12 [(1, ar x1)] (ai v3 :: []) := by
      intro v3 ev3
      have h := h v3 ev3
      have rv3 : zr v3 := by rw [ev3]; exact (zr_ite (zr_k 1 (by decide) (by decide)) (zr_k 0 (by decide) (by decide)))
      have bv3 : v3 = 0 ∨ v3 = 1 := by rw [ev3]; exact (zb_ite (Or.inr rfl) (Or.inl rfl))
      exact zv_iret (ty := .boolean) rv3 G M (zn_Z bv3) dX14_holds_12 h
    refine zv_ifnonnull (tgt := 11) G (by decide) dX14_holds_4 (fun c5 => ?_) (fun c5 => ?_)
    · refine zv_iconst (a := 0) G (by decide) dX14_holds_11 ?_
      exact kj4 _ (if_neg c5).symm
    · refine zv_iconst (a := 1) G (by decide) dX14_holds_7 ?_
      refine zv_goto (tgt := 12) G (by decide) dX14_holds_8 ?_
      exact kj4 _ (if_pos c5).symm
  have h : wpC p d (vm4 (tg w x1)) [ar x1] w _ := h
  by_cases c7 : tg w x1 = 26
  · have e : vm4 (tg w x1) = 184 := by rw [c7]; rfl
    rw [e] at h
    exact zv_callR (as := [ar x1]) (st := []) G M (zc_eV (C := zcn 26) G q2013 q1800 q1808 (Or.inl ⟨rfl, rfl⟩) q1809 md_X30_kind (zc_rc G (zne tw c7 (by decide)) c7 (by decide) (by decide) rfl) rfl dX14_holds_1) (S 184 _ rfl _ _ _ h (zoks_cons trivial zoks_nil)) (Or.inl ⟨rfl, rfl⟩) (zc_hk q1809 q186) (by decide) (Nat.le_of_ble_eq_true rfl) kj6 (fun _ _ h => h.elim)
  by_cases c8 : tg w x1 = 27
  · have e : vm4 (tg w x1) = 184 := by rw [c8]; rfl
    rw [e] at h
    exact zv_callR (as := [ar x1]) (st := []) G M (zc_eV (C := zcn 27) G q2013 q1800 q1807 (Or.inl ⟨rfl, rfl⟩) q1809 md_X30_kind (zc_rc G (zne tw c8 (by decide)) c8 (by decide) (by decide) rfl) rfl dX14_holds_1) (S 184 _ rfl _ _ _ h (zoks_cons trivial zoks_nil)) (Or.inl ⟨rfl, rfl⟩) (zc_hk q1809 q186) (by decide) (Nat.le_of_ble_eq_true rfl) kj6 (fun _ _ h => h.elim)
  by_cases c9 : tg w x1 = 28
  · have e : vm4 (tg w x1) = 184 := by rw [c9]; rfl
    rw [e] at h
    exact zv_callR (as := [ar x1]) (st := []) G M (zc_eV (C := zcn 28) G q2013 q1800 q1806 (Or.inl ⟨rfl, rfl⟩) q1809 md_X30_kind (zc_rc G (zne tw c9 (by decide)) c9 (by decide) (by decide) rfl) rfl dX14_holds_1) (S 184 _ rfl _ _ _ h (zoks_cons trivial zoks_nil)) (Or.inl ⟨rfl, rfl⟩) (zc_hk q1809 q186) (by decide) (Nat.le_of_ble_eq_true rfl) kj6 (fun _ _ h => h.elim)
  by_cases c10 : tg w x1 = 29
  · have e : vm4 (tg w x1) = 184 := by rw [c10]; rfl
    rw [e] at h
    exact zv_callR (as := [ar x1]) (st := []) G M (zc_eV (C := zcn 29) G q2013 q1800 q1805 (Or.inl ⟨rfl, rfl⟩) q1809 md_X30_kind (zc_rc G (zne tw c10 (by decide)) c10 (by decide) (by decide) rfl) rfl dX14_holds_1) (S 184 _ rfl _ _ _ h (zoks_cons trivial zoks_nil)) (Or.inl ⟨rfl, rfl⟩) (zc_hk q1809 q186) (by decide) (Nat.le_of_ble_eq_true rfl) kj6 (fun _ _ h => h.elim)
  by_cases c11 : tg w x1 = 30
  · have e : vm4 (tg w x1) = 200 := by rw [c11]; rfl
    rw [e] at h
    exact zv_callR (as := [ar x1]) (st := []) G M (zc_eU (C := zcn 30) G q2013 q1801 (zc_declC G q1800 q1809) ⟨by decide, by decide⟩ q1802 q1803 md_X30_kind (zc_rc G (zne tw c11 (by decide)) c11 (by decide) (by decide) rfl) rfl dX14_holds_1) (S 200 _ rfl _ _ _ h (zoks_cons trivial zoks_nil)) (Or.inl ⟨rfl, rfl⟩) (zc_hk q1804 q191) (by decide) (Nat.le_of_ble_eq_true rfl) kj6 (fun _ _ h => h.elim)
  have e : vm4 (tg w x1) = 9999 := by unfold vm4; rw [if_neg c7, if_neg c8, if_neg c9, if_neg c10, if_neg c11]
  rw [e] at h
  exact (wpC_none h).elim
set_option maxHeartbeats 4000000 in
set_option maxRecDepth 100000 in
theorem cpC_X15_init_0 {Γ : ZG CW} {D : CD} {d p : Nat} (hp : D.K.1 = p) (G : ZOk Γ cX15_init RX15 1 (KnC D) (ZC D)) (M : ZRm Γ (d + 1) D.lim (Option.none : Option Jvm.ClassFile.FieldType) "<init>" []) (S : SdC d D p Γ.l) (hl : Γ.l.stackTraces = false) (hk : 0 ≤ d) {x0 : Nat} {w : CW} (h : pC_X15_init_0 p (wpC p d) (fun w => Γ.Q (.inl none) w) x0 w) : ZV Γ w 0 [(0, ar x0)] [] := by
  refine zc_wk G hp (fun hw tw => ?_)
  refine zv_aload_n G rfl rfl dX15_init_0 ?_
  have o2 := h.1
  have h := h.2
  refine zc_oinit G M q1010 q262 q263 o2 (Nat.le_of_ble_eq_true rfl) dX15_init_1 ?_
  refine zv_aload_n G rfl rfl dX15_init_4 ?_
  refine zv_iconst (a := 2) G (by decide) dX15_init_5 ?_
  have o4 := h.1
  have h := h.2
  refine zc_newa (t := 102) (ty := .int) G M (by decide) rfl rfl (fun z => z) (by decide) rfl q708 o4.1 o4.2 dX15_init_6 (fun u3 eu3 => ?_)
  have h := h u3 eu3
  refine zc_wk G hp (fun hu3 tu3 => ?_)
  have o6 := h.1
  have h := h.2
  refine zc_putR (f := 76) G M o6 rfl q1011 (Or.inl rfl) (Or.inr ⟨rfl, rfl, rfl⟩) (zfty_76) (Or.inr ⟨_, rfl⟩) rfl dX15_init_8 (fun u5 eu5 => ?_)
  have h := h u5 eu5
  refine zc_wk G hp (fun hu5 tu5 => ?_)
  refine zv_aload_n G rfl rfl dX15_init_11 ?_
  refine zv_iconst (a := 4) G (by decide) dX15_init_12 ?_
  have o8 := h.1
  have h := h.2
  refine zc_newa (t := 102) (ty := .int) G M (by decide) rfl rfl (fun z => z) (by decide) rfl q708 o8.1 o8.2 dX15_init_13 (fun u7 eu7 => ?_)
  have h := h u7 eu7
  refine zc_wk G hp (fun hu7 tu7 => ?_)
  have o10 := h.1
  have h := h.2
  refine zc_putR (f := 77) G M o10 rfl q1013 (Or.inl rfl) (Or.inr ⟨rfl, rfl, rfl⟩) (zfty_77) (Or.inr ⟨_, rfl⟩) rfl dX15_init_15 (fun u9 eu9 => ?_)
  have h := h u9 eu9
  refine zc_wk G hp (fun hu9 tu9 => ?_)
  refine zv_aload_n G rfl rfl dX15_init_18 ?_
  refine zv_iconst (a := 4) G (by decide) dX15_init_19 ?_
  have o12 := h.1
  have h := h.2
  refine zc_newa (t := 102) (ty := .int) G M (by decide) rfl rfl (fun z => z) (by decide) rfl q708 o12.1 o12.2 dX15_init_20 (fun u11 eu11 => ?_)
  have h := h u11 eu11
  refine zc_wk G hp (fun hu11 tu11 => ?_)
  refine zv_dup G rfl dX15_init_22 ?_
  refine zv_iconst (a := 0) G (by decide) dX15_init_23 ?_
  refine zv_iconst (a := (-1)) G (by decide) dX15_init_24 ?_
  have o14 := h.1
  have h := h.2
  refine zc_iast G o14.1 (zr_k 0 (by decide) (by decide)) (zr_k (-1) (by decide) (by decide)) o14.2.1 o14.2.2 dX15_init_25 (fun u13 eu13 => ?_)
  have h := h u13 eu13
  refine zc_wk G hp (fun hu13 tu13 => ?_)
  refine zv_dup G rfl dX15_init_26 ?_
  refine zv_iconst (a := 1) G (by decide) dX15_init_27 ?_
  refine zv_iconst (a := (-1)) G (by decide) dX15_init_28 ?_
  have o16 := h.1
  have h := h.2
  refine zc_iast G o16.1 (zr_k 1 (by decide) (by decide)) (zr_k (-1) (by decide) (by decide)) o16.2.1 o16.2.2 dX15_init_29 (fun u15 eu15 => ?_)
  have h := h u15 eu15
  refine zc_wk G hp (fun hu15 tu15 => ?_)
  refine zv_dup G rfl dX15_init_30 ?_
  refine zv_iconst (a := 2) G (by decide) dX15_init_31 ?_
  refine zv_iconst (a := (-1)) G (by decide) dX15_init_32 ?_
  have o18 := h.1
  have h := h.2
  refine zc_iast G o18.1 (zr_k 2 (by decide) (by decide)) (zr_k (-1) (by decide) (by decide)) o18.2.1 o18.2.2 dX15_init_33 (fun u17 eu17 => ?_)
  have h := h u17 eu17
  refine zc_wk G hp (fun hu17 tu17 => ?_)
  refine zv_dup G rfl dX15_init_34 ?_
  refine zv_iconst (a := 3) G (by decide) dX15_init_35 ?_
  refine zv_iconst (a := (-1)) G (by decide) dX15_init_36 ?_
  have o20 := h.1
  have h := h.2
  refine zc_iast G o20.1 (zr_k 3 (by decide) (by decide)) (zr_k (-1) (by decide) (by decide)) o20.2.1 o20.2.2 dX15_init_37 (fun u19 eu19 => ?_)
  have h := h u19 eu19
  refine zc_wk G hp (fun hu19 tu19 => ?_)
  have o22 := h.1
  have h := h.2
  refine zc_putR (f := 78) G M o22 rfl q1015 (Or.inl rfl) (Or.inr ⟨rfl, rfl, rfl⟩) (zfty_78) (Or.inr ⟨_, rfl⟩) rfl dX15_init_38 (fun u21 eu21 => ?_)
  have h := h u21 eu21
  refine zc_wk G hp (fun hu21 tu21 => ?_)
  exact zv_vret G M dX15_init_41 h
set_option maxHeartbeats 4000000 in
set_option maxRecDepth 100000 in
theorem cpC_X15_holds_0 {Γ : ZG CW} {D : CD} {d p : Nat} (hp : D.K.1 = p) (G : ZOk Γ cX15_holds RX15 4 (KnC D) (ZC D)) (M : ZRm Γ (d + 1) D.lim (Option.some Jvm.ClassFile.FieldType.boolean) "holds" []) (S : SdC d D p Γ.l) (hl : Γ.l.stackTraces = false) (hk : 0 ≤ d) {x0 : Nat} {x1 : Nat} {w : CW} (h : pC_X15_holds_0 p (wpC p d) (fun v w => Γ.Q (.inl (some (ai v))) w) (fun x w => Γ.Q (.inr x) w) x0 x1 w) : ZV Γ w 0 [(0, ar x0), (1, ar x1)] [] := by
  refine zc_wk G hp (fun hw tw => ?_)
  refine zv_aload_n G rfl rfl dX15_holds_0 ?_
  refine zv_iconst (a := 0) G (by decide) dX15_holds_1 ?_
  refine zv_aload_n G rfl rfl dX15_holds_2 ?_
  have o19 := h.1
  have h := h.2
  refine zv_callI (as := [ar x0, ai 0, ar x1]) (st := []) G M (zc_eV (C := zcn 13) G q1940 q1942 qs63 (Or.inl ⟨rfl, rfl⟩) q1943 md_X15_sum (zc_rc G (zne tw o19 (by decide)) o19 (by decide) (by decide) rfl) rfl dX15_holds_3) (S 122 _ rfl _ _ _ h (zoks_cons trivial (zoks_cons (zr_k 0 (by decide) (by decide)) (zoks_cons trivial zoks_nil)))) (Or.inl ⟨rfl, rfl⟩) (zc_hk q1943 q171) (by decide) (Nat.le_of_ble_eq_true rfl) (fun v2 u1 rv2 h => ?_) (fun x17 u18 h => ?_)
  rotate_left
  · exact zx_leave G M rfl h
  refine zc_wk G hp (fun hu1 tu1 => ?_)
  refine zv_istore_n G rfl (by decide) rfl dX15_holds_6 ?_
  refine zv_aload_n G rfl rfl dX15_holds_7 ?_
  refine zv_iconst (a := 1) G (by decide) dX15_holds_8 ?_
  refine zv_aload_n G rfl rfl dX15_holds_9 ?_
  have o16 := h.1
  have h := h.2
  refine zv_callI (as := [ar x0, ai 1, ar x1]) (st := []) G M (zc_eV (C := zcn 13) G q1940 q1942 qs63 (Or.inl ⟨rfl, rfl⟩) q1943 md_X15_sum (zc_rc G (zne tu1 o16 (by decide)) o16 (by decide) (by decide) rfl) rfl dX15_holds_10) (S 122 _ rfl _ _ _ h (zoks_cons trivial (zoks_cons (zr_k 1 (by decide) (by decide)) (zoks_cons trivial zoks_nil)))) (Or.inl ⟨rfl, rfl⟩) (zc_hk q1943 q171) (by decide) (Nat.le_of_ble_eq_true rfl) (fun v4 u3 rv4 h => ?_) (fun x14 u15 h => ?_)
  rotate_left
  · exact zx_leave G M rfl h
  refine zc_wk G hp (fun hu3 tu3 => ?_)
  refine zv_istore_n G rfl (by decide) rfl dX15_holds_13 ?_
  refine zv_aload_n G rfl rfl dX15_holds_14 ?_
  have o5 := h.1
  have h := h.2
  refine zc_get (f := 79) (v := ai (fI u3 79 x0)) G o5 rfl q1017 (Or.inl rfl) (cV_I (by decide) (by decide)) dX15_holds_15 ?_
  refine zv_bipush (a := 60) G (by decide) dX15_holds_18 ?_
  have o7 := h.1
  have h := h.2
  have kj8 : ∀ v6 : Int, v6 = (if (fI u3 79 x0) = 60 then (if v4 ≤ v2 then 0 else 1) else (if (fI u3 79 x0) = 62 then (if v2 ≤ v4 then 0 else 1) else (if v2 = v4 then 1 else 0))) → ZV Γ u3 68 [(3, ai v4), (2, ai v2), (0, ar x0), (1, ar x1)] (ai v6 :: []) := by
    intro v6 ev6
    have h := h v6 ev6
    have rv6 : zr v6 := by rw [ev6]; exact (zr_ite (zr_ite (zr_k 0 (by decide) (by decide)) (zr_k 1 (by decide) (by decide))) (zr_ite (zr_ite (zr_k 0 (by decide) (by decide)) (zr_k 1 (by decide) (by decide))) (zr_ite (zr_k 1 (by decide) (by decide)) (zr_k 0 (by decide) (by decide)))))
    have bv6 : v6 = 0 ∨ v6 = 1 := by rw [ev6]; exact (zb_ite (zb_ite (Or.inl rfl) (Or.inr rfl)) (zb_ite (zb_ite (Or.inl rfl) (Or.inr rfl)) (zb_ite (Or.inr rfl) (Or.inl rfl))))
    exact zv_iret (ty := .boolean) rv6 G M (zn_Z bv6) dX15_holds_68 h
  refine zv_icmp_ne (tgt := 36) G (hu3.i 79 _ (by decide)) (zr_k 60 (by decide) (by decide)) (by decide) dX15_holds_20 (fun c9 => ?_) (fun c9 => ?_)
  · refine zv_aload_n G rfl rfl dX15_holds_36 ?_
    refine zc_get (f := 79) (v := ai (fI u3 79 x0)) G (o7 c9) rfl q1017 (Or.inl rfl) (cV_I (by decide) (by decide)) dX15_holds_37 ?_
    refine zv_bipush (a := 62) G (by decide) dX15_holds_40 ?_
    refine zv_icmp_ne (tgt := 58) G (hu3.i 79 _ (by decide)) (zr_k 62 (by decide) (by decide)) (by decide) dX15_holds_42 (fun c10 => ?_) (fun c10 => ?_)
    · refine zv_iload_n G rfl rfl dX15_holds_58 ?_
      refine zv_iload_n G rfl rfl dX15_holds_59 ?_
      refine zv_icmp_ne (tgt := 67) G rv2 rv4 (by decide) dX15_holds_60 (fun c11 => ?_) (fun c11 => ?_)
      · refine zv_iconst (a := 0) G (by decide) dX15_holds_67 ?_
        exact kj8 _ (by rw [if_neg c9, if_neg c10, if_neg c11])
      · refine zv_iconst (a := 1) G (by decide) dX15_holds_63 ?_
        refine zv_goto (tgt := 68) G (by decide) dX15_holds_64 ?_
        exact kj8 _ (by rw [if_neg c9, if_neg c10, if_pos c11])
    · refine zv_iload_n G rfl rfl dX15_holds_45 ?_
      refine zv_iload_n G rfl rfl dX15_holds_46 ?_
      refine zv_icmp_le (tgt := 54) G rv2 rv4 (by decide) dX15_holds_47 (fun c12 => ?_) (fun c12 => ?_)
      · refine zv_iconst (a := 0) G (by decide) dX15_holds_54 ?_
        refine zv_goto (tgt := 68) G (by decide) dX15_holds_55 ?_
        exact kj8 _ (by rw [if_neg c9, if_pos c10, if_pos c12])
      · refine zv_iconst (a := 1) G (by decide) dX15_holds_50 ?_
        refine zv_goto (tgt := 68) G (by decide) dX15_holds_51 ?_
        exact kj8 _ (by rw [if_neg c9, if_pos c10, if_neg c12])
  · refine zv_iload_n G rfl rfl dX15_holds_23 ?_
    refine zv_iload_n G rfl rfl dX15_holds_24 ?_
    refine zv_icmp_ge (tgt := 32) G rv2 rv4 (by decide) dX15_holds_25 (fun c13 => ?_) (fun c13 => ?_)
    · refine zv_iconst (a := 0) G (by decide) dX15_holds_32 ?_
      refine zv_goto (tgt := 68) G (by decide) dX15_holds_33 ?_
      exact kj8 _ (by rw [if_pos c9, if_pos c13])
    · refine zv_iconst (a := 1) G (by decide) dX15_holds_28 ?_
      refine zv_goto (tgt := 68) G (by decide) dX15_holds_29 ?_
      exact kj8 _ (by rw [if_pos c9, if_neg c13])
set_option maxHeartbeats 4000000 in
set_option maxRecDepth 100000 in
theorem cpC_X15_sum_109 {Γ : ZG CW} {D : CD} {d p : Nat} (hp : D.K.1 = p) (G : ZOk Γ cX15_sum RX15 5 (KnC D) (ZC D)) (M : ZRm Γ (d + 1) D.lim (Option.some Jvm.ClassFile.FieldType.int) "sum" []) (S : SdC d D p Γ.l) (hl : Γ.l.stackTraces = false) (hk : 7 ≤ d) {x3 : Int} {w : CW} (rx3 : zr x3) (h : pC_X15_sum_109 p (wpC p d) (fun v w => Γ.Q (.inl (some (ai v))) w) (fun x w => Γ.Q (.inr x) w) x3 w) : ZV Γ w 109 [(3, ai x3)] [] := by
  refine zc_wk G hp (fun hw tw => ?_)
  refine zv_iload_n G rfl rfl dX15_sum_109 ?_
  exact zv_iret (ty := .int) rx3 G M rfl dX15_sum_110 h
set_option maxHeartbeats 4000000 in
set_option maxRecDepth 100000 in
theorem cpC_X15_sum_0 {Γ : ZG CW} {D : CD} {d p : Nat} (hp : D.K.1 = p) (G : ZOk Γ cX15_sum RX15 5 (KnC D) (ZC D)) (M : ZRm Γ (d + 1) D.lim (Option.some Jvm.ClassFile.FieldType.int) "sum" []) (S : SdC d D p Γ.l) (hl : Γ.l.stackTraces = false) (hk : 7 ≤ d) {x0 : Nat} {x1 : Int} {x2 : Nat} {w : CW} (rx1 : zr x1) (h : pC_X15_sum_0 p (wpC p d) (fun v w => Γ.Q (.inl (some (ai v))) w) (fun x w => Γ.Q (.inr x) w) x0 x1 x2 w) : ZV Γ w 0 [(0, ar x0), (1, ai x1), (2, ar x2)] [] := by
  refine zc_wk G hp (fun hw tw => ?_)
  refine zv_aload_n G rfl rfl dX15_sum_0 ?_
  refine zv_iconst (a := 2) G (by decide) dX15_sum_1 ?_
  refine zv_iload_n G rfl rfl dX15_sum_2 ?_
  refine zv_imul G dX15_sum_3 ?_
  refine zv_aload_n G rfl rfl dX15_sum_4 ?_
  have o22 := h.1
  have h := h.2
  refine zv_callI (as := [ar x0, ai (w32 (2 * x1)), ar x2]) (st := []) G M (zc_eV (C := zcn 13) G q1944 q1946 qs64 (Or.inl ⟨rfl, rfl⟩) q1947 md_X15_term (zc_rc G (zne tw o22 (by decide)) o22 (by decide) (by decide) rfl) rfl dX15_sum_5) (S 123 _ rfl _ _ _ h (zoks_cons trivial (zoks_cons (w32_r _) (zoks_cons trivial zoks_nil)))) (Or.inl ⟨rfl, rfl⟩) (zc_hk q1947 q171) (by decide) (Nat.le_of_ble_eq_true rfl) (fun v2 u1 rv2 h => ?_) (fun _ _ h => h.elim)
  refine zc_wk G hp (fun hu1 tu1 => ?_)
  refine zv_istore_n G rfl (by decide) rfl dX15_sum_8 ?_
  refine zv_aload_n G rfl rfl dX15_sum_9 ?_
  refine zv_iconst (a := 2) G (by decide) dX15_sum_10 ?_
  refine zv_iload_n G rfl rfl dX15_sum_11 ?_
  refine zv_imul G dX15_sum_12 ?_
  refine zv_iconst (a := 1) G (by decide) dX15_sum_13 ?_
  refine zv_iadd G dX15_sum_14 ?_
  refine zv_aload_n G rfl rfl dX15_sum_15 ?_
  have o21 := h.1
  have h := h.2
  refine zv_callI (as := [ar x0, ai (w32 ((w32 (2 * x1)) + 1)), ar x2]) (st := []) G M (zc_eV (C := zcn 13) G q1944 q1946 qs64 (Or.inl ⟨rfl, rfl⟩) q1947 md_X15_term (zc_rc G (zne tu1 o21 (by decide)) o21 (by decide) (by decide) rfl) rfl dX15_sum_16) (S 123 _ rfl _ _ _ h (zoks_cons trivial (zoks_cons (w32_r _) (zoks_cons trivial zoks_nil)))) (Or.inl ⟨rfl, rfl⟩) (zc_hk q1947 q171) (by decide) (Nat.le_of_ble_eq_true rfl) (fun v4 u3 rv4 h => ?_) (fun _ _ h => h.elim)
  refine zc_wk G hp (fun hu3 tu3 => ?_)
  refine zv_istore G (by decide) rfl dX15_sum_19 ?_
  refine zv_aload_n G rfl rfl dX15_sum_21 ?_
  have o5 := h.1
  have h := h.2
  refine zc_get (f := 76) (v := ar (fR u3 76 x0)) G o5 rfl q1011 (Or.inl rfl) (cV_R rfl) dX15_sum_22 ?_
  refine zv_iload_n G rfl rfl dX15_sum_25 ?_
  have o6 := h.1
  have h := h.2
  refine zc_ialdN G o6.1 rx1 o6.2.1 o6.2.2 dX15_sum_26 ?_
  by_cases c8 : (aN u3 (fR u3 76 x0) x1) = 37
  · have h := h.1 c8
    refine zv_tswI (tgt := 104) G dX15_sum_27 0 (aN_r hu3 _ _) (by omega) (by omega) rfl (by decide) ?_
    refine zv_iload_n G rfl rfl dX15_sum_104 ?_
    refine zv_iload G rfl dX15_sum_105 ?_
    have o7 := h.1
    have h := h.2
    refine zv_irem G rv4 o7 dX15_sum_107 ?_
    exact zv_iret (ty := .int) (show zr _ from by first | with_reducible exact i_and_r _ _ | with_reducible exact i_or_r _ _ | with_reducible exact i_shl_r _ _ | with_reducible exact i_shr_r _ _ | with_reducible exact i_ushr_r _ _ | with_reducible exact i_b_r _ | with_reducible exact i_c_r _ | with_reducible exact i_xor_r _ _ | with_reducible exact i_div_r _ _ | with_reducible exact i_rem_r _ _ | exact zr_of _) G M rfl dX15_sum_108 h
  by_cases c9 : (aN u3 (fR u3 76 x0) x1) = 42
  · have h := h.2.1 c9
    refine zv_tswI (tgt := 94) G dX15_sum_27 5 (aN_r hu3 _ _) (by omega) (by omega) rfl (by decide) ?_
    refine zv_iload_n G rfl rfl dX15_sum_94 ?_
    refine zv_iload G rfl dX15_sum_95 ?_
    refine zv_imul G dX15_sum_97 ?_
    exact zv_iret (ty := .int) (w32_r _) G M rfl dX15_sum_98 h
  by_cases c10 : (aN u3 (fR u3 76 x0) x1) = 43
  · have h := h.2.2.1 c10
    refine zv_tswI (tgt := 84) G dX15_sum_27 6 (aN_r hu3 _ _) (by omega) (by omega) rfl (by decide) ?_
    refine zv_iload_n G rfl rfl dX15_sum_84 ?_
    refine zv_iload G rfl dX15_sum_85 ?_
    refine zv_iadd G dX15_sum_87 ?_
    exact zv_iret (ty := .int) (w32_r _) G M rfl dX15_sum_88 h
  by_cases c11 : (aN u3 (fR u3 76 x0) x1) = 45
  · have h := h.2.2.2.1 c11
    refine zv_tswI (tgt := 89) G dX15_sum_27 8 (aN_r hu3 _ _) (by omega) (by omega) rfl (by decide) ?_
    refine zv_iload_n G rfl rfl dX15_sum_89 ?_
    refine zv_iload G rfl dX15_sum_90 ?_
    refine zv_isub G dX15_sum_92 ?_
    exact zv_iret (ty := .int) (w32_r _) G M rfl dX15_sum_93 h
  by_cases c13 : (aN u3 (fR u3 76 x0) x1) = 47
  · have h := h.2.2.2.2.1 c13
    refine zv_tswI (tgt := 99) G dX15_sum_27 10 (aN_r hu3 _ _) (by omega) (by omega) rfl (by decide) ?_
    refine zv_iload_n G rfl rfl dX15_sum_99 ?_
    refine zv_iload G rfl dX15_sum_100 ?_
    have o12 := h.1
    have h := h.2
    refine zv_idiv G rv4 o12 dX15_sum_102 ?_
    exact zv_iret (ty := .int) (show zr _ from by first | with_reducible exact i_and_r _ _ | with_reducible exact i_or_r _ _ | with_reducible exact i_shl_r _ _ | with_reducible exact i_shr_r _ _ | with_reducible exact i_ushr_r _ _ | with_reducible exact i_b_r _ | with_reducible exact i_c_r _ | with_reducible exact i_xor_r _ _ | with_reducible exact i_div_r _ _ | with_reducible exact i_rem_r _ _ | exact zr_of _) G M rfl dX15_sum_103 h
  have h := h.2.2.2.2.2 c8 c9 c10 c11 c13
  have kd14 : ZV Γ u3 109 [(4, ai v4), (3, ai v2), (0, ar x0), (1, ai x1), (2, ar x2)] [] := by
    exact zv_pick [3] rfl (cpC_X15_sum_109 hp G M S hl hk rv2 h)
  by_cases c15 : (aN u3 (fR u3 76 x0) x1) = 38
  · exact zv_tswI (tgt := 109) G dX15_sum_27 1 (aN_r hu3 _ _) (by omega) (by omega) rfl (by decide) kd14
  by_cases c16 : (aN u3 (fR u3 76 x0) x1) = 39
  · exact zv_tswI (tgt := 109) G dX15_sum_27 2 (aN_r hu3 _ _) (by omega) (by omega) rfl (by decide) kd14
  by_cases c17 : (aN u3 (fR u3 76 x0) x1) = 40
  · exact zv_tswI (tgt := 109) G dX15_sum_27 3 (aN_r hu3 _ _) (by omega) (by omega) rfl (by decide) kd14
  by_cases c18 : (aN u3 (fR u3 76 x0) x1) = 41
  · exact zv_tswI (tgt := 109) G dX15_sum_27 4 (aN_r hu3 _ _) (by omega) (by omega) rfl (by decide) kd14
  by_cases c19 : (aN u3 (fR u3 76 x0) x1) = 44
  · exact zv_tswI (tgt := 109) G dX15_sum_27 7 (aN_r hu3 _ _) (by omega) (by omega) rfl (by decide) kd14
  by_cases c20 : (aN u3 (fR u3 76 x0) x1) = 46
  · exact zv_tswI (tgt := 109) G dX15_sum_27 9 (aN_r hu3 _ _) (by omega) (by omega) rfl (by decide) kd14
  exact zv_tswO (tgt := 109) G dX15_sum_27 (aN_r hu3 _ _) (by omega) (by decide) kd14
set_option maxHeartbeats 4000000 in
set_option maxRecDepth 100000 in
theorem cpC_X15_term_0 {Γ : ZG CW} {D : CD} {d p : Nat} (hp : D.K.1 = p) (G : ZOk Γ cX15_term RX15 3 (KnC D) (ZC D)) (M : ZRm Γ (d + 1) D.lim (Option.some Jvm.ClassFile.FieldType.int) "term" []) (S : SdC d D p Γ.l) (hl : Γ.l.stackTraces = false) (hk : 0 ≤ d) {x0 : Nat} {x1 : Int} {x2 : Nat} {w : CW} (rx1 : zr x1) (h : pC_X15_term_0 p (wpC p d) (fun v w => Γ.Q (.inl (some (ai v))) w) x0 x1 x2 w) : ZV Γ w 0 [(0, ar x0), (1, ai x1), (2, ar x2)] [] := by
  refine zc_wk G hp (fun hw tw => ?_)
  refine zv_aload_n G rfl rfl dX15_term_0 ?_
  have o1 := h.1
  have h := h.2
  refine zc_get (f := 78) (v := ar (fR w 78 x0)) G o1 rfl q1015 (Or.inl rfl) (cV_R rfl) dX15_term_1 ?_
  refine zv_iload_n G rfl rfl dX15_term_4 ?_
  have o2 := h.1
  have h := h.2
  refine zc_ialdN G o2.1 rx1 o2.2.1 o2.2.2 dX15_term_5 ?_
  have o4 := h.1
  have h := h.2
  have kj5 : ∀ v3 : Int, v3 = (if ¬ ((aN w (fR w 78 x0) x1) < 0) then fI w 115 (aR w x2 (aN w (fR w 78 x0) x1)) else aN w (fR w 77 x0) x1) → ZV Γ w 32 [(0, ar x0), (1, ai x1), (2, ar x2)] (ai v3 :: []) := by
    intro v3 ev3
    have h := h v3 ev3
    have rv3 : zr v3 := by rw [ev3]; exact (zr_ite (hw.i 115 _ (by decide)) (aN_r hw _ _))
    exact zv_iret (ty := .int) rv3 G M rfl dX15_term_32 h
  refine zv_if_lt (tgt := 26) G (aN_r hw _ _) (by decide) dX15_term_6 (fun c6 => ?_) (fun c6 => ?_)
  · refine zv_aload_n G rfl rfl dX15_term_26 ?_
    refine zc_get (f := 77) (v := ar (fR w 77 x0)) G (o4.1 c6).1 rfl q1013 (Or.inl rfl) (cV_R rfl) dX15_term_27 ?_
    refine zv_iload_n G rfl rfl dX15_term_30 ?_
    refine zc_ialdN G (o4.1 c6).2.1 rx1 (o4.1 c6).2.2.1 (o4.1 c6).2.2.2 dX15_term_31 ?_
    exact kj5 _ (if_neg (fun q => q c6)).symm
  · refine zv_aload_n G rfl rfl dX15_term_9 ?_
    refine zv_aload_n G rfl rfl dX15_term_10 ?_
    refine zc_get (f := 78) (v := ar (fR w 78 x0)) G (o4.2 c6).1 rfl q1015 (Or.inl rfl) (cV_R rfl) dX15_term_11 ?_
    refine zv_iload_n G rfl rfl dX15_term_14 ?_
    refine zc_ialdN G (o4.2 c6).2.1.1 rx1 (o4.2 c6).2.1.2.1 (o4.2 c6).2.1.2.2 dX15_term_15 ?_
    refine zc_aald G (o4.2 c6).2.2.1.1 (aN_r hw _ _) (o4.2 c6).2.2.1.2.1 (o4.2 c6).2.2.1.2.2 dX15_term_16 ?_
    refine zc_cast G q1948 (o4.2 c6).2.2.2.1 dX15_term_17 ?_
    refine zc_get (f := 115) (v := ai (fI w 115 (aR w x2 (aN w (fR w 78 x0) x1)))) G (o4.2 c6).2.2.2.2 rfl q1704 (Or.inl rfl) (cV_I (by decide) (by decide)) dX15_term_20 ?_
    refine zv_goto (tgt := 32) G (by decide) dX15_term_23 ?_
    exact kj5 _ (if_pos c6).symm
set_option maxHeartbeats 4000000 in
set_option maxRecDepth 100000 in
theorem cpC_X16_init_0 {Γ : ZG CW} {D : CD} {d p : Nat} (hp : D.K.1 = p) (G : ZOk Γ cX16_init RX16 2 (KnC D) (ZC D)) (M : ZRm Γ (d + 1) D.lim (Option.none : Option Jvm.ClassFile.FieldType) "<init>" []) (S : SdC d D p Γ.l) (hl : Γ.l.stackTraces = false) (hk : 0 ≤ d) {x0 : Nat} {x1 : Nat} {w : CW} (h : pC_X16_init_0 p (wpC p d) (fun w => Γ.Q (.inl none) w) x0 x1 w) : ZV Γ w 0 [(0, ar x0), (1, ar x1)] [] := by
  refine zc_wk G hp (fun hw tw => ?_)
  refine zv_aload_n G rfl rfl dX16_init_0 ?_
  have o2 := h.1
  have h := h.2
  refine zc_oinit G M q1098 q262 q263 o2 (Nat.le_of_ble_eq_true rfl) dX16_init_1 ?_
  refine zv_aload_n G rfl rfl dX16_init_4 ?_
  refine zv_bipush (a := 8) G (by decide) dX16_init_5 ?_
  have o4 := h.1
  have h := h.2
  refine zc_anew (t := 115) G M (by decide) q1099 o4.1 o4.2 dX16_init_7 (fun u3 eu3 => ?_)
  have h := h u3 eu3
  refine zc_wk G hp (fun hu3 tu3 => ?_)
  have o6 := h.1
  have h := h.2
  refine zc_putR (f := 81) G M o6 rfl q1107 (Or.inl rfl) (Or.inl rfl) (zfty_81) (Or.inr ⟨_, rfl⟩) rfl dX16_init_10 (fun u5 eu5 => ?_)
  have h := h u5 eu5
  refine zc_wk G hp (fun hu5 tu5 => ?_)
  refine zv_aload_n G rfl rfl dX16_init_13 ?_
  refine zv_bipush (a := 8) G (by decide) dX16_init_14 ?_
  have o8 := h.1
  have h := h.2
  refine zc_anew (t := 118) G M (by decide) q1100 o8.1 o8.2 dX16_init_16 (fun u7 eu7 => ?_)
  have h := h u7 eu7
  refine zc_wk G hp (fun hu7 tu7 => ?_)
  have o10 := h.1
  have h := h.2
  refine zc_putR (f := 82) G M o10 rfl q1108 (Or.inl rfl) (Or.inl rfl) (zfty_82) (Or.inr ⟨_, rfl⟩) rfl dX16_init_19 (fun u9 eu9 => ?_)
  have h := h u9 eu9
  refine zc_wk G hp (fun hu9 tu9 => ?_)
  refine zv_aload_n G rfl rfl dX16_init_22 ?_
  refine zv_bipush (a := 8) G (by decide) dX16_init_23 ?_
  have o12 := h.1
  have h := h.2
  refine zc_anew (t := 115) G M (by decide) q1099 o12.1 o12.2 dX16_init_25 (fun u11 eu11 => ?_)
  have h := h u11 eu11
  refine zc_wk G hp (fun hu11 tu11 => ?_)
  have o14 := h.1
  have h := h.2
  refine zc_putR (f := 84) G M o14 rfl q1110 (Or.inl rfl) (Or.inr ⟨rfl, rfl, rfl⟩) (zfty_84) (Or.inr ⟨_, rfl⟩) rfl dX16_init_28 (fun u13 eu13 => ?_)
  have h := h u13 eu13
  refine zc_wk G hp (fun hu13 tu13 => ?_)
  refine zv_aload_n G rfl rfl dX16_init_31 ?_
  refine zv_aload_n G rfl rfl dX16_init_32 ?_
  have o16 := h.1
  have h := h.2
  refine zc_putR (f := 80) G M o16 rfl q1102 (Or.inl rfl) (Or.inr ⟨rfl, rfl, rfl⟩) (zfty_80) (Or.inl ⟨_, rfl⟩) rfl dX16_init_33 (fun u15 eu15 => ?_)
  have h := h u15 eu15
  refine zc_wk G hp (fun hu15 tu15 => ?_)
  exact zv_vret G M dX16_init_36 h
set_option maxHeartbeats 4000000 in
set_option maxRecDepth 100000 in
theorem cpC_X16_add_73 {Γ : ZG CW} {D : CD} {d p : Nat} (hp : D.K.1 = p) (G : ZOk Γ cX16_add RX16 5 (KnC D) (ZC D)) (M : ZRm Γ (d + 1) D.lim (Option.none : Option Jvm.ClassFile.FieldType) "add" []) (S : SdC d D p Γ.l) (hl : Γ.l.stackTraces = false) (hk : 0 ≤ d) {x0 : Nat} {x1 : Nat} {x2 : Nat} {w : CW} (h : pC_X16_add_73 p (wpC p d) (fun w => Γ.Q (.inl none) w) x0 x1 x2 w) : ZV Γ w 73 [(0, ar x0), (1, ar x1), (2, ar x2)] [] := by
  refine zc_wk G hp (fun hw tw => ?_)
  refine zv_aload_n G rfl rfl dX16_add_73 ?_
  have o5 := h.1
  have h := h.2
  refine zc_get (f := 81) (v := ar (fR w 81 x0)) G o5 rfl q1107 (Or.inl rfl) (cV_R rfl) dX16_add_74 ?_
  refine zv_aload_n G rfl rfl dX16_add_77 ?_
  have o6 := h.1
  have h := h.2
  refine zc_get (f := 83) (v := ai (fI w 83 x0)) G o6 rfl q1109 (Or.inl rfl) (cV_I (by decide) (by decide)) dX16_add_78 ?_
  refine zv_aload_n G rfl rfl dX16_add_81 ?_
  have o8 := h.1
  have h := h.2
  have o9 := h.1
  have h := h.2
  refine zc_aast G o8.1 o9 (hw.i 83 _ (by decide)) o8.2.1 o8.2.2 dX16_add_82 (fun u7 eu7 => ?_)
  have h := h u7 eu7
  refine zc_wk G hp (fun hu7 tu7 => ?_)
  refine zv_aload_n G rfl rfl dX16_add_83 ?_
  have o10 := h.1
  have h := h.2
  refine zc_get (f := 82) (v := ar (fR u7 82 x0)) G o10 rfl q1108 (Or.inl rfl) (cV_R rfl) dX16_add_84 ?_
  refine zv_aload_n G rfl rfl dX16_add_87 ?_
  have o11 := h.1
  have h := h.2
  refine zc_get (f := 83) (v := ai (fI u7 83 x0)) G o11 rfl q1109 (Or.inl rfl) (cV_I (by decide) (by decide)) dX16_add_88 ?_
  refine zv_aload_n G rfl rfl dX16_add_91 ?_
  have o13 := h.1
  have h := h.2
  have o14 := h.1
  have h := h.2
  refine zc_aast G o13.1 o14 (hu7.i 83 _ (by decide)) o13.2.1 o13.2.2 dX16_add_92 (fun u12 eu12 => ?_)
  have h := h u12 eu12
  refine zc_wk G hp (fun hu12 tu12 => ?_)
  refine zv_aload_n G rfl rfl dX16_add_93 ?_
  refine zv_dup G rfl dX16_add_94 ?_
  have o15 := h.1
  have h := h.2
  refine zc_get (f := 83) (v := ai (fI u12 83 x0)) G o15 rfl q1109 (Or.inl rfl) (cV_I (by decide) (by decide)) dX16_add_95 ?_
  refine zv_iconst (a := 1) G (by decide) dX16_add_98 ?_
  refine zv_iadd G dX16_add_99 ?_
  have o17 := h.1
  have h := h.2
  refine zc_putI (f := 83) G M o17 rfl q1109 (Or.inl rfl) (Or.inl rfl) (zfty_83) rfl rfl (by decide) (by decide) (w32_r _) dX16_add_100 (fun u16 eu16 => ?_)
  have h := h u16 eu16
  refine zc_wk G hp (fun hu16 tu16 => ?_)
  exact zv_vret G M dX16_add_103 h
set_option maxHeartbeats 4000000 in
set_option maxRecDepth 100000 in
theorem cpC_X16_add_0 {Γ : ZG CW} {D : CD} {d p : Nat} (hp : D.K.1 = p) (G : ZOk Γ cX16_add RX16 5 (KnC D) (ZC D)) (M : ZRm Γ (d + 1) D.lim (Option.none : Option Jvm.ClassFile.FieldType) "add" []) (S : SdC d D p Γ.l) (hl : Γ.l.stackTraces = false) (hk : 0 ≤ d) {x0 : Nat} {x1 : Nat} {x2 : Nat} {w : CW} (h : pC_X16_add_0 p (wpC p d) (fun w => Γ.Q (.inl none) w) x0 x1 x2 w) : ZV Γ w 0 [(0, ar x0), (1, ar x1), (2, ar x2)] [] := by
  refine zc_wk G hp (fun hw tw => ?_)
  refine zv_aload_n G rfl rfl dX16_add_0 ?_
  have o1 := h.1
  have h := h.2
  refine zc_get (f := 83) (v := ai (fI w 83 x0)) G o1 rfl q1109 (Or.inl rfl) (cV_I (by decide) (by decide)) dX16_add_1 ?_
  refine zv_aload_n G rfl rfl dX16_add_4 ?_
  have o2 := h.1
  have h := h.2
  refine zc_get (f := 81) (v := ar (fR w 81 x0)) G o2 rfl q1107 (Or.inl rfl) (cV_R rfl) dX16_add_5 ?_
  have o3 := h.1
  have h := h.2
  refine zc_alen G o3 dX16_add_8 ?_
  refine zv_icmp_ne (tgt := 73) G (hw.i 83 _ (by decide)) (zc_lnr hw _) (by decide) dX16_add_9 (fun c4 => ?_) (fun c4 => ?_)
  · have h := h.2 c4
    exact zv_pick [0, 1, 2] rfl (cpC_X16_add_73 hp G M S hl hk h)
  · have h := h.1 c4
    refine zv_iconst (a := 2) G (by decide) dX16_add_12 ?_
    refine zv_aload_n G rfl rfl dX16_add_13 ?_
    have o18 := h.1
    have h := h.2
    refine zc_get (f := 83) (v := ai (fI w 83 x0)) G o18 rfl q1109 (Or.inl rfl) (cV_I (by decide) (by decide)) dX16_add_14 ?_
    refine zv_imul G dX16_add_17 ?_
    have o20 := h.1
    have h := h.2
    refine zc_anew (t := 115) G M (by decide) q1099 o20.1 o20.2 dX16_add_18 (fun u19 eu19 => ?_)
    have h := h u19 eu19
    refine zc_wk G hp (fun hu19 tu19 => ?_)
    refine zv_astore_n G rfl (by decide) rfl dX16_add_21 ?_
    refine zv_aload_n G rfl rfl dX16_add_22 ?_
    have o21 := h.1
    have h := h.2
    refine zc_get (f := 81) (v := ar (fR u19 81 x0)) G o21 rfl q1107 (Or.inl rfl) (cV_R rfl) dX16_add_23 ?_
    refine zv_iconst (a := 0) G (by decide) dX16_add_26 ?_
    refine zv_aload_n G rfl rfl dX16_add_27 ?_
    refine zv_iconst (a := 0) G (by decide) dX16_add_28 ?_
    refine zv_aload_n G rfl rfl dX16_add_29 ?_
    have o22 := h.1
    have h := h.2
    refine zc_get (f := 83) (v := ai (fI u19 83 x0)) G o22 rfl q1109 (Or.inl rfl) (cV_I (by decide) (by decide)) dX16_add_30 ?_
    have o24 := h.1
    have h := h.2
    refine zc_copy G M q1182 q389 q388 q155 o24.1 o24.2 (Nat.le_of_ble_eq_true rfl) dX16_add_33 (fun u23 eu23 => ?_)
    have h := h u23 eu23
    refine zc_wk G hp (fun hu23 tu23 => ?_)
    refine zv_aload_n G rfl rfl dX16_add_36 ?_
    refine zv_aload_n G rfl rfl dX16_add_37 ?_
    have o26 := h.1
    have h := h.2
    refine zc_putR (f := 81) G M o26 rfl q1107 (Or.inl rfl) (Or.inl rfl) (zfty_81) (Or.inr ⟨_, rfl⟩) rfl dX16_add_38 (fun u25 eu25 => ?_)
    have h := h u25 eu25
    refine zc_wk G hp (fun hu25 tu25 => ?_)
    refine zv_iconst (a := 2) G (by decide) dX16_add_41 ?_
    refine zv_aload_n G rfl rfl dX16_add_42 ?_
    have o27 := h.1
    have h := h.2
    refine zc_get (f := 83) (v := ai (fI u25 83 x0)) G o27 rfl q1109 (Or.inl rfl) (cV_I (by decide) (by decide)) dX16_add_43 ?_
    refine zv_imul G dX16_add_46 ?_
    have o29 := h.1
    have h := h.2
    refine zc_anew (t := 118) G M (by decide) q1100 o29.1 o29.2 dX16_add_47 (fun u28 eu28 => ?_)
    have h := h u28 eu28
    refine zc_wk G hp (fun hu28 tu28 => ?_)
    refine zv_astore G (by decide) rfl dX16_add_50 ?_
    refine zv_aload_n G rfl rfl dX16_add_52 ?_
    have o30 := h.1
    have h := h.2
    refine zc_get (f := 82) (v := ar (fR u28 82 x0)) G o30 rfl q1108 (Or.inl rfl) (cV_R rfl) dX16_add_53 ?_
    refine zv_iconst (a := 0) G (by decide) dX16_add_56 ?_
    refine zv_aload G rfl dX16_add_57 ?_
    refine zv_iconst (a := 0) G (by decide) dX16_add_59 ?_
    refine zv_aload_n G rfl rfl dX16_add_60 ?_
    have o31 := h.1
    have h := h.2
    refine zc_get (f := 83) (v := ai (fI u28 83 x0)) G o31 rfl q1109 (Or.inl rfl) (cV_I (by decide) (by decide)) dX16_add_61 ?_
    have o33 := h.1
    have h := h.2
    refine zc_copy G M q1182 q389 q388 q155 o33.1 o33.2 (Nat.le_of_ble_eq_true rfl) dX16_add_64 (fun u32 eu32 => ?_)
    have h := h u32 eu32
    refine zc_wk G hp (fun hu32 tu32 => ?_)
    refine zv_aload_n G rfl rfl dX16_add_67 ?_
    refine zv_aload G rfl dX16_add_68 ?_
    have o35 := h.1
    have h := h.2
    refine zc_putR (f := 82) G M o35 rfl q1108 (Or.inl rfl) (Or.inl rfl) (zfty_82) (Or.inr ⟨_, rfl⟩) rfl dX16_add_70 (fun u34 eu34 => ?_)
    have h := h u34 eu34
    refine zc_wk G hp (fun hu34 tu34 => ?_)
    exact zv_pick [0, 1, 2] rfl (cpC_X16_add_73 hp G M S hl hk h)
set_option maxHeartbeats 4000000 in
set_option maxRecDepth 100000 in
theorem cpC_X16_isOut_47 {Γ : ZG CW} {D : CD} {d p : Nat} (hp : D.K.1 = p) (G : ZOk Γ cX16_isOut RX16 4 (KnC D) (ZC D)) (M : ZRm Γ (d + 1) D.lim (Option.some Jvm.ClassFile.FieldType.boolean) "isOut" []) (S : SdC d D p Γ.l) (hl : Γ.l.stackTraces = false) (hk : 0 ≤ d) {x2 : Int} {w : CW} (rx2 : zr x2) (h : pC_X16_isOut_47 p (wpC p d) (fun v w => Γ.Q (.inl (some (ai v))) w) x2 w) : ZV Γ w 47 [(2, ai x2)] [] := by
  refine zc_wk G hp (fun hw tw => ?_)
  refine zv_iload_n G rfl rfl dX16_isOut_47 ?_
  exact zv_iret (ty := .boolean) rx2 G M (zn_Z h.1) dX16_isOut_48 h.2
set_option maxHeartbeats 4000000 in
set_option maxRecDepth 100000 in
theorem cpC_X16_isOut_4 {Γ : ZG CW} {D : CD} {d p : Nat} (hp : D.K.1 = p) (G : ZOk Γ cX16_isOut RX16 4 (KnC D) (ZC D)) (M : ZRm Γ (d + 1) D.lim (Option.some Jvm.ClassFile.FieldType.boolean) "isOut" []) (S : SdC d D p Γ.l) (hl : Γ.l.stackTraces = false) (hk : 0 ≤ d) {x0 : Nat} {x1 : Nat} {x2 : Int} {x3 : Int} {w : CW} (rx2 : zr x2) (rx3 : zr x3) (h : pC_X16_isOut_4 p (wpC p d) (fun v w => Γ.Q (.inl (some (ai v))) w) x0 x1 x2 x3 w) : ZV Γ w 4 [(0, ar x0), (1, ar x1), (2, ai x2), (3, ai x3)] [] := by
  obtain ⟨I4, eI4⟩ : ∃ I : Int → Int → CW → Prop, I = (fun x2 x3 w => zr x2 → zr x3 → ZV Γ w 4 [(0, ar x0), (1, ar x1), (2, ai x2), (3, ai x3)] []) := ⟨_, rfl⟩
  have hI4 : ∀ (x2 : Int) (x3 : Int) (w : CW), I4 x2 x3 w → zr x2 → zr x3 → ZV Γ w 4 [(0, ar x0), (1, ar x1), (2, ai x2), (3, ai x3)] [] := by subst eI4; exact fun _ _ _ z => z
  have hJ4 : ∀ (x2 : Int) (x3 : Int) (w : CW), (zr x2 → zr x3 → ZV Γ w 4 [(0, ar x0), (1, ar x1), (2, ai x2), (3, ai x3)] []) → I4 x2 x3 w := by subst eI4; exact fun _ _ _ z => z
  refine hI4 x2 x3 w (h I4 (fun x2 x3 w h => hJ4 x2 x3 w (fun rx2 rx3 => ?_))) rx2 rx3
  refine zc_wk G hp (fun hw tw => ?_)
  refine zv_iload_n G rfl rfl dX16_isOut_4 ?_
  refine zv_aload_n G rfl rfl dX16_isOut_5 ?_
  have o1 := h.1
  have h := h.2
  refine zc_get (f := 83) (v := ai (fI w 83 x0)) G o1 rfl q1109 (Or.inl rfl) (cV_I (by decide) (by decide)) dX16_isOut_6 ?_
  have kt18 : ¬ ((fI w 83 x0) ≤ x3) ∧ (x2 = 0) → ZV Γ w 16 [(0, ar x0), (1, ar x1), (2, ai x2), (3, ai x3)] [] := by
    intro c20
    have h := h.1 c20
    refine zv_aload_n G rfl rfl dX16_isOut_16 ?_
    have o2 := h.1
    have h := h.2
    refine zc_get (f := 82) (v := ar (fR w 82 x0)) G o2 rfl q1108 (Or.inl rfl) (cV_R rfl) dX16_isOut_17 ?_
    refine zv_iload_n G rfl rfl dX16_isOut_20 ?_
    have o3 := h.1
    have h := h.2
    refine zc_aald G o3.1 rx3 o3.2.1 o3.2.2 dX16_isOut_21 ?_
    refine zv_aload_n G rfl rfl dX16_isOut_22 ?_
    refine zv_aload_n G rfl rfl dX16_isOut_23 ?_
    have o4 := h.1
    have h := h.2
    refine zc_get (f := 81) (v := ar (fR w 81 x0)) G o4 rfl q1107 (Or.inl rfl) (cV_R rfl) dX16_isOut_24 ?_
    refine zv_iload_n G rfl rfl dX16_isOut_27 ?_
    have o5 := h.1
    have h := h.2
    refine zc_aald G o5.1 rx3 o5.2.1 o5.2.2 dX16_isOut_28 ?_
    have kj12 : ∀ (v7 : Int) (u6 : CW), zr v7 → (
        ∀ v8 : Int, v8 = (if ¬ (0 ≤ v7) then 1 else 0) →
        ∀ x3_9 : Int, x3_9 = w32 (x3 + 1) →
        I4 v8 x3_9 u6) → ZV Γ u6 32 [(0, ar x0), (1, ar x1), (2, ai x2), (3, ai x3)] [ai v7] := by
      intro v7 u6 rv7 h
      refine zc_wk G hp (fun hu6 tu6 => ?_)
      have kj10 : ∀ v8 : Int, v8 = (if ¬ (0 ≤ v7) then 1 else 0) → ZV Γ u6 40 [(0, ar x0), (1, ar x1), (2, ai x2), (3, ai x3)] (ai v8 :: []) := by
        intro v8 ev8
        have h := h v8 ev8
        have rv8 : zr v8 := by rw [ev8]; exact (zr_ite (zr_k 1 (by decide) (by decide)) (zr_k 0 (by decide) (by decide)))
        have bv8 : v8 = 0 ∨ v8 = 1 := by rw [ev8]; exact (zb_ite (Or.inr rfl) (Or.inl rfl))
        refine zv_istore_n G rfl (by decide) rfl dX16_isOut_40 ?_
        refine zv_iincN G rfl (by decide) dX16_isOut_41 (fun x3_9 ex3_9 => ?_)
        have h := h x3_9 ex3_9
        have rx3_9 : zr x3_9 := by rw [ex3_9]; exact w32_r _
        refine zv_goto (tgt := 4) G (by decide) dX16_isOut_44 ?_
        exact zv_pick [0, 1, 2, 3] rfl (hI4 _ _ _ h rv8 rx3_9)
      refine zv_if_ge (tgt := 39) G rv7 (by decide) dX16_isOut_32 (fun c11 => ?_) (fun c11 => ?_)
      · refine zv_iconst (a := 0) G (by decide) dX16_isOut_39 ?_
        exact kj10 _ (if_neg (fun q => q c11)).symm
      · refine zv_iconst (a := 1) G (by decide) dX16_isOut_35 ?_
        refine zv_goto (tgt := 40) G (by decide) dX16_isOut_36 ?_
        exact kj10 _ (if_pos c11).symm
    have h : wpC p d (vm12 (tg w (aR w (fR w 82 x0) x3))) [ar (aR w (fR w 82 x0) x3), ar x1, ar (aR w (fR w 81 x0) x3)] w _ := h
    by_cases c13 : tg w (aR w (fR w 82 x0) x3) = 7
    · have e : vm12 (tg w (aR w (fR w 82 x0) x3)) = 100 := by rw [c13]; rfl
      rw [e] at h
      exact zv_callI (as := [ar (aR w (fR w 82 x0) x3), ar x1, ar (aR w (fR w 81 x0) x3)]) (st := []) G M (zc_eU (C := zcn 7) G q1294 q1296 (zc_declD G q1295) ⟨by decide, by decide⟩ q1304 q1305 mdx_4 (zc_rc G (zne tw c13 (by decide)) c13 (by decide) (by decide) rfl) rfl dX16_isOut_29) (S 100 _ rfl _ _ _ h (zoks_cons trivial (zoks_cons trivial (zoks_cons trivial zoks_nil)))) (Or.inl ⟨rfl, rfl⟩) (zc_hk q1306 q165) (by decide) (Nat.le_of_ble_eq_true rfl) kj12 (fun _ _ h => h.elim)
    by_cases c14 : tg w (aR w (fR w 82 x0) x3) = 8
    · have e : vm12 (tg w (aR w (fR w 82 x0) x3)) = 105 := by rw [c14]; rfl
      rw [e] at h
      exact zv_callI (as := [ar (aR w (fR w 82 x0) x3), ar x1, ar (aR w (fR w 81 x0) x3)]) (st := []) G M (zc_eU (C := zcn 8) G q1294 q1296 (zc_declD G q1295) ⟨by decide, by decide⟩ q1297 q1298 mdx_4 (zc_rc G (zne tw c14 (by decide)) c14 (by decide) (by decide) rfl) rfl dX16_isOut_29) (S 105 _ rfl _ _ _ h (zoks_cons trivial (zoks_cons trivial (zoks_cons trivial zoks_nil)))) (Or.inl ⟨rfl, rfl⟩) (zc_hk q1299 q166) (by decide) (Nat.le_of_ble_eq_true rfl) kj12 (fun _ _ h => h.elim)
    by_cases c15 : tg w (aR w (fR w 82 x0) x3) = 10
    · have e : vm12 (tg w (aR w (fR w 82 x0) x3)) = 112 := by rw [c15]; rfl
      rw [e] at h
      exact zv_callI (as := [ar (aR w (fR w 82 x0) x3), ar x1, ar (aR w (fR w 81 x0) x3)]) (st := []) G M (zc_eU (C := zcn 10) G q1294 q1296 (zc_declD G q1295) ⟨by decide, by decide⟩ q1310 q1311 mdx_4 (zc_rc G (zne tw c15 (by decide)) c15 (by decide) (by decide) rfl) rfl dX16_isOut_29) (S 112 _ rfl _ _ _ h (zoks_cons trivial (zoks_cons trivial (zoks_cons trivial zoks_nil)))) (Or.inl ⟨rfl, rfl⟩) (zc_hk q1312 q168) (by decide) (Nat.le_of_ble_eq_true rfl) kj12 (fun _ _ h => h.elim)
    by_cases c16 : tg w (aR w (fR w 82 x0) x3) = 11
    · have e : vm12 (tg w (aR w (fR w 82 x0) x3)) = 115 := by rw [c16]; rfl
      rw [e] at h
      exact zv_callI (as := [ar (aR w (fR w 82 x0) x3), ar x1, ar (aR w (fR w 81 x0) x3)]) (st := []) G M (zc_eU (C := zcn 11) G q1294 q1296 (zc_declD G q1295) ⟨by decide, by decide⟩ q1307 q1308 mdx_4 (zc_rc G (zne tw c16 (by decide)) c16 (by decide) (by decide) rfl) rfl dX16_isOut_29) (S 115 _ rfl _ _ _ h (zoks_cons trivial (zoks_cons trivial (zoks_cons trivial zoks_nil)))) (Or.inl ⟨rfl, rfl⟩) (zc_hk q1309 q169) (by decide) (Nat.le_of_ble_eq_true rfl) kj12 (fun _ _ h => h.elim)
    by_cases c17 : tg w (aR w (fR w 82 x0) x3) = 12
    · have e : vm12 (tg w (aR w (fR w 82 x0) x3)) = 118 := by rw [c17]; rfl
      rw [e] at h
      exact zv_callI (as := [ar (aR w (fR w 82 x0) x3), ar x1, ar (aR w (fR w 81 x0) x3)]) (st := []) G M (zc_eU (C := zcn 12) G q1294 q1296 (zc_declD G q1295) ⟨by decide, by decide⟩ q1301 q1302 mdx_4 (zc_rc G (zne tw c17 (by decide)) c17 (by decide) (by decide) rfl) rfl dX16_isOut_29) (S 118 _ rfl _ _ _ h (zoks_cons trivial (zoks_cons trivial (zoks_cons trivial zoks_nil)))) (Or.inl ⟨rfl, rfl⟩) (zc_hk q1303 q170) (by decide) (Nat.le_of_ble_eq_true rfl) kj12 (fun _ _ h => h.elim)
    have e : vm12 (tg w (aR w (fR w 82 x0) x3)) = 9999 := by unfold vm12; rw [if_neg c13, if_neg c14, if_neg c15, if_neg c16, if_neg c17]
    rw [e] at h
    exact (wpC_none h).elim
  have kf19 : ¬ (¬ ((fI w 83 x0) ≤ x3) ∧ (x2 = 0)) → ZV Γ w 47 [(0, ar x0), (1, ar x1), (2, ai x2), (3, ai x3)] [] := by
    intro c20
    have h := h.2 c20
    exact zv_pick [2] rfl (cpC_X16_isOut_47 hp G M S hl hk rx2 h)
  refine zv_icmp_ge (tgt := 47) G rx3 (hw.i 83 _ (by decide)) (by decide) dX16_isOut_9 (fun c21 => ?_) (fun c21 => ?_)
  · exact kf19 (fun q => q.1 c21)
  · refine zv_iload_n G rfl rfl dX16_isOut_12 ?_
    refine zv_if_ne (tgt := 47) G rx2 (by decide) dX16_isOut_13 (fun c22 => ?_) (fun c22 => ?_)
    · exact kf19 (fun q => c22 q.2)
    · exact kt18 ⟨c21, c22⟩
set_option maxHeartbeats 4000000 in
set_option maxRecDepth 100000 in
theorem cpC_X16_isOut_0 {Γ : ZG CW} {D : CD} {d p : Nat} (hp : D.K.1 = p) (G : ZOk Γ cX16_isOut RX16 4 (KnC D) (ZC D)) (M : ZRm Γ (d + 1) D.lim (Option.some Jvm.ClassFile.FieldType.boolean) "isOut" []) (S : SdC d D p Γ.l) (hl : Γ.l.stackTraces = false) (hk : 0 ≤ d) {x0 : Nat} {x1 : Nat} {w : CW} (h : pC_X16_isOut_0 p (wpC p d) (fun v w => Γ.Q (.inl (some (ai v))) w) x0 x1 w) : ZV Γ w 0 [(0, ar x0), (1, ar x1)] [] := by
  refine zc_wk G hp (fun hw tw => ?_)
  refine zv_iconst (a := 0) G (by decide) dX16_isOut_0 ?_
  refine zv_istore_n G rfl (by decide) rfl dX16_isOut_1 ?_
  refine zv_iconst (a := 0) G (by decide) dX16_isOut_2 ?_
  refine zv_istore_n G rfl (by decide) rfl dX16_isOut_3 ?_
  exact zv_pick [0, 1, 2, 3] rfl (cpC_X16_isOut_4 hp G M S hl hk (zr_k 0 (by decide) (by decide)) (zr_k 0 (by decide) (by decide)) h)
set_option maxHeartbeats 4000000 in
set_option maxRecDepth 100000 in
theorem cpC_X16_asked_110 {Γ : ZG CW} {D : CD} {d p : Nat} (hp : D.K.1 = p) (G : ZOk Γ cX16_asked RX16 7 (KnC D) (ZC D)) (M : ZRm Γ (d + 1) D.lim (Option.some Jvm.ClassFile.FieldType.int) "asked" []) (S : SdC d D p Γ.l) (hl : Γ.l.stackTraces = false) (hk : 0 ≤ d) {x3 : Int} {w : CW} (rx3 : zr x3) (h : pC_X16_asked_110 p (wpC p d) (fun v w => Γ.Q (.inl (some (ai v))) w) x3 w) : ZV Γ w 110 [(3, ai x3)] [] := by
  refine zc_wk G hp (fun hw tw => ?_)
  refine zv_iload_n G rfl rfl dX16_asked_110 ?_
  exact zv_iret (ty := .int) rx3 G M rfl dX16_asked_111 h
set_option maxHeartbeats 4000000 in
set_option maxRecDepth 100000 in
theorem cpC_X16_asked_104 {Γ : ZG CW} {D : CD} {d p : Nat} (hp : D.K.1 = p) (G : ZOk Γ cX16_asked RX16 7 (KnC D) (ZC D)) (M : ZRm Γ (d + 1) D.lim (Option.some Jvm.ClassFile.FieldType.int) "asked" []) (S : SdC d D p Γ.l) (hl : Γ.l.stackTraces = false) (hk : 0 ≤ d) {I5 : Int → Int → CW → Prop} {x0 : Nat} {x1 : Nat} {x2 : Nat} {x3 : Int} {x4 : Int} {w : CW} (hI5 : ∀ (x3 : Int) (x4 : Int) (w : CW), I5 x3 x4 w → zr x3 → zr x4 → ZV Γ w 5 [(0, ar x0), (1, ar x1), (2, ar x2), (3, ai x3), (4, ai x4)] []) (rx3 : zr x3) (rx4 : zr x4) (h : pC_X16_asked_104 p (wpC p d) (fun v w => Γ.Q (.inl (some (ai v))) w) I5 x0 x1 x2 x3 x4 w) : ZV Γ w 104 [(0, ar x0), (1, ar x1), (2, ar x2), (3, ai x3), (4, ai x4)] [] := by
  refine zc_wk G hp (fun hw tw => ?_)
  refine zv_iincN G rfl (by decide) dX16_asked_104 (fun x4_21 ex4_21 => ?_)
  have h := h x4_21 ex4_21
  have rx4_21 : zr x4_21 := by rw [ex4_21]; exact w32_r _
  refine zv_goto (tgt := 5) G (by decide) dX16_asked_107 ?_
  exact zv_pick [0, 1, 2, 3, 4] rfl (hI5 _ _ _ h rx3 rx4_21)
set_option maxHeartbeats 4000000 in
set_option maxRecDepth 100000 in
theorem cpC_X16_asked_86 {Γ : ZG CW} {D : CD} {d p : Nat} (hp : D.K.1 = p) (G : ZOk Γ cX16_asked RX16 7 (KnC D) (ZC D)) (M : ZRm Γ (d + 1) D.lim (Option.some Jvm.ClassFile.FieldType.int) "asked" []) (S : SdC d D p Γ.l) (hl : Γ.l.stackTraces = false) (hk : 0 ≤ d) {I5 : Int → Int → CW → Prop} {x0 : Nat} {x1 : Nat} {x2 : Nat} {x3 : Int} {x4 : Int} {x5 : Int} {w : CW} (hI5 : ∀ (x3 : Int) (x4 : Int) (w : CW), I5 x3 x4 w → zr x3 → zr x4 → ZV Γ w 5 [(0, ar x0), (1, ar x1), (2, ar x2), (3, ai x3), (4, ai x4)] []) (rx3 : zr x3) (rx4 : zr x4) (rx5 : zr x5) (h : pC_X16_asked_86 p (wpC p d) (fun v w => Γ.Q (.inl (some (ai v))) w) I5 x0 x1 x2 x3 x4 x5 w) : ZV Γ w 86 [(0, ar x0), (1, ar x1), (2, ar x2), (3, ai x3), (4, ai x4), (5, ai x5)] [] := by
  refine zc_wk G hp (fun hw tw => ?_)
  refine zv_iload G rfl dX16_asked_86 ?_
  refine zv_if_eq (tgt := 104) G rx5 (by decide) dX16_asked_88 (fun c20 => ?_) (fun c20 => ?_)
  · have h := h.1 c20
    exact zv_pick [0, 1, 2, 3, 4] rfl (cpC_X16_asked_104 hp G M S hl hk hI5 rx3 rx4 h)
  · have h := h.2 c20
    refine zv_aload_n G rfl rfl dX16_asked_91 ?_
    refine zv_iload_n G rfl rfl dX16_asked_92 ?_
    refine zv_aload_n G rfl rfl dX16_asked_93 ?_
    have o22 := h.1
    have h := h.2
    refine zc_get (f := 81) (v := ar (fR w 81 x0)) G o22 rfl q1107 (Or.inl rfl) (cV_R rfl) dX16_asked_94 ?_
    refine zv_iload G rfl dX16_asked_97 ?_
    have o23 := h.1
    have h := h.2
    refine zc_aald G o23.1 rx4 o23.2.1 o23.2.2 dX16_asked_99 ?_
    have o25 := h.1
    have h := h.2
    have o26 := h.1
    have h := h.2
    refine zc_aast G o25.1 o26 rx3 o25.2.1 o25.2.2 dX16_asked_100 (fun u24 eu24 => ?_)
    have h := h u24 eu24
    refine zc_wk G hp (fun hu24 tu24 => ?_)
    refine zv_iincN G rfl (by decide) dX16_asked_101 (fun x3_27 ex3_27 => ?_)
    have h := h x3_27 ex3_27
    have rx3_27 : zr x3_27 := by rw [ex3_27]; exact w32_r _
    exact zv_pick [0, 1, 2, 3, 4] rfl (cpC_X16_asked_104 hp G M S hl hk hI5 rx3_27 rx4 h)
set_option maxHeartbeats 4000000 in
set_option maxRecDepth 100000 in
theorem cpC_X16_asked_45 {Γ : ZG CW} {D : CD} {d p : Nat} (hp : D.K.1 = p) (G : ZOk Γ cX16_asked RX16 7 (KnC D) (ZC D)) (M : ZRm Γ (d + 1) D.lim (Option.some Jvm.ClassFile.FieldType.int) "asked" []) (S : SdC d D p Γ.l) (hl : Γ.l.stackTraces = false) (hk : 0 ≤ d) {I5 : Int → Int → CW → Prop} {x0 : Nat} {x1 : Nat} {x2 : Nat} {x3 : Int} {x4 : Int} {x5 : Int} {x6 : Int} {w : CW} (hI5 : ∀ (x3 : Int) (x4 : Int) (w : CW), I5 x3 x4 w → zr x3 → zr x4 → ZV Γ w 5 [(0, ar x0), (1, ar x1), (2, ar x2), (3, ai x3), (4, ai x4)] []) (rx3 : zr x3) (rx4 : zr x4) (rx5 : zr x5) (rx6 : zr x6) (h : pC_X16_asked_45 p (wpC p d) (fun v w => Γ.Q (.inl (some (ai v))) w) I5 x0 x1 x2 x3 x4 x5 x6 w) : ZV Γ w 45 [(0, ar x0), (1, ar x1), (2, ar x2), (3, ai x3), (4, ai x4), (5, ai x5), (6, ai x6)] [] := by
  obtain ⟨I45, eI45⟩ : ∃ I : Int → Int → CW → Prop, I = (fun x5 x6 w => zr x5 → zr x6 → ZV Γ w 45 [(0, ar x0), (1, ar x1), (2, ar x2), (3, ai x3), (4, ai x4), (5, ai x5), (6, ai x6)] []) := ⟨_, rfl⟩
  have hI45 : ∀ (x5 : Int) (x6 : Int) (w : CW), I45 x5 x6 w → zr x5 → zr x6 → ZV Γ w 45 [(0, ar x0), (1, ar x1), (2, ar x2), (3, ai x3), (4, ai x4), (5, ai x5), (6, ai x6)] [] := by subst eI45; exact fun _ _ _ z => z
  have hJ45 : ∀ (x5 : Int) (x6 : Int) (w : CW), (zr x5 → zr x6 → ZV Γ w 45 [(0, ar x0), (1, ar x1), (2, ar x2), (3, ai x3), (4, ai x4), (5, ai x5), (6, ai x6)] []) → I45 x5 x6 w := by subst eI45; exact fun _ _ _ z => z
  refine hI45 x5 x6 w (h I45 (fun x5 x6 w h => hJ45 x5 x6 w (fun rx5 rx6 => ?_))) rx5 rx6
  refine zc_wk G hp (fun hw tw => ?_)
  refine zv_iload G rfl dX16_asked_45 ?_
  refine zv_iload_n G rfl rfl dX16_asked_47 ?_
  have kt28 : ¬ (x3 ≤ x6) ∧ (¬ (x5 = 0)) → ZV Γ w 56 [(0, ar x0), (1, ar x1), (2, ar x2), (3, ai x3), (4, ai x4), (5, ai x5), (6, ai x6)] [] := by
    intro c30
    have h := h.1 c30
    refine zv_aload_n G rfl rfl dX16_asked_56 ?_
    have o10 := h.1
    have h := h.2
    refine zc_get (f := 81) (v := ar (fR w 81 x0)) G o10 rfl q1107 (Or.inl rfl) (cV_R rfl) dX16_asked_57 ?_
    refine zv_iload G rfl dX16_asked_60 ?_
    have o11 := h.1
    have h := h.2
    refine zc_aald G o11.1 rx4 o11.2.1 o11.2.2 dX16_asked_62 ?_
    refine zv_aload_n G rfl rfl dX16_asked_63 ?_
    refine zv_iload G rfl dX16_asked_64 ?_
    have o12 := h.1
    have h := h.2
    refine zc_aald G o12.1 rx6 o12.2.1 o12.2.2 dX16_asked_66 ?_
    have o19 := h.1
    have h := h.2
    refine zv_callI (as := [ar (aR w (fR w 81 x0) x4), ar (aR w x2 x6)]) (st := []) G M (zc_eV (C := zcn 15) G q1371 q1372 q1373 (Or.inl ⟨rfl, rfl⟩) q1374 md_X17_isWithin (zc_rc G (zne tw o19 (by decide)) o19 (by decide) (by decide) rfl) rfl dX16_asked_67) (S 130 _ rfl _ _ _ h (zoks_cons trivial (zoks_cons trivial zoks_nil))) (Or.inl ⟨rfl, rfl⟩) (zc_hk q1374 q173) (by decide) (Nat.le_of_ble_eq_true rfl) (fun v14 u13 rv14 h => ?_) (fun _ _ h => h.elim)
    refine zc_wk G hp (fun hu13 tu13 => ?_)
    have kj17 : ∀ v15 : Int, v15 = (if v14 = 0 then 1 else 0) → ZV Γ u13 78 [(0, ar x0), (1, ar x1), (2, ar x2), (3, ai x3), (4, ai x4), (5, ai x5), (6, ai x6)] (ai v15 :: []) := by
      intro v15 ev15
      have h := h v15 ev15
      have rv15 : zr v15 := by rw [ev15]; exact (zr_ite (zr_k 1 (by decide) (by decide)) (zr_k 0 (by decide) (by decide)))
      have bv15 : v15 = 0 ∨ v15 = 1 := by rw [ev15]; exact (zb_ite (Or.inr rfl) (Or.inl rfl))
      refine zv_istore G (by decide) rfl dX16_asked_78 ?_
      refine zv_iincN G rfl (by decide) dX16_asked_80 (fun x6_16 ex6_16 => ?_)
      have h := h x6_16 ex6_16
      have rx6_16 : zr x6_16 := by rw [ex6_16]; exact w32_r _
      refine zv_goto (tgt := 45) G (by decide) dX16_asked_83 ?_
      exact zv_pick [0, 1, 2, 3, 4, 5, 6] rfl (hI45 _ _ _ h rv15 rx6_16)
    refine zv_if_ne (tgt := 77) G rv14 (by decide) dX16_asked_70 (fun c18 => ?_) (fun c18 => ?_)
    · refine zv_iconst (a := 0) G (by decide) dX16_asked_77 ?_
      exact kj17 _ (if_neg c18).symm
    · refine zv_iconst (a := 1) G (by decide) dX16_asked_73 ?_
      refine zv_goto (tgt := 78) G (by decide) dX16_asked_74 ?_
      exact kj17 _ (if_pos c18).symm
  have kf29 : ¬ (¬ (x3 ≤ x6) ∧ (¬ (x5 = 0))) → ZV Γ w 86 [(0, ar x0), (1, ar x1), (2, ar x2), (3, ai x3), (4, ai x4), (5, ai x5), (6, ai x6)] [] := by
    intro c30
    have h := h.2 c30
    exact zv_pick [0, 1, 2, 3, 4, 5] rfl (cpC_X16_asked_86 hp G M S hl hk hI5 rx3 rx4 rx5 h)
  refine zv_icmp_ge (tgt := 86) G rx6 rx3 (by decide) dX16_asked_48 (fun c31 => ?_) (fun c31 => ?_)
  · exact kf29 (fun q => q.1 c31)
  · refine zv_iload G rfl dX16_asked_51 ?_
    refine zv_if_eq (tgt := 86) G rx5 (by decide) dX16_asked_53 (fun c32 => ?_) (fun c32 => ?_)
    · exact kf29 (fun q => (fun q => q c32) q.2)
    · exact kt28 ⟨c31, c32⟩
set_option maxHeartbeats 4000000 in
set_option maxRecDepth 100000 in
theorem cpC_X16_asked_5 {Γ : ZG CW} {D : CD} {d p : Nat} (hp : D.K.1 = p) (G : ZOk Γ cX16_asked RX16 7 (KnC D) (ZC D)) (M : ZRm Γ (d + 1) D.lim (Option.some Jvm.ClassFile.FieldType.int) "asked" []) (S : SdC d D p Γ.l) (hl : Γ.l.stackTraces = false) (hk : 0 ≤ d) {x0 : Nat} {x1 : Nat} {x2 : Nat} {x3 : Int} {x4 : Int} {w : CW} (rx3 : zr x3) (rx4 : zr x4) (h : pC_X16_asked_5 p (wpC p d) (fun v w => Γ.Q (.inl (some (ai v))) w) x0 x1 x2 x3 x4 w) : ZV Γ w 5 [(0, ar x0), (1, ar x1), (2, ar x2), (3, ai x3), (4, ai x4)] [] := by
  obtain ⟨I5, eI5⟩ : ∃ I : Int → Int → CW → Prop, I = (fun x3 x4 w => zr x3 → zr x4 → ZV Γ w 5 [(0, ar x0), (1, ar x1), (2, ar x2), (3, ai x3), (4, ai x4)] []) := ⟨_, rfl⟩
  have hI5 : ∀ (x3 : Int) (x4 : Int) (w : CW), I5 x3 x4 w → zr x3 → zr x4 → ZV Γ w 5 [(0, ar x0), (1, ar x1), (2, ar x2), (3, ai x3), (4, ai x4)] [] := by subst eI5; exact fun _ _ _ z => z
  have hJ5 : ∀ (x3 : Int) (x4 : Int) (w : CW), (zr x3 → zr x4 → ZV Γ w 5 [(0, ar x0), (1, ar x1), (2, ar x2), (3, ai x3), (4, ai x4)] []) → I5 x3 x4 w := by subst eI5; exact fun _ _ _ z => z
  refine hI5 x3 x4 w (h I5 (fun x3 x4 w h => hJ5 x3 x4 w (fun rx3 rx4 => ?_))) rx3 rx4
  refine zc_wk G hp (fun hw tw => ?_)
  refine zv_iload G rfl dX16_asked_5 ?_
  refine zv_aload_n G rfl rfl dX16_asked_7 ?_
  have o1 := h.1
  have h := h.2
  refine zc_get (f := 83) (v := ai (fI w 83 x0)) G o1 rfl q1109 (Or.inl rfl) (cV_I (by decide) (by decide)) dX16_asked_8 ?_
  refine zv_icmp_ge (tgt := 110) G rx4 (hw.i 83 _ (by decide)) (by decide) dX16_asked_11 (fun c2 => ?_) (fun c2 => ?_)
  · have h := h.1 c2
    exact zv_pick [3] rfl (cpC_X16_asked_110 hp G M S hl hk rx3 h)
  · have h := h.2 c2
    refine zv_aload_n G rfl rfl dX16_asked_14 ?_
    have o3 := h.1
    have h := h.2
    refine zc_get (f := 82) (v := ar (fR w 82 x0)) G o3 rfl q1108 (Or.inl rfl) (cV_R rfl) dX16_asked_15 ?_
    refine zv_iload G rfl dX16_asked_18 ?_
    have o4 := h.1
    have h := h.2
    refine zc_aald G o4.1 rx4 o4.2.1 o4.2.2 dX16_asked_20 ?_
    refine zv_aload_n G rfl rfl dX16_asked_21 ?_
    refine zv_aload_n G rfl rfl dX16_asked_22 ?_
    have o5 := h.1
    have h := h.2
    refine zc_get (f := 81) (v := ar (fR w 81 x0)) G o5 rfl q1107 (Or.inl rfl) (cV_R rfl) dX16_asked_23 ?_
    refine zv_iload G rfl dX16_asked_26 ?_
    have o6 := h.1
    have h := h.2
    refine zc_aald G o6.1 rx4 o6.2.1 o6.2.2 dX16_asked_28 ?_
    have kj35 : ∀ (v8 : Int) (u7 : CW), zr v8 → (
        ∀ v9 : Int, v9 = (if v8 = 0 then 1 else 0) →
        pC_X16_asked_45 p (wpC p d) (fun v w => Γ.Q (.inl (some (ai v))) w) I5 x0 x1 x2 x3 x4 v9 0 u7) → ZV Γ u7 32 [(0, ar x0), (1, ar x1), (2, ar x2), (3, ai x3), (4, ai x4)] [ai v8] := by
      intro v8 u7 rv8 h
      refine zc_wk G hp (fun hu7 tu7 => ?_)
      have kj33 : ∀ v9 : Int, v9 = (if v8 = 0 then 1 else 0) → ZV Γ u7 40 [(0, ar x0), (1, ar x1), (2, ar x2), (3, ai x3), (4, ai x4)] (ai v9 :: []) := by
        intro v9 ev9
        have h := h v9 ev9
        have rv9 : zr v9 := by rw [ev9]; exact (zr_ite (zr_k 1 (by decide) (by decide)) (zr_k 0 (by decide) (by decide)))
        have bv9 : v9 = 0 ∨ v9 = 1 := by rw [ev9]; exact (zb_ite (Or.inr rfl) (Or.inl rfl))
        refine zv_istore G (by decide) rfl dX16_asked_40 ?_
        refine zv_iconst (a := 0) G (by decide) dX16_asked_42 ?_
        refine zv_istore G (by decide) rfl dX16_asked_43 ?_
        exact zv_pick [0, 1, 2, 3, 4, 5, 6] rfl (cpC_X16_asked_45 hp G M S hl hk hI5 rx3 rx4 rv9 (zr_k 0 (by decide) (by decide)) h)
      refine zv_if_ne (tgt := 39) G rv8 (by decide) dX16_asked_32 (fun c34 => ?_) (fun c34 => ?_)
      · refine zv_iconst (a := 0) G (by decide) dX16_asked_39 ?_
        exact kj33 _ (if_neg c34).symm
      · refine zv_iconst (a := 1) G (by decide) dX16_asked_35 ?_
        refine zv_goto (tgt := 40) G (by decide) dX16_asked_36 ?_
        exact kj33 _ (if_pos c34).symm
    have h : wpC p d (vm12 (tg w (aR w (fR w 82 x0) x4))) [ar (aR w (fR w 82 x0) x4), ar x1, ar (aR w (fR w 81 x0) x4)] w _ := h
    by_cases c36 : tg w (aR w (fR w 82 x0) x4) = 7
    · have e : vm12 (tg w (aR w (fR w 82 x0) x4)) = 100 := by rw [c36]; rfl
      rw [e] at h
      exact zv_callI (as := [ar (aR w (fR w 82 x0) x4), ar x1, ar (aR w (fR w 81 x0) x4)]) (st := []) G M (zc_eU (C := zcn 7) G q1294 q1296 (zc_declD G q1295) ⟨by decide, by decide⟩ q1304 q1305 mdx_4 (zc_rc G (zne tw c36 (by decide)) c36 (by decide) (by decide) rfl) rfl dX16_asked_29) (S 100 _ rfl _ _ _ h (zoks_cons trivial (zoks_cons trivial (zoks_cons trivial zoks_nil)))) (Or.inl ⟨rfl, rfl⟩) (zc_hk q1306 q165) (by decide) (Nat.le_of_ble_eq_true rfl) kj35 (fun _ _ h => h.elim)
    by_cases c37 : tg w (aR w (fR w 82 x0) x4) = 8
    · have e : vm12 (tg w (aR w (fR w 82 x0) x4)) = 105 := by rw [c37]; rfl
      rw [e] at h
      exact zv_callI (as := [ar (aR w (fR w 82 x0) x4), ar x1, ar (aR w (fR w 81 x0) x4)]) (st := []) G M (zc_eU (C := zcn 8) G q1294 q1296 (zc_declD G q1295) ⟨by decide, by decide⟩ q1297 q1298 mdx_4 (zc_rc G (zne tw c37 (by decide)) c37 (by decide) (by decide) rfl) rfl dX16_asked_29) (S 105 _ rfl _ _ _ h (zoks_cons trivial (zoks_cons trivial (zoks_cons trivial zoks_nil)))) (Or.inl ⟨rfl, rfl⟩) (zc_hk q1299 q166) (by decide) (Nat.le_of_ble_eq_true rfl) kj35 (fun _ _ h => h.elim)
    by_cases c38 : tg w (aR w (fR w 82 x0) x4) = 10
    · have e : vm12 (tg w (aR w (fR w 82 x0) x4)) = 112 := by rw [c38]; rfl
      rw [e] at h
      exact zv_callI (as := [ar (aR w (fR w 82 x0) x4), ar x1, ar (aR w (fR w 81 x0) x4)]) (st := []) G M (zc_eU (C := zcn 10) G q1294 q1296 (zc_declD G q1295) ⟨by decide, by decide⟩ q1310 q1311 mdx_4 (zc_rc G (zne tw c38 (by decide)) c38 (by decide) (by decide) rfl) rfl dX16_asked_29) (S 112 _ rfl _ _ _ h (zoks_cons trivial (zoks_cons trivial (zoks_cons trivial zoks_nil)))) (Or.inl ⟨rfl, rfl⟩) (zc_hk q1312 q168) (by decide) (Nat.le_of_ble_eq_true rfl) kj35 (fun _ _ h => h.elim)
    by_cases c39 : tg w (aR w (fR w 82 x0) x4) = 11
    · have e : vm12 (tg w (aR w (fR w 82 x0) x4)) = 115 := by rw [c39]; rfl
      rw [e] at h
      exact zv_callI (as := [ar (aR w (fR w 82 x0) x4), ar x1, ar (aR w (fR w 81 x0) x4)]) (st := []) G M (zc_eU (C := zcn 11) G q1294 q1296 (zc_declD G q1295) ⟨by decide, by decide⟩ q1307 q1308 mdx_4 (zc_rc G (zne tw c39 (by decide)) c39 (by decide) (by decide) rfl) rfl dX16_asked_29) (S 115 _ rfl _ _ _ h (zoks_cons trivial (zoks_cons trivial (zoks_cons trivial zoks_nil)))) (Or.inl ⟨rfl, rfl⟩) (zc_hk q1309 q169) (by decide) (Nat.le_of_ble_eq_true rfl) kj35 (fun _ _ h => h.elim)
    by_cases c40 : tg w (aR w (fR w 82 x0) x4) = 12
    · have e : vm12 (tg w (aR w (fR w 82 x0) x4)) = 118 := by rw [c40]; rfl
      rw [e] at h
      exact zv_callI (as := [ar (aR w (fR w 82 x0) x4), ar x1, ar (aR w (fR w 81 x0) x4)]) (st := []) G M (zc_eU (C := zcn 12) G q1294 q1296 (zc_declD G q1295) ⟨by decide, by decide⟩ q1301 q1302 mdx_4 (zc_rc G (zne tw c40 (by decide)) c40 (by decide) (by decide) rfl) rfl dX16_asked_29) (S 118 _ rfl _ _ _ h (zoks_cons trivial (zoks_cons trivial (zoks_cons trivial zoks_nil)))) (Or.inl ⟨rfl, rfl⟩) (zc_hk q1303 q170) (by decide) (Nat.le_of_ble_eq_true rfl) kj35 (fun _ _ h => h.elim)
    have e : vm12 (tg w (aR w (fR w 82 x0) x4)) = 9999 := by unfold vm12; rw [if_neg c36, if_neg c37, if_neg c38, if_neg c39, if_neg c40]
    rw [e] at h
    exact (wpC_none h).elim
set_option maxHeartbeats 4000000 in
set_option maxRecDepth 100000 in
theorem cpC_X16_asked_0 {Γ : ZG CW} {D : CD} {d p : Nat} (hp : D.K.1 = p) (G : ZOk Γ cX16_asked RX16 7 (KnC D) (ZC D)) (M : ZRm Γ (d + 1) D.lim (Option.some Jvm.ClassFile.FieldType.int) "asked" []) (S : SdC d D p Γ.l) (hl : Γ.l.stackTraces = false) (hk : 0 ≤ d) {x0 : Nat} {x1 : Nat} {x2 : Nat} {w : CW} (h : pC_X16_asked_0 p (wpC p d) (fun v w => Γ.Q (.inl (some (ai v))) w) x0 x1 x2 w) : ZV Γ w 0 [(0, ar x0), (1, ar x1), (2, ar x2)] [] := by
  refine zc_wk G hp (fun hw tw => ?_)
  refine zv_iconst (a := 0) G (by decide) dX16_asked_0 ?_
  refine zv_istore_n G rfl (by decide) rfl dX16_asked_1 ?_
  refine zv_iconst (a := 0) G (by decide) dX16_asked_2 ?_
  refine zv_istore G (by decide) rfl dX16_asked_3 ?_
  exact zv_pick [0, 1, 2, 3, 4] rfl (cpC_X16_asked_5 hp G M S hl hk (zr_k 0 (by decide) (by decide)) (zr_k 0 (by decide) (by decide)) h)
set_option maxHeartbeats 4000000 in
set_option maxRecDepth 100000 in
theorem cpC_X16_left_47 {Γ : ZG CW} {D : CD} {d p : Nat} (hp : D.K.1 = p) (G : ZOk Γ cX16_left RX16 4 (KnC D) (ZC D)) (M : ZRm Γ (d + 1) D.lim (Option.some (Jvm.ClassFile.FieldType.object "LetterPost$Test")) "left" []) (S : SdC d D p Γ.l) (hl : Γ.l.stackTraces = false) (hk : 0 ≤ d) {w : CW} (h : pC_X16_left_47 p (wpC p d) (fun v w => Γ.Q (.inl (some (ar v))) w) w) : ZV Γ w 47 [] [] := by
  refine zc_wk G hp (fun hw tw => ?_)
  refine zv_null G dX16_left_47 ?_
  exact zv_aret G M (Or.inl ⟨_, rfl⟩) dX16_left_48 h
set_option maxHeartbeats 4000000 in
set_option maxRecDepth 100000 in
theorem cpC_X16_left_41 {Γ : ZG CW} {D : CD} {d p : Nat} (hp : D.K.1 = p) (G : ZOk Γ cX16_left RX16 4 (KnC D) (ZC D)) (M : ZRm Γ (d + 1) D.lim (Option.some (Jvm.ClassFile.FieldType.object "LetterPost$Test")) "left" []) (S : SdC d D p Γ.l) (hl : Γ.l.stackTraces = false) (hk : 0 ≤ d) {I2 : Int → CW → Prop} {x0 : Nat} {x1 : Nat} {x2 : Nat} {x3 : Int} {w : CW} (hI2 : ∀ (x3 : Int) (w : CW), I2 x3 w → zr x3 → ZV Γ w 2 [(0, ar x0), (1, ar x1), (2, ar x2), (3, ai x3)] []) (rx3 : zr x3) (h : pC_X16_left_41 p (wpC p d) (fun v w => Γ.Q (.inl (some (ar v))) w) I2 x0 x1 x2 x3 w) : ZV Γ w 41 [(0, ar x0), (1, ar x1), (2, ar x2), (3, ai x3)] [] := by
  refine zc_wk G hp (fun hw tw => ?_)
  refine zv_iincN G rfl (by decide) dX16_left_41 (fun x3_6 ex3_6 => ?_)
  have h := h x3_6 ex3_6
  have rx3_6 : zr x3_6 := by rw [ex3_6]; exact w32_r _
  refine zv_goto (tgt := 2) G (by decide) dX16_left_44 ?_
  exact zv_pick [0, 1, 2, 3] rfl (hI2 _ _ h rx3_6)
set_option maxHeartbeats 4000000 in
set_option maxRecDepth 100000 in
theorem cpC_X16_left_34 {Γ : ZG CW} {D : CD} {d p : Nat} (hp : D.K.1 = p) (G : ZOk Γ cX16_left RX16 4 (KnC D) (ZC D)) (M : ZRm Γ (d + 1) D.lim (Option.some (Jvm.ClassFile.FieldType.object "LetterPost$Test")) "left" []) (S : SdC d D p Γ.l) (hl : Γ.l.stackTraces = false) (hk : 0 ≤ d) {x0 : Nat} {x3 : Int} {w : CW} (rx3 : zr x3) (h : pC_X16_left_34 p (wpC p d) (fun v w => Γ.Q (.inl (some (ar v))) w) x0 x3 w) : ZV Γ w 34 [(0, ar x0), (3, ai x3)] [] := by
  refine zc_wk G hp (fun hw tw => ?_)
  refine zv_aload_n G rfl rfl dX16_left_34 ?_
  have o12 := h.1
  have h := h.2
  refine zc_get (f := 82) (v := ar (fR w 82 x0)) G o12 rfl q1108 (Or.inl rfl) (cV_R rfl) dX16_left_35 ?_
  refine zv_iload_n G rfl rfl dX16_left_38 ?_
  have o13 := h.1
  have h := h.2
  refine zc_aald G o13.1 rx3 o13.2.1 o13.2.2 dX16_left_39 ?_
  exact zv_aret G M (Or.inl ⟨_, rfl⟩) dX16_left_40 h
set_option maxHeartbeats 4000000 in
set_option maxRecDepth 100000 in
theorem cpC_X16_left_2 {Γ : ZG CW} {D : CD} {d p : Nat} (hp : D.K.1 = p) (G : ZOk Γ cX16_left RX16 4 (KnC D) (ZC D)) (M : ZRm Γ (d + 1) D.lim (Option.some (Jvm.ClassFile.FieldType.object "LetterPost$Test")) "left" []) (S : SdC d D p Γ.l) (hl : Γ.l.stackTraces = false) (hk : 0 ≤ d) {x0 : Nat} {x1 : Nat} {x2 : Nat} {x3 : Int} {w : CW} (rx3 : zr x3) (h : pC_X16_left_2 p (wpC p d) (fun v w => Γ.Q (.inl (some (ar v))) w) x0 x1 x2 x3 w) : ZV Γ w 2 [(0, ar x0), (1, ar x1), (2, ar x2), (3, ai x3)] [] := by
  obtain ⟨I2, eI2⟩ : ∃ I : Int → CW → Prop, I = (fun x3 w => zr x3 → ZV Γ w 2 [(0, ar x0), (1, ar x1), (2, ar x2), (3, ai x3)] []) := ⟨_, rfl⟩
  have hI2 : ∀ (x3 : Int) (w : CW), I2 x3 w → zr x3 → ZV Γ w 2 [(0, ar x0), (1, ar x1), (2, ar x2), (3, ai x3)] [] := by subst eI2; exact fun _ _ z => z
  have hJ2 : ∀ (x3 : Int) (w : CW), (zr x3 → ZV Γ w 2 [(0, ar x0), (1, ar x1), (2, ar x2), (3, ai x3)] []) → I2 x3 w := by subst eI2; exact fun _ _ z => z
  refine hI2 x3 w (h I2 (fun x3 w h => hJ2 x3 w (fun rx3 => ?_))) rx3
  refine zc_wk G hp (fun hw tw => ?_)
  refine zv_iload_n G rfl rfl dX16_left_2 ?_
  refine zv_aload_n G rfl rfl dX16_left_3 ?_
  have o1 := h.1
  have h := h.2
  refine zc_get (f := 83) (v := ai (fI w 83 x0)) G o1 rfl q1109 (Or.inl rfl) (cV_I (by decide) (by decide)) dX16_left_4 ?_
  refine zv_icmp_ge (tgt := 47) G rx3 (hw.i 83 _ (by decide)) (by decide) dX16_left_7 (fun c2 => ?_) (fun c2 => ?_)
  · have h := h.1 c2
    exact zv_pick [] rfl (cpC_X16_left_47 hp G M S hl hk h)
  · have h := h.2 c2
    refine zv_aload_n G rfl rfl dX16_left_10 ?_
    have o3 := h.1
    have h := h.2
    refine zc_get (f := 81) (v := ar (fR w 81 x0)) G o3 rfl q1107 (Or.inl rfl) (cV_R rfl) dX16_left_11 ?_
    refine zv_iload_n G rfl rfl dX16_left_14 ?_
    have o4 := h.1
    have h := h.2
    refine zc_aald G o4.1 rx3 o4.2.1 o4.2.2 dX16_left_15 ?_
    refine zv_aload_n G rfl rfl dX16_left_16 ?_
    refine zv_acmp_ne (tgt := 41) G (by decide) dX16_left_17 (fun c5 => ?_) (fun c5 => ?_)
    · have h := h.2 c5
      exact zv_pick [0, 1, 2, 3] rfl (cpC_X16_left_41 hp G M S hl hk hI2 rx3 h)
    · have h := h.1 c5
      refine zv_aload_n G rfl rfl dX16_left_20 ?_
      have o7 := h.1
      have h := h.2
      refine zc_get (f := 82) (v := ar (fR w 82 x0)) G o7 rfl q1108 (Or.inl rfl) (cV_R rfl) dX16_left_21 ?_
      refine zv_iload_n G rfl rfl dX16_left_24 ?_
      have o8 := h.1
      have h := h.2
      refine zc_aald G o8.1 rx3 o8.2.1 o8.2.2 dX16_left_25 ?_
      refine zv_aload_n G rfl rfl dX16_left_26 ?_
      refine zv_aload_n G rfl rfl dX16_left_27 ?_
      have kj14 : ∀ (v10 : Int) (u9 : CW), zr v10 → (
          (v10 = 0 →
            pC_X16_left_34 p (wpC p d) (fun v w => Γ.Q (.inl (some (ar v))) w) x0 x3 u9) ∧
          (¬ (v10 = 0) →
            pC_X16_left_41 p (wpC p d) (fun v w => Γ.Q (.inl (some (ar v))) w) I2 x0 x1 x2 x3 u9)) → ZV Γ u9 31 [(0, ar x0), (1, ar x1), (2, ar x2), (3, ai x3)] [ai v10] := by
        intro v10 u9 rv10 h
        refine zc_wk G hp (fun hu9 tu9 => ?_)
        refine zv_if_ne (tgt := 41) G rv10 (by decide) dX16_left_31 (fun c11 => ?_) (fun c11 => ?_)
        · have h := h.2 c11
          exact zv_pick [0, 1, 2, 3] rfl (cpC_X16_left_41 hp G M S hl hk hI2 rx3 h)
        · have h := h.1 c11
          exact zv_pick [0, 3] rfl (cpC_X16_left_34 hp G M S hl hk rx3 h)
      have h : wpC p d (vm12 (tg w (aR w (fR w 82 x0) x3))) [ar (aR w (fR w 82 x0) x3), ar x1, ar x2] w _ := h
      by_cases c15 : tg w (aR w (fR w 82 x0) x3) = 7
      · have e : vm12 (tg w (aR w (fR w 82 x0) x3)) = 100 := by rw [c15]; rfl
        rw [e] at h
        exact zv_callI (as := [ar (aR w (fR w 82 x0) x3), ar x1, ar x2]) (st := []) G M (zc_eU (C := zcn 7) G q1294 q1296 (zc_declD G q1295) ⟨by decide, by decide⟩ q1304 q1305 mdx_4 (zc_rc G (zne tw c15 (by decide)) c15 (by decide) (by decide) rfl) rfl dX16_left_28) (S 100 _ rfl _ _ _ h (zoks_cons trivial (zoks_cons trivial (zoks_cons trivial zoks_nil)))) (Or.inl ⟨rfl, rfl⟩) (zc_hk q1306 q165) (by decide) (Nat.le_of_ble_eq_true rfl) kj14 (fun _ _ h => h.elim)
      by_cases c16 : tg w (aR w (fR w 82 x0) x3) = 8
      · have e : vm12 (tg w (aR w (fR w 82 x0) x3)) = 105 := by rw [c16]; rfl
        rw [e] at h
        exact zv_callI (as := [ar (aR w (fR w 82 x0) x3), ar x1, ar x2]) (st := []) G M (zc_eU (C := zcn 8) G q1294 q1296 (zc_declD G q1295) ⟨by decide, by decide⟩ q1297 q1298 mdx_4 (zc_rc G (zne tw c16 (by decide)) c16 (by decide) (by decide) rfl) rfl dX16_left_28) (S 105 _ rfl _ _ _ h (zoks_cons trivial (zoks_cons trivial (zoks_cons trivial zoks_nil)))) (Or.inl ⟨rfl, rfl⟩) (zc_hk q1299 q166) (by decide) (Nat.le_of_ble_eq_true rfl) kj14 (fun _ _ h => h.elim)
      by_cases c17 : tg w (aR w (fR w 82 x0) x3) = 10
      · have e : vm12 (tg w (aR w (fR w 82 x0) x3)) = 112 := by rw [c17]; rfl
        rw [e] at h
        exact zv_callI (as := [ar (aR w (fR w 82 x0) x3), ar x1, ar x2]) (st := []) G M (zc_eU (C := zcn 10) G q1294 q1296 (zc_declD G q1295) ⟨by decide, by decide⟩ q1310 q1311 mdx_4 (zc_rc G (zne tw c17 (by decide)) c17 (by decide) (by decide) rfl) rfl dX16_left_28) (S 112 _ rfl _ _ _ h (zoks_cons trivial (zoks_cons trivial (zoks_cons trivial zoks_nil)))) (Or.inl ⟨rfl, rfl⟩) (zc_hk q1312 q168) (by decide) (Nat.le_of_ble_eq_true rfl) kj14 (fun _ _ h => h.elim)
      by_cases c18 : tg w (aR w (fR w 82 x0) x3) = 11
      · have e : vm12 (tg w (aR w (fR w 82 x0) x3)) = 115 := by rw [c18]; rfl
        rw [e] at h
        exact zv_callI (as := [ar (aR w (fR w 82 x0) x3), ar x1, ar x2]) (st := []) G M (zc_eU (C := zcn 11) G q1294 q1296 (zc_declD G q1295) ⟨by decide, by decide⟩ q1307 q1308 mdx_4 (zc_rc G (zne tw c18 (by decide)) c18 (by decide) (by decide) rfl) rfl dX16_left_28) (S 115 _ rfl _ _ _ h (zoks_cons trivial (zoks_cons trivial (zoks_cons trivial zoks_nil)))) (Or.inl ⟨rfl, rfl⟩) (zc_hk q1309 q169) (by decide) (Nat.le_of_ble_eq_true rfl) kj14 (fun _ _ h => h.elim)
      by_cases c19 : tg w (aR w (fR w 82 x0) x3) = 12
      · have e : vm12 (tg w (aR w (fR w 82 x0) x3)) = 118 := by rw [c19]; rfl
        rw [e] at h
        exact zv_callI (as := [ar (aR w (fR w 82 x0) x3), ar x1, ar x2]) (st := []) G M (zc_eU (C := zcn 12) G q1294 q1296 (zc_declD G q1295) ⟨by decide, by decide⟩ q1301 q1302 mdx_4 (zc_rc G (zne tw c19 (by decide)) c19 (by decide) (by decide) rfl) rfl dX16_left_28) (S 118 _ rfl _ _ _ h (zoks_cons trivial (zoks_cons trivial (zoks_cons trivial zoks_nil)))) (Or.inl ⟨rfl, rfl⟩) (zc_hk q1303 q170) (by decide) (Nat.le_of_ble_eq_true rfl) kj14 (fun _ _ h => h.elim)
      have e : vm12 (tg w (aR w (fR w 82 x0) x3)) = 9999 := by unfold vm12; rw [if_neg c15, if_neg c16, if_neg c17, if_neg c18, if_neg c19]
      rw [e] at h
      exact (wpC_none h).elim
set_option maxHeartbeats 4000000 in
set_option maxRecDepth 100000 in
theorem cpC_X16_left_0 {Γ : ZG CW} {D : CD} {d p : Nat} (hp : D.K.1 = p) (G : ZOk Γ cX16_left RX16 4 (KnC D) (ZC D)) (M : ZRm Γ (d + 1) D.lim (Option.some (Jvm.ClassFile.FieldType.object "LetterPost$Test")) "left" []) (S : SdC d D p Γ.l) (hl : Γ.l.stackTraces = false) (hk : 0 ≤ d) {x0 : Nat} {x1 : Nat} {x2 : Nat} {w : CW} (h : pC_X16_left_0 p (wpC p d) (fun v w => Γ.Q (.inl (some (ar v))) w) x0 x1 x2 w) : ZV Γ w 0 [(0, ar x0), (1, ar x1), (2, ar x2)] [] := by
  refine zc_wk G hp (fun hw tw => ?_)
  refine zv_iconst (a := 0) G (by decide) dX16_left_0 ?_
  refine zv_istore_n G rfl (by decide) rfl dX16_left_1 ?_
  exact zv_pick [0, 1, 2, 3] rfl (cpC_X16_left_2 hp G M S hl hk (zr_k 0 (by decide) (by decide)) h)
set_option maxHeartbeats 4000000 in
set_option maxRecDepth 100000 in
theorem cpC_X17_init_0 {Γ : ZG CW} {D : CD} {d p : Nat} (hp : D.K.1 = p) (G : ZOk Γ cX17_init RX17 6 (KnC D) (ZC D)) (M : ZRm Γ (d + 1) D.lim (Option.none : Option Jvm.ClassFile.FieldType) "<init>" []) (S : SdC d D p Γ.l) (hl : Γ.l.stackTraces = false) (hk : 0 ≤ d) {x0 : Nat} {x1 : Nat} {x2 : Nat} {x3 : Int} {x4 : Int} {x5 : Int} {w : CW} (rx3 : zr x3) (rx4 : zr x4) (rx5 : zr x5) (h : pC_X17_init_0 p (wpC p d) (fun w => Γ.Q (.inl none) w) x0 x1 x2 x3 x4 x5 w) : ZV Γ w 0 [(0, ar x0), (1, ar x1), (2, ar x2), (3, ai x3), (4, ai x4), (5, ai x5)] [] := by
  refine zc_wk G hp (fun hw tw => ?_)
  refine zv_aload_n G rfl rfl dX17_init_0 ?_
  have o2 := h.1
  have h := h.2
  refine zc_oinit G M q1133 q262 q263 o2 (Nat.le_of_ble_eq_true rfl) dX17_init_1 ?_
  refine zv_aload_n G rfl rfl dX17_init_4 ?_
  refine zv_aload_n G rfl rfl dX17_init_5 ?_
  have o4 := h.1
  have h := h.2
  refine zc_putR (f := 85) G M o4 rfl q1134 (Or.inl rfl) (Or.inr ⟨rfl, rfl, rfl⟩) (zfty_85) (Or.inl ⟨_, rfl⟩) rfl dX17_init_6 (fun u3 eu3 => ?_)
  have h := h u3 eu3
  refine zc_wk G hp (fun hu3 tu3 => ?_)
  refine zv_aload_n G rfl rfl dX17_init_9 ?_
  refine zv_aload_n G rfl rfl dX17_init_10 ?_
  have o6 := h.1
  have h := h.2
  refine zc_putR (f := 86) G M o6 rfl q1136 (Or.inl rfl) (Or.inr ⟨rfl, rfl, rfl⟩) (zfty_86) (Or.inl ⟨_, rfl⟩) rfl dX17_init_11 (fun u5 eu5 => ?_)
  have h := h u5 eu5
  refine zc_wk G hp (fun hu5 tu5 => ?_)
  refine zv_aload_n G rfl rfl dX17_init_14 ?_
  refine zv_iload_n G rfl rfl dX17_init_15 ?_
  have o8 := h.1
  have h := h.2
  refine zc_putI (f := 87) G M o8 rfl q1138 (Or.inl rfl) (Or.inr ⟨rfl, rfl, rfl⟩) (zfty_87) rfl rfl (by decide) (by decide) rx3 dX17_init_16 (fun u7 eu7 => ?_)
  have h := h u7 eu7
  refine zc_wk G hp (fun hu7 tu7 => ?_)
  refine zv_aload_n G rfl rfl dX17_init_19 ?_
  refine zv_iload G rfl dX17_init_20 ?_
  have o10 := h.1
  have h := h.2
  refine zc_putI (f := 88) G M o10 rfl q1141 (Or.inl rfl) (Or.inr ⟨rfl, rfl, rfl⟩) (zfty_88) rfl rfl (by decide) (by decide) rx4 dX17_init_22 (fun u9 eu9 => ?_)
  have h := h u9 eu9
  refine zc_wk G hp (fun hu9 tu9 => ?_)
  refine zv_aload_n G rfl rfl dX17_init_25 ?_
  refine zv_iload G rfl dX17_init_26 ?_
  have o12 := h.1
  have h := h.2
  refine zc_putI (f := 89) G M o12 rfl q1143 (Or.inl rfl) (Or.inr ⟨rfl, rfl, rfl⟩) (zfty_89) rfl rfl (by decide) (by decide) rx5 dX17_init_28 (fun u11 eu11 => ?_)
  have h := h u11 eu11
  refine zc_wk G hp (fun hu11 tu11 => ?_)
  refine zv_aload_n G rfl rfl dX17_init_31 ?_
  refine zv_aload_n G rfl rfl dX17_init_32 ?_
  have o14 := h.1
  have h := h.2
  have kj17 : ∀ v13 : Int, v13 = (if x1 = 0 then 0 else w32 ((fI u11 90 x1) + 1)) → ZV Γ u11 46 [(0, ar x0), (1, ar x1), (2, ar x2), (3, ai x3), (4, ai x4), (5, ai x5)] (ai v13 :: ar x0 :: []) := by
    intro v13 ev13
    have h := h v13 ev13
    have rv13 : zr v13 := by rw [ev13]; exact (zr_ite (zr_k 0 (by decide) (by decide)) (w32_r _))
    have o16 := h.1
    have h := h.2
    refine zc_putI (f := 90) G M o16 rfl q1150 (Or.inl rfl) (Or.inr ⟨rfl, rfl, rfl⟩) (zfty_90) rfl rfl (by decide) (by decide) rv13 dX17_init_46 (fun u15 eu15 => ?_)
    have h := h u15 eu15
    refine zc_wk G hp (fun hu15 tu15 => ?_)
    exact zv_vret G M dX17_init_49 h
  refine zv_ifnonnull (tgt := 40) G (by decide) dX17_init_33 (fun c18 => ?_) (fun c18 => ?_)
  · refine zv_aload_n G rfl rfl dX17_init_40 ?_
    refine zc_get (f := 90) (v := ai (fI u11 90 x1)) G (o14 c18) rfl q1150 (Or.inl rfl) (cV_I (by decide) (by decide)) dX17_init_41 ?_
    refine zv_iconst (a := 1) G (by decide) dX17_init_44 ?_
    refine zv_iadd G dX17_init_45 ?_
    exact kj17 _ (if_neg c18).symm
  · refine zv_iconst (a := 0) G (by decide) dX17_init_36 ?_
    refine zv_goto (tgt := 46) G (by decide) dX17_init_37 ?_
    exact kj17 _ (if_pos c18).symm
set_option maxHeartbeats 4000000 in
set_option maxRecDepth 100000 in
theorem cpC_X17_isWithin_22 {Γ : ZG CW} {D : CD} {d p : Nat} (hp : D.K.1 = p) (G : ZOk Γ cX17_isWithin RX17 3 (KnC D) (ZC D)) (M : ZRm Γ (d + 1) D.lim (Option.some Jvm.ClassFile.FieldType.boolean) "isWithin" []) (S : SdC d D p Γ.l) (hl : Γ.l.stackTraces = false) (hk : 0 ≤ d) {x2 : Nat} {w : CW} (h : pC_X17_isWithin_22 p (wpC p d) (fun v w => Γ.Q (.inl (some (ai v))) w) x2 w) : ZV Γ w 22 [(2, ar x2)] [] := by
  refine zc_wk G hp (fun hw tw => ?_)
  refine zv_aload_n G rfl rfl dX17_isWithin_22 ?_
  have kj6 : ∀ v5 : Int, v5 = (if ¬ (x2 = 0) then 1 else 0) → ZV Γ w 31 [(2, ar x2)] (ai v5 :: []) := by
    intro v5 ev5
    have h := h v5 ev5
    have rv5 : zr v5 := by rw [ev5]; exact (zr_ite (zr_k 1 (by decide) (by decide)) (zr_k 0 (by decide) (by decide)))
    have bv5 : v5 = 0 ∨ v5 = 1 := by rw [ev5]; exact (zb_ite (Or.inr rfl) (Or.inl rfl))
    exact zv_iret (ty := .boolean) rv5 G M (zn_Z bv5) dX17_isWithin_31 h
  refine zv_ifnull (tgt := 30) G (by decide) dX17_isWithin_23 (fun c7 => ?_) (fun c7 => ?_)
  · refine zv_iconst (a := 0) G (by decide) dX17_isWithin_30 ?_
    exact kj6 _ (if_neg (fun q => q c7)).symm
  · refine zv_iconst (a := 1) G (by decide) dX17_isWithin_26 ?_
    refine zv_goto (tgt := 31) G (by decide) dX17_isWithin_27 ?_
    exact kj6 _ (if_pos c7).symm
set_option maxHeartbeats 4000000 in
set_option maxRecDepth 100000 in
theorem cpC_X17_isWithin_5 {Γ : ZG CW} {D : CD} {d p : Nat} (hp : D.K.1 = p) (G : ZOk Γ cX17_isWithin RX17 3 (KnC D) (ZC D)) (M : ZRm Γ (d + 1) D.lim (Option.some Jvm.ClassFile.FieldType.boolean) "isWithin" []) (S : SdC d D p Γ.l) (hl : Γ.l.stackTraces = false) (hk : 0 ≤ d) {x1 : Nat} {x2 : Nat} {w : CW} (h : pC_X17_isWithin_5 p (wpC p d) (fun v w => Γ.Q (.inl (some (ai v))) w) x1 x2 w) : ZV Γ w 5 [(1, ar x1), (2, ar x2)] [] := by
  obtain ⟨I5, eI5⟩ : ∃ I : Nat → CW → Prop, I = (fun x2 w => ZV Γ w 5 [(1, ar x1), (2, ar x2)] []) := ⟨_, rfl⟩
  have hI5 : ∀ (x2 : Nat) (w : CW), I5 x2 w → ZV Γ w 5 [(1, ar x1), (2, ar x2)] [] := by subst eI5; exact fun _ _ z => z
  have hJ5 : ∀ (x2 : Nat) (w : CW), (ZV Γ w 5 [(1, ar x1), (2, ar x2)] []) → I5 x2 w := by subst eI5; exact fun _ _ z => z
  refine hI5 x2 w (h I5 (fun x2 w h => hJ5 x2 w ?_)) 
  refine zc_wk G hp (fun hw tw => ?_)
  refine zv_aload_n G rfl rfl dX17_isWithin_5 ?_
  have kt8 : ¬ (x2 = 0) ∧ (¬ (x2 = x1)) → ZV Γ w 14 [(1, ar x1), (2, ar x2)] [] := by
    intro c10
    have h := h.1 c10
    refine zv_aload_n G rfl rfl dX17_isWithin_14 ?_
    have o3 := h.1
    have h := h.2
    refine zc_get (f := 85) (v := ar (fR w 85 x2)) G o3 rfl q1134 (Or.inl rfl) (cV_R rfl) dX17_isWithin_15 ?_
    refine zv_astore_nN G rfl (by decide) dX17_isWithin_18 (fun x2_4 ex2_4 => ?_)
    have h := h x2_4 ex2_4
    refine zv_goto (tgt := 5) G (by decide) dX17_isWithin_19 ?_
    exact zv_pick [1, 2] rfl (hI5 _ _ h )
  have kf9 : ¬ (¬ (x2 = 0) ∧ (¬ (x2 = x1))) → ZV Γ w 22 [(1, ar x1), (2, ar x2)] [] := by
    intro c10
    have h := h.2 c10
    exact zv_pick [2] rfl (cpC_X17_isWithin_22 hp G M S hl hk h)
  refine zv_ifnull (tgt := 22) G (by decide) dX17_isWithin_6 (fun c11 => ?_) (fun c11 => ?_)
  · exact kf9 (fun q => q.1 c11)
  · refine zv_aload_n G rfl rfl dX17_isWithin_9 ?_
    refine zv_aload_n G rfl rfl dX17_isWithin_10 ?_
    refine zv_acmp_eq (tgt := 22) G (by decide) dX17_isWithin_11 (fun c12 => ?_) (fun c12 => ?_)
    · exact kf9 (fun q => (fun q => q c12) q.2)
    · exact kt8 ⟨c11, c12⟩
set_option maxHeartbeats 4000000 in
set_option maxRecDepth 100000 in
theorem cpC_X17_isWithin_0 {Γ : ZG CW} {D : CD} {d p : Nat} (hp : D.K.1 = p) (G : ZOk Γ cX17_isWithin RX17 3 (KnC D) (ZC D)) (M : ZRm Γ (d + 1) D.lim (Option.some Jvm.ClassFile.FieldType.boolean) "isWithin" []) (S : SdC d D p Γ.l) (hl : Γ.l.stackTraces = false) (hk : 0 ≤ d) {x0 : Nat} {x1 : Nat} {w : CW} (h : pC_X17_isWithin_0 p (wpC p d) (fun v w => Γ.Q (.inl (some (ai v))) w) x0 x1 w) : ZV Γ w 0 [(0, ar x0), (1, ar x1)] [] := by
  refine zc_wk G hp (fun hw tw => ?_)
  refine zv_aload_n G rfl rfl dX17_isWithin_0 ?_
  have o1 := h.1
  have h := h.2
  refine zc_get (f := 85) (v := ar (fR w 85 x0)) G o1 rfl q1134 (Or.inl rfl) (cV_R rfl) dX17_isWithin_1 ?_
  refine zv_astore_nN G rfl (by decide) dX17_isWithin_4 (fun x2_2 ex2_2 => ?_)
  have h := h x2_2 ex2_2
  exact zv_pick [1, 2] rfl (cpC_X17_isWithin_5 hp G M S hl hk h)
set_option maxHeartbeats 4000000 in
set_option maxRecDepth 100000 in
theorem cpC_X17_of_35 {Γ : ZG CW} {D : CD} {d p : Nat} (hp : D.K.1 = p) (G : ZOk Γ cX17_of RX17 2 (KnC D) (ZC D)) (M : ZRm Γ (d + 1) D.lim (Option.some (Jvm.ClassFile.FieldType.object "LetterPost$Value")) "of" []) (S : SdC d D p Γ.l) (hl : Γ.l.stackTraces = false) (hk : 0 ≤ d) {s0 : Nat} {w : CW} (h : pC_X17_of_35 p (wpC p d) (fun v w => Γ.Q (.inl (some (ar v))) w) s0 w) : ZV Γ w 35 [] [ar s0] := by
  refine zc_wk G hp (fun hw tw => ?_)
  exact zv_aret G M (Or.inl ⟨_, rfl⟩) dX17_of_35 h
set_option maxHeartbeats 4000000 in
set_option maxRecDepth 100000 in
theorem cpC_X17_of_0 {Γ : ZG CW} {D : CD} {d p : Nat} (hp : D.K.1 = p) (G : ZOk Γ cX17_of RX17 2 (KnC D) (ZC D)) (M : ZRm Γ (d + 1) D.lim (Option.some (Jvm.ClassFile.FieldType.object "LetterPost$Value")) "of" []) (S : SdC d D p Γ.l) (hl : Γ.l.stackTraces = false) (hk : 0 ≤ d) {x0 : Nat} {x1 : Nat} {w : CW} (h : pC_X17_of_0 p (wpC p d) (fun v w => Γ.Q (.inl (some (ar v))) w) x0 x1 w) : ZV Γ w 0 [(0, ar x0), (1, ar x1)] [] := by
  refine zc_wk G hp (fun hw tw => ?_)
  refine zv_aload_n G rfl rfl dX17_of_0 ?_
  have o1 := h.1
  have h := h.2
  refine zc_get (f := 85) (v := ar (fR w 85 x0)) G o1 rfl q1134 (Or.inl rfl) (cV_R rfl) dX17_of_1 ?_
  refine zv_ifnonnull (tgt := 16) G (by decide) dX17_of_4 (fun c2 => ?_) (fun c2 => ?_)
  · have h := h.2 c2
    refine zv_aload_n G rfl rfl dX17_of_16 ?_
    have o3 := h.1
    have h := h.2
    refine zc_get (f := 85) (v := ar (fR w 85 x0)) G o3 rfl q1134 (Or.inl rfl) (cV_R rfl) dX17_of_17 ?_
    refine zv_aload_n G rfl rfl dX17_of_20 ?_
    have o10 := h.1
    have h := h.2
    refine zv_callR (as := [ar (fR w 85 x0), ar x1]) (st := []) G M (zc_eV (C := zcn 15) G q1905 q1902 q1903 (Or.inl ⟨rfl, rfl⟩) q1904 md_X17_of (zc_rc G (zne tw o10 (by decide)) o10 (by decide) (by decide) rfl) rfl dX17_of_21) (S 131 _ rfl _ _ _ h (zoks_cons trivial (zoks_cons trivial zoks_nil))) (Or.inl ⟨rfl, rfl⟩) (zc_hk q1904 q173) (by decide) (Nat.le_of_ble_eq_true rfl) (fun v5 u4 h => ?_) (fun _ _ h => h.elim)
    refine zc_wk G hp (fun hu4 tu4 => ?_)
    have o6 := h.1
    have h := h.2
    refine zc_cast G q1906 o6 dX17_of_24 ?_
    have o7 := h.1
    have h := h.2
    refine zc_get (f := 118) (v := ar (fR u4 118 v5)) G o7 rfl q1818 (Or.inl rfl) (cV_R rfl) dX17_of_27 ?_
    refine zv_aload_n G rfl rfl dX17_of_30 ?_
    have o8 := h.1
    have h := h.2
    refine zc_get (f := 87) (v := ai (fI u4 87 x0)) G o8 rfl q1138 (Or.inl rfl) (cV_I (by decide) (by decide)) dX17_of_31 ?_
    have o9 := h.1
    have h := h.2
    refine zc_aald G o9.1 (hu4.i 87 _ (by decide)) o9.2.1 o9.2.2 dX17_of_34 ?_
    exact zv_pick [] rfl (cpC_X17_of_35 hp G M S hl hk h)
  · have h := h.1 c2
    refine zv_aload_n G rfl rfl dX17_of_7 ?_
    refine zv_aload_n G rfl rfl dX17_of_8 ?_
    have o11 := h.1
    have h := h.2
    refine zc_get (f := 87) (v := ai (fI w 87 x0)) G o11 rfl q1138 (Or.inl rfl) (cV_I (by decide) (by decide)) dX17_of_9 ?_
    have o12 := h.1
    have h := h.2
    refine zc_aald G o12.1 (hw.i 87 _ (by decide)) o12.2.1 o12.2.2 dX17_of_12 ?_
    refine zv_goto (tgt := 35) G (by decide) dX17_of_13 ?_
    exact zv_pick [] rfl (cpC_X17_of_35 hp G M S hl hk h)
set_option maxHeartbeats 4000000 in
set_option maxRecDepth 100000 in
theorem cpC_X18_init_0 {Γ : ZG CW} {D : CD} {d p : Nat} (hp : D.K.1 = p) (G : ZOk Γ cX18_init RX18 4 (KnC D) (ZC D)) (M : ZRm Γ (d + 1) D.lim (Option.none : Option Jvm.ClassFile.FieldType) "<init>" []) (S : SdC d D p Γ.l) (hl : Γ.l.stackTraces = false) (hk : 0 ≤ d) {x0 : Nat} {x1 : Nat} {x2 : Nat} {x3 : Int} {w : CW} (rx3 : zr x3) (h : pC_X18_init_0 p (wpC p d) (fun w => Γ.Q (.inl none) w) x0 x1 x2 x3 w) : ZV Γ w 0 [(0, ar x0), (1, ar x1), (2, ar x2), (3, ai x3)] [] := by
  refine zc_wk G hp (fun hw tw => ?_)
  refine zv_aload_n G rfl rfl dX18_init_0 ?_
  refine zv_aload_n G rfl rfl dX18_init_1 ?_
  have o2 := h.1
  have h := h.2
  refine zc_putR (f := 97) G M o2 rfl q1269 (Or.inl rfl) (Or.inr ⟨rfl, rfl, rfl⟩) (zfty_97) (Or.inl ⟨_, rfl⟩) rfl dX18_init_2 (fun u1 eu1 => ?_)
  have h := h u1 eu1
  refine zc_wk G hp (fun hu1 tu1 => ?_)
  refine zv_aload_n G rfl rfl dX18_init_5 ?_
  have o4 := h.1
  have h := h.2
  refine zc_oinit G M q1208 q262 q263 o4 (Nat.le_of_ble_eq_true rfl) dX18_init_6 ?_
  refine zv_aload_n G rfl rfl dX18_init_9 ?_
  refine zv_bipush (a := 41) G (by decide) dX18_init_10 ?_
  have o6 := h.1
  have h := h.2
  refine zc_newa (t := 103) (ty := .long) G M (by decide) rfl rfl (fun z => z) (by decide) rfl q1261 o6.1 o6.2 dX18_init_12 (fun u5 eu5 => ?_)
  have h := h u5 eu5
  refine zc_wk G hp (fun hu5 tu5 => ?_)
  have o8 := h.1
  have h := h.2
  refine zc_putR (f := 95) G M o8 rfl q1267 (Or.inl rfl) (Or.inr ⟨rfl, rfl, rfl⟩) (zfty_95) (Or.inr ⟨_, rfl⟩) rfl dX18_init_14 (fun u7 eu7 => ?_)
  have h := h u7 eu7
  refine zc_wk G hp (fun hu7 tu7 => ?_)
  refine zv_aload_n G rfl rfl dX18_init_17 ?_
  refine zv_bipush (a := 81) G (by decide) dX18_init_18 ?_
  have o10 := h.1
  have h := h.2
  refine zc_newa (t := 102) (ty := .int) G M (by decide) rfl rfl (fun z => z) (by decide) rfl q708 o10.1 o10.2 dX18_init_20 (fun u9 eu9 => ?_)
  have h := h u9 eu9
  refine zc_wk G hp (fun hu9 tu9 => ?_)
  have o12 := h.1
  have h := h.2
  refine zc_putR (f := 96) G M o12 rfl q1268 (Or.inl rfl) (Or.inr ⟨rfl, rfl, rfl⟩) (zfty_96) (Or.inr ⟨_, rfl⟩) rfl dX18_init_22 (fun u11 eu11 => ?_)
  have h := h u11 eu11
  refine zc_wk G hp (fun hu11 tu11 => ?_)
  refine zv_aload_n G rfl rfl dX18_init_25 ?_
  have o14 := h.1
  have h := h.2
  refine zc_new (ci := 16) (t := 17) (n := 8) G M rfl rfl (by decide) rfl q1209 q1210 q175 o14 dX18_init_26 (fun u13 eu13 => ?_)
  have h := h u13 eu13
  refine zc_wk G hp (fun hu13 tu13 => ?_)
  refine zv_dup G rfl dX18_init_29 ?_
  refine zv_aload_n G rfl rfl dX18_init_30 ?_
  have o15 := h.1
  have h := h.2
  refine zc_get (f := 51) (v := ai (fI u13 51 x2)) G o15 rfl q758 (Or.inl rfl) (cV_I (by decide) (by decide)) dX18_init_31 ?_
  refine zv_callV (as := [ar (cz u11 + 1), ai (fI u13 51 x2)]) (st := [ar (cz u11 + 1), ar x0]) G M (zc_eI G rfl q1211 q1212 q1213 md_X19_init (Nat.succ_ne_zero _) rfl dX18_init_34) (S 149 _ rfl _ _ _ h (zoks_cons trivial (zoks_cons (hu13.i 51 _ (by decide)) zoks_nil))) (Or.inl ⟨rfl, rfl⟩) (zc_hk q1213 q175) (by decide) (Nat.le_of_ble_eq_true rfl) (fun u16 h => ?_) (fun _ _ h => h.elim)
  refine zc_wk G hp (fun hu16 tu16 => ?_)
  have o19 := h.1
  have h := h.2
  refine zc_putR (f := 91) G M o19 rfl q1263 (Or.inl rfl) (Or.inr ⟨rfl, rfl, rfl⟩) (zfty_91) (Or.inl ⟨_, rfl⟩) rfl dX18_init_37 (fun u18 eu18 => ?_)
  have h := h u18 eu18
  refine zc_wk G hp (fun hu18 tu18 => ?_)
  refine zv_aload_n G rfl rfl dX18_init_40 ?_
  refine zv_iload_n G rfl rfl dX18_init_41 ?_
  have o21 := h.1
  have h := h.2
  refine zc_putI (f := 92) G M o21 rfl q1264 (Or.inl rfl) (Or.inr ⟨rfl, rfl, rfl⟩) (zfty_92) rfl rfl (by decide) (by decide) rx3 dX18_init_42 (fun u20 eu20 => ?_)
  have h := h u20 eu20
  refine zc_wk G hp (fun hu20 tu20 => ?_)
  refine zv_aload_n G rfl rfl dX18_init_45 ?_
  refine zv_aload_n G rfl rfl dX18_init_46 ?_
  have o22 := h.1
  have h := h.2
  refine zc_get (f := 51) (v := ai (fI u20 51 x2)) G o22 rfl q758 (Or.inl rfl) (cV_I (by decide) (by decide)) dX18_init_47 ?_
  have o24 := h.1
  have h := h.2
  refine zc_anew (t := 115) G M (by decide) q1262 o24.1 o24.2 dX18_init_50 (fun u23 eu23 => ?_)
  have h := h u23 eu23
  refine zc_wk G hp (fun hu23 tu23 => ?_)
  have o26 := h.1
  have h := h.2
  refine zc_putR (f := 94) G M o26 rfl q1266 (Or.inl rfl) (Or.inr ⟨rfl, rfl, rfl⟩) (zfty_94) (Or.inr ⟨_, rfl⟩) rfl dX18_init_53 (fun u25 eu25 => ?_)
  have h := h u25 eu25
  refine zc_wk G hp (fun hu25 tu25 => ?_)
  exact zv_vret G M dX18_init_56 h
set_option maxHeartbeats 4000000 in
set_option maxRecDepth 100000 in
theorem cpC_X18_make_216 {Γ : ZG CW} {D : CD} {d p : Nat} (hp : D.K.1 = p) (G : ZOk Γ cX18_make RX18 8 (KnC D) (ZC D)) (M : ZRm Γ (d + 1) D.lim (Option.some (Jvm.ClassFile.FieldType.object "LetterPost$Node")) "make" []) (S : SdC d D p Γ.l) (hl : Γ.l.stackTraces = false) (hk : 0 ≤ d) {s0 : Nat} {w : CW} (h : pC_X18_make_216 p (wpC p d) (fun v w => Γ.Q (.inl (some (ar v))) w) (fun x w => Γ.Q (.inr x) w) s0 w) : ZV Γ w 216 [] [ar s0] := by
  refine zc_wk G hp (fun hw tw => ?_)
  exact zv_aret G M (Or.inl ⟨_, rfl⟩) dX18_make_216 h
set_option maxHeartbeats 4000000 in
set_option maxRecDepth 100000 in
theorem cpC_X18_make_48 {Γ : ZG CW} {D : CD} {d p : Nat} (hp : D.K.1 = p) (G : ZOk Γ cX18_make RX18 8 (KnC D) (ZC D)) (M : ZRm Γ (d + 1) D.lim (Option.some (Jvm.ClassFile.FieldType.object "LetterPost$Node")) "make" []) (S : SdC d D p Γ.l) (hl : Γ.l.stackTraces = false) (hk : 0 ≤ d) {x0 : Nat} {x3 : Nat} {x4 : Int} {w : CW} (rx4 : zr x4) (h : pC_X18_make_48 p (wpC p d) (fun v w => Γ.Q (.inl (some (ar v))) w) (fun x w => Γ.Q (.inr x) w) x0 x3 x4 w) : ZV Γ w 48 [(0, ar x0), (3, ar x3), (4, ai x4)] [] := by
  refine zc_wk G hp (fun hw tw => ?_)
  refine zv_aload_n G rfl rfl dX18_make_48 ?_
  have o4 := h.1
  have h := h.2
  refine zc_get (f := 93) (v := ai (fI w 93 x0)) G o4 rfl q1265 (Or.inl rfl) (cV_I (by decide) (by decide)) dX18_make_49 ?_
  refine zv_bipush (a := 120) G (by decide) dX18_make_52 ?_
  refine zv_icmp_ne (tgt := 65) G (hw.i 93 _ (by decide)) (zr_k 120 (by decide) (by decide)) (by decide) dX18_make_54 (fun c5 => ?_) (fun c5 => ?_)
  · have h := h.2 c5
    refine zv_aload_n G rfl rfl dX18_make_65 ?_
    have o6 := h.1
    have h := h.2
    refine zc_get (f := 93) (v := ai (fI w 93 x0)) G o6 rfl q1265 (Or.inl rfl) (cV_I (by decide) (by decide)) dX18_make_66 ?_
    refine zv_istoreN G (by decide) dX18_make_69 (fun x5_7 ex5_7 => ?_)
    have h := h x5_7 ex5_7
    have rx5_7 : zr x5_7 := by rw [ex5_7]; exact (hw.i 93 _ (by decide))
    refine zv_aload_n G rfl rfl dX18_make_71 ?_
    refine zv_dup G rfl dX18_make_72 ?_
    have o8 := h.1
    have h := h.2
    refine zc_get (f := 93) (v := ai (fI w 93 x0)) G o8 rfl q1265 (Or.inl rfl) (cV_I (by decide) (by decide)) dX18_make_73 ?_
    refine zv_iconst (a := 1) G (by decide) dX18_make_76 ?_
    refine zv_iadd G dX18_make_77 ?_
    have o10 := h.1
    have h := h.2
    refine zc_putI (f := 93) G M o10 rfl q1265 (Or.inl rfl) (Or.inl rfl) (zfty_93) rfl rfl (by decide) (by decide) (w32_r _) dX18_make_78 (fun u9 eu9 => ?_)
    have h := h u9 eu9
    refine zc_wk G hp (fun hu9 tu9 => ?_)
    refine zv_iload G rfl dX18_make_81 ?_
    refine zv_if_ne (tgt := 96) G rx4 (by decide) dX18_make_83 (fun c11 => ?_) (fun c11 => ?_)
    · have h := h.2 c11
      refine zv_aload_n G rfl rfl dX18_make_96 ?_
      refine zv_iconst (a := 0) G (by decide) dX18_make_97 ?_
      have o12 := h.1
      have h := h.2
      refine zc_aald G o12.1 (zr_k 0 (by decide) (by decide)) o12.2.1 o12.2.2 dX18_make_98 ?_
      refine zv_aload_n G rfl rfl dX18_make_99 ?_
      have o13 := h.1
      have h := h.2
      refine zc_get (f := 91) (v := ar (fR u9 91 x0)) G o13 rfl q1263 (Or.inl rfl) (cV_R rfl) dX18_make_100 ?_
      refine zv_aload_n G rfl rfl dX18_make_103 ?_
      have o14 := h.1
      have h := h.2
      refine zc_get (f := 94) (v := ar (fR u9 94 x0)) G o14 rfl q1266 (Or.inl rfl) (cV_R rfl) dX18_make_104 ?_
      have o52 := h.1
      have h := h.2
      refine zv_callI (as := [ar (aR u9 x3 0), ar (fR u9 91 x0), ar (fR u9 94 x0)]) (st := []) G M (zc_eV (C := zcn 14) G q1367 q1368 q1369 (Or.inl ⟨rfl, rfl⟩) q1370 md_X16_asked (zc_rc G (zne tu9 o52 (by decide)) o52 (by decide) (by decide) rfl) rfl dX18_make_107) (S 127 _ rfl _ _ _ h (zoks_cons trivial (zoks_cons trivial (zoks_cons trivial zoks_nil)))) (Or.inl ⟨rfl, rfl⟩) (zc_hk q1370 q172) (by decide) (Nat.le_of_ble_eq_true rfl) (fun v16 u15 rv16 h => ?_) (fun _ _ h => h.elim)
      refine zc_wk G hp (fun hu15 tu15 => ?_)
      refine zv_istore G (by decide) rfl dX18_make_110 ?_
      refine zv_iload G rfl dX18_make_112 ?_
      refine zv_if_ne (tgt := 127) G rv16 (by decide) dX18_make_114 (fun c17 => ?_) (fun c17 => ?_)
      · have h := h.2 c17
        refine zv_aload_n G rfl rfl dX18_make_127 ?_
        refine zv_aload_n G rfl rfl dX18_make_128 ?_
        refine zv_iload G rfl dX18_make_129 ?_
        refine zv_iload G rfl dX18_make_131 ?_
        have o46 := h.1
        have h := h.2
        refine zv_callR (as := [ar x0, ar x3, ai x4, ai v16]) (st := []) G M (zc_eV (C := zcn 16) G q1404 q1406 qs39 (Or.inl ⟨rfl, rfl⟩) q1407 md_X18_chosen (zc_rc G (zne tu15 o46 (by decide)) o46 (by decide) (by decide) rfl) rfl dX18_make_133) (S 135 _ rfl _ _ _ h (zoks_cons trivial (zoks_cons trivial (zoks_cons rx4 (zoks_cons rv16 zoks_nil))))) (Or.inl ⟨rfl, rfl⟩) (zc_hk q1407 q174) (by decide) (Nat.le_of_ble_eq_true rfl) (fun v19 u18 h => ?_) (fun _ _ h => h.elim)
        refine zc_wk G hp (fun hu18 tu18 => ?_)
        refine zv_astore G (by decide) rfl dX18_make_136 ?_
        refine zv_aload G rfl dX18_make_138 ?_
        have o20 := h.1
        have h := h.2
        refine zc_get (f := 88) (v := ai (fI u18 88 v19)) G o20 rfl q1142 (Or.inl rfl) (cV_I (by decide) (by decide)) dX18_make_140 ?_
        refine zv_iconst (a := 3) G (by decide) dX18_make_143 ?_
        refine zv_icmp_lt (tgt := 159) G (hu18.i 88 _ (by decide)) (zr_k 3 (by decide) (by decide)) (by decide) dX18_make_144 (fun c21 => ?_) (fun c21 => ?_)
        · have h := h.1 c21
          refine zv_aload G rfl dX18_make_159 ?_
          have o22 := h.1
          have h := h.2
          refine zc_get (f := 88) (v := ai (fI u18 88 v19)) G o22 rfl q1142 (Or.inl rfl) (cV_I (by decide) (by decide)) dX18_make_161 ?_
          refine zv_iconst (a := 1) G (by decide) dX18_make_164 ?_
          refine zv_icmp_ne (tgt := 182) G (hu18.i 88 _ (by decide)) (zr_k 1 (by decide) (by decide)) (by decide) dX18_make_165 (fun c23 => ?_) (fun c23 => ?_)
          · have h := h.2 c23
            refine zv_aload G rfl dX18_make_182 ?_
            have o24 := h.1
            have h := h.2
            refine zc_get (f := 88) (v := ai (fI u18 88 v19)) G o24 rfl q1142 (Or.inl rfl) (cV_I (by decide) (by decide)) dX18_make_184 ?_
            refine zv_iconst (a := 2) G (by decide) dX18_make_187 ?_
            refine zv_icmp_ne (tgt := 205) G (hu18.i 88 _ (by decide)) (zr_k 2 (by decide) (by decide)) (by decide) dX18_make_188 (fun c25 => ?_) (fun c25 => ?_)
            · have h := h.2 c25
              refine zv_aload_n G rfl rfl dX18_make_205 ?_
              refine zv_iload G rfl dX18_make_206 ?_
              refine zv_aload G rfl dX18_make_208 ?_
              refine zv_aload_n G rfl rfl dX18_make_210 ?_
              refine zv_iload G rfl dX18_make_211 ?_
              have o30 := h.1
              have h := h.2
              refine zv_callR (as := [ar x0, ai x5_7, ar v19, ar x3, ai x4]) (st := []) G M (zc_eV (C := zcn 16) G q1513 q1515 qs51 (Or.inl ⟨rfl, rfl⟩) q1516 md_X18_byWhole (zc_rc G (zne tu18 o30 (by decide)) o30 (by decide) (by decide) rfl) rfl dX18_make_213) (S 147 _ rfl _ _ _ h (zoks_cons trivial (zoks_cons rx5_7 (zoks_cons trivial (zoks_cons trivial (zoks_cons rx4 zoks_nil)))))) (Or.inl ⟨rfl, rfl⟩) (zc_hk q1516 q174) (by decide) (Nat.le_of_ble_eq_true rfl) (fun v27 u26 h => ?_) (fun x28 u29 h => ?_)
              rotate_left
              · exact zx_leave G M rfl h
              refine zc_wk G hp (fun hu26 tu26 => ?_)
              exact zv_pick [] rfl (cpC_X18_make_216 hp G M S hl hk h)
            · have h := h.1 c25
              refine zv_aload_n G rfl rfl dX18_make_191 ?_
              refine zv_iload G rfl dX18_make_192 ?_
              refine zv_aload G rfl dX18_make_194 ?_
              refine zv_aload_n G rfl rfl dX18_make_196 ?_
              refine zv_iload G rfl dX18_make_197 ?_
              have o35 := h.1
              have h := h.2
              refine zv_callR (as := [ar x0, ai x5_7, ar v19, ar x3, ai x4]) (st := []) G M (zc_eV (C := zcn 16) G q1491 q1493 qs49 (Or.inl ⟨rfl, rfl⟩) q1494 md_X18_byText (zc_rc G (zne tu18 o35 (by decide)) o35 (by decide) (by decide) rfl) rfl dX18_make_199) (S 145 _ rfl _ _ _ h (zoks_cons trivial (zoks_cons rx5_7 (zoks_cons trivial (zoks_cons trivial (zoks_cons rx4 zoks_nil)))))) (Or.inl ⟨rfl, rfl⟩) (zc_hk q1494 q174) (by decide) (Nat.le_of_ble_eq_true rfl) (fun v32 u31 h => ?_) (fun x33 u34 h => ?_)
              rotate_left
              · exact zx_leave G M rfl h
              refine zc_wk G hp (fun hu31 tu31 => ?_)
              refine zv_goto (tgt := 216) G (by decide) dX18_make_202 ?_
              exact zv_pick [] rfl (cpC_X18_make_216 hp G M S hl hk h)
          · have h := h.1 c23
            refine zv_aload_n G rfl rfl dX18_make_168 ?_
            refine zv_iload G rfl dX18_make_169 ?_
            refine zv_aload G rfl dX18_make_171 ?_
            refine zv_aload_n G rfl rfl dX18_make_173 ?_
            refine zv_iload G rfl dX18_make_174 ?_
            have o40 := h.1
            have h := h.2
            refine zv_callR (as := [ar x0, ai x5_7, ar v19, ar x3, ai x4]) (st := []) G M (zc_eV (C := zcn 16) G q1477 q1479 qs48 (Or.inl ⟨rfl, rfl⟩) q1480 md_X18_byTruth (zc_rc G (zne tu18 o40 (by decide)) o40 (by decide) (by decide) rfl) rfl dX18_make_176) (S 144 _ rfl _ _ _ h (zoks_cons trivial (zoks_cons rx5_7 (zoks_cons trivial (zoks_cons trivial (zoks_cons rx4 zoks_nil)))))) (Or.inl ⟨rfl, rfl⟩) (zc_hk q1480 q174) (by decide) (Nat.le_of_ble_eq_true rfl) (fun v37 u36 h => ?_) (fun x38 u39 h => ?_)
            rotate_left
            · exact zx_leave G M rfl h
            refine zc_wk G hp (fun hu36 tu36 => ?_)
            refine zv_goto (tgt := 216) G (by decide) dX18_make_179 ?_
            exact zv_pick [] rfl (cpC_X18_make_216 hp G M S hl hk h)
        · have h := h.2 c21
          refine zv_aload_n G rfl rfl dX18_make_147 ?_
          refine zv_iload G rfl dX18_make_148 ?_
          refine zv_aload G rfl dX18_make_150 ?_
          refine zv_aload_n G rfl rfl dX18_make_152 ?_
          refine zv_iload G rfl dX18_make_153 ?_
          have o45 := h.1
          have h := h.2
          refine zv_callR (as := [ar x0, ai x5_7, ar v19, ar x3, ai x4]) (st := []) G M (zc_eV (C := zcn 16) G q1441 q1443 qs46 (Or.inl ⟨rfl, rfl⟩) q1444 md_X18_byKind (zc_rc G (zne tu18 o45 (by decide)) o45 (by decide) (by decide) rfl) rfl dX18_make_155) (S 142 _ rfl _ _ _ h (zoks_cons trivial (zoks_cons rx5_7 (zoks_cons trivial (zoks_cons trivial (zoks_cons rx4 zoks_nil)))))) (Or.inl ⟨rfl, rfl⟩) (zc_hk q1444 q174) (by decide) (Nat.le_of_ble_eq_true rfl) (fun v42 u41 h => ?_) (fun x43 u44 h => ?_)
          rotate_left
          · exact zx_leave G M rfl h
          refine zc_wk G hp (fun hu41 tu41 => ?_)
          exact zv_aret G M (Or.inl ⟨_, rfl⟩) dX18_make_158 h
      · have h := h.1 c17
        refine zv_aload_n G rfl rfl dX18_make_117 ?_
        refine zv_iload G rfl dX18_make_118 ?_
        refine zv_aload_n G rfl rfl dX18_make_120 ?_
        refine zv_iload G rfl dX18_make_121 ?_
        have o51 := h.1
        have h := h.2
        refine zv_callR (as := [ar x0, ai x5_7, ar x3, ai x4]) (st := []) G M (zc_eV (C := zcn 16) G q1375 q1377 qs38 (Or.inl ⟨rfl, rfl⟩) q1378 md_X18_ends (zc_rc G (zne tu15 o51 (by decide)) o51 (by decide) (by decide) rfl) rfl dX18_make_123) (S 134 _ rfl _ _ _ h (zoks_cons trivial (zoks_cons rx5_7 (zoks_cons trivial (zoks_cons rx4 zoks_nil))))) (Or.inl ⟨rfl, rfl⟩) (zc_hk q1378 q174) (by decide) (Nat.le_of_ble_eq_true rfl) (fun v48 u47 h => ?_) (fun x49 u50 h => ?_)
        rotate_left
        · exact zx_leave G M rfl h
        refine zc_wk G hp (fun hu47 tu47 => ?_)
        exact zv_aret G M (Or.inl ⟨_, rfl⟩) dX18_make_126 h
    · have h := h.1 c11
      have o54 := h.1
      have h := h.2
      refine zc_new (ci := 18) (t := 19) (n := 2) G M rfl rfl (by decide) rfl q1332 q1333 q178 o54 dX18_make_86 (fun u53 eu53 => ?_)
      have h := h u53 eu53
      refine zc_wk G hp (fun hu53 tu53 => ?_)
      refine zv_dup G rfl dX18_make_89 ?_
      refine zv_iload G rfl dX18_make_90 ?_
      refine zv_callV (as := [ar (cz u9 + 1), ai x5_7]) (st := [ar (cz u9 + 1)]) G M (zc_eI G rfl q1334 q1335 q1336 md_X22_init (Nat.succ_ne_zero _) rfl dX18_make_92) (S 161 _ rfl _ _ _ h (zoks_cons trivial (zoks_cons rx5_7 zoks_nil))) (Or.inl ⟨rfl, rfl⟩) (zc_hk q1336 q178) (by decide) (Nat.le_of_ble_eq_true rfl) (fun u55 h => ?_) (fun _ _ h => h.elim)
      refine zc_wk G hp (fun hu55 tu55 => ?_)
      exact zv_aret G M (Or.inl ⟨_, rfl⟩) dX18_make_95 h
  · have h := h.1 c5
    have o58 := h.1
    have h := h.2
    refine zc_new (ci := 17) (t := 18) (n := 6) G M rfl rfl (by decide) rfl q1317 q1318 q176 o58 dX18_make_57 (fun u57 eu57 => ?_)
    have h := h u57 eu57
    refine zc_wk G hp (fun hu57 tu57 => ?_)
    refine zv_dup G rfl dX18_make_60 ?_
    refine zv_callV (as := [ar (cz w + 1)]) (st := [ar (cz w + 1)]) G M (zc_eI G rfl q1326 q1327 q1328 md_X20_init (Nat.succ_ne_zero _) rfl dX18_make_61) (S 151 _ rfl _ _ _ h (zoks_cons trivial zoks_nil)) (Or.inl ⟨rfl, rfl⟩) (zc_hk q1328 q176) (by decide) (Nat.le_of_ble_eq_true rfl) (fun u59 h => ?_) (fun _ _ h => h.elim)
    refine zc_wk G hp (fun hu59 tu59 => ?_)
    refine zv_athrow G (Nat.succ_ne_zero _) dX18_make_64 ?_
    exact zx_leave G M rfl h
set_option maxHeartbeats 4000000 in
set_option maxRecDepth 100000 in
theorem cpC_X18_make_42 {Γ : ZG CW} {D : CD} {d p : Nat} (hp : D.K.1 = p) (G : ZOk Γ cX18_make RX18 8 (KnC D) (ZC D)) (M : ZRm Γ (d + 1) D.lim (Option.some (Jvm.ClassFile.FieldType.object "LetterPost$Node")) "make" []) (S : SdC d D p Γ.l) (hl : Γ.l.stackTraces = false) (hk : 0 ≤ d) {I11 : Int → Int → CW → Prop} {x0 : Nat} {x1 : Nat} {x2 : Int} {x3 : Nat} {x4 : Int} {x5 : Int} {w : CW} (hI11 : ∀ (x4 : Int) (x5 : Int) (w : CW), I11 x4 x5 w → zr x4 → zr x5 → ZV Γ w 11 [(0, ar x0), (1, ar x1), (2, ai x2), (3, ar x3), (4, ai x4), (5, ai x5)] []) (rx2 : zr x2) (rx4 : zr x4) (rx5 : zr x5) (h : pC_X18_make_42 p (wpC p d) (fun v w => Γ.Q (.inl (some (ar v))) w) (fun x w => Γ.Q (.inr x) w) I11 x0 x1 x2 x3 x4 x5 w) : ZV Γ w 42 [(0, ar x0), (1, ar x1), (2, ai x2), (3, ar x3), (4, ai x4), (5, ai x5)] [] := by
  refine zc_wk G hp (fun hw tw => ?_)
  refine zv_iincN G rfl (by decide) dX18_make_42 (fun x5_67 ex5_67 => ?_)
  have h := h x5_67 ex5_67
  have rx5_67 : zr x5_67 := by rw [ex5_67]; exact w32_r _
  refine zv_goto (tgt := 11) G (by decide) dX18_make_45 ?_
  exact zv_pick [0, 1, 2, 3, 4, 5] rfl (hI11 _ _ _ h rx4 rx5_67)
set_option maxHeartbeats 4000000 in
set_option maxRecDepth 100000 in
theorem cpC_X18_make_11 {Γ : ZG CW} {D : CD} {d p : Nat} (hp : D.K.1 = p) (G : ZOk Γ cX18_make RX18 8 (KnC D) (ZC D)) (M : ZRm Γ (d + 1) D.lim (Option.some (Jvm.ClassFile.FieldType.object "LetterPost$Node")) "make" []) (S : SdC d D p Γ.l) (hl : Γ.l.stackTraces = false) (hk : 0 ≤ d) {x0 : Nat} {x1 : Nat} {x2 : Int} {x3 : Nat} {x4 : Int} {x5 : Int} {w : CW} (rx2 : zr x2) (rx4 : zr x4) (rx5 : zr x5) (h : pC_X18_make_11 p (wpC p d) (fun v w => Γ.Q (.inl (some (ar v))) w) (fun x w => Γ.Q (.inr x) w) x0 x1 x2 x3 x4 x5 w) : ZV Γ w 11 [(0, ar x0), (1, ar x1), (2, ai x2), (3, ar x3), (4, ai x4), (5, ai x5)] [] := by
  obtain ⟨I11, eI11⟩ : ∃ I : Int → Int → CW → Prop, I = (fun x4 x5 w => zr x4 → zr x5 → ZV Γ w 11 [(0, ar x0), (1, ar x1), (2, ai x2), (3, ar x3), (4, ai x4), (5, ai x5)] []) := ⟨_, rfl⟩
  have hI11 : ∀ (x4 : Int) (x5 : Int) (w : CW), I11 x4 x5 w → zr x4 → zr x5 → ZV Γ w 11 [(0, ar x0), (1, ar x1), (2, ai x2), (3, ar x3), (4, ai x4), (5, ai x5)] [] := by subst eI11; exact fun _ _ _ z => z
  have hJ11 : ∀ (x4 : Int) (x5 : Int) (w : CW), (zr x4 → zr x5 → ZV Γ w 11 [(0, ar x0), (1, ar x1), (2, ai x2), (3, ar x3), (4, ai x4), (5, ai x5)] []) → I11 x4 x5 w := by subst eI11; exact fun _ _ _ z => z
  refine hI11 x4 x5 w (h I11 (fun x4 x5 w h => hJ11 x4 x5 w (fun rx4 rx5 => ?_))) rx4 rx5
  refine zc_wk G hp (fun hw tw => ?_)
  refine zv_iload G rfl dX18_make_11 ?_
  refine zv_iload_n G rfl rfl dX18_make_13 ?_
  refine zv_icmp_ge (tgt := 48) G rx5 rx2 (by decide) dX18_make_14 (fun c3 => ?_) (fun c3 => ?_)
  · have h := h.1 c3
    exact zv_pick [0, 3, 4] rfl (cpC_X18_make_48 hp G M S hl hk rx4 h)
  · have h := h.2 c3
    refine zv_aload_n G rfl rfl dX18_make_17 ?_
    refine zv_iload G rfl dX18_make_18 ?_
    have o62 := h.1
    have h := h.2
    refine zc_aald G o62.1 rx5 o62.2.1 o62.2.2 dX18_make_20 ?_
    refine zv_aload_n G rfl rfl dX18_make_21 ?_
    have o63 := h.1
    have h := h.2
    refine zc_get (f := 91) (v := ar (fR w 91 x0)) G o63 rfl q1263 (Or.inl rfl) (cV_R rfl) dX18_make_22 ?_
    have o73 := h.1
    have h := h.2
    refine zv_callI (as := [ar (aR w x1 x5), ar (fR w 91 x0)]) (st := []) G M (zc_eV (C := zcn 14) G q1290 q1291 q1292 (Or.inl ⟨rfl, rfl⟩) q1293 md_X16_isOut (zc_rc G (zne tw o73 (by decide)) o73 (by decide) (by decide) rfl) rfl dX18_make_25) (S 126 _ rfl _ _ _ h (zoks_cons trivial (zoks_cons trivial zoks_nil))) (Or.inl ⟨rfl, rfl⟩) (zc_hk q1293 q172) (by decide) (Nat.le_of_ble_eq_true rfl) (fun v65 u64 rv65 h => ?_) (fun _ _ h => h.elim)
    refine zc_wk G hp (fun hu64 tu64 => ?_)
    refine zv_if_ne (tgt := 42) G rv65 (by decide) dX18_make_28 (fun c66 => ?_) (fun c66 => ?_)
    · have h := h.2 c66
      exact zv_pick [0, 1, 2, 3, 4, 5] rfl (cpC_X18_make_42 hp G M S hl hk hI11 rx2 rx4 rx5 h)
    · have h := h.1 c66
      refine zv_aload_n G rfl rfl dX18_make_31 ?_
      refine zv_iload G rfl dX18_make_32 ?_
      refine zv_aload_n G rfl rfl dX18_make_34 ?_
      refine zv_iload G rfl dX18_make_35 ?_
      have o68 := h.1
      have h := h.2
      refine zc_aald G o68.1 rx5 o68.2.1 o68.2.2 dX18_make_37 ?_
      have o70 := h.1
      have h := h.2
      have o71 := h.1
      have h := h.2
      refine zc_aast G o70.1 o71 rx4 o70.2.1 o70.2.2 dX18_make_38 (fun u69 eu69 => ?_)
      have h := h u69 eu69
      refine zc_wk G hp (fun hu69 tu69 => ?_)
      refine zv_iincN G rfl (by decide) dX18_make_39 (fun x4_72 ex4_72 => ?_)
      have h := h x4_72 ex4_72
      have rx4_72 : zr x4_72 := by rw [ex4_72]; exact w32_r _
      exact zv_pick [0, 1, 2, 3, 4, 5] rfl (cpC_X18_make_42 hp G M S hl hk hI11 rx2 rx4_72 rx5 h)
set_option maxHeartbeats 4000000 in
set_option maxRecDepth 100000 in
theorem cpC_X18_make_0 {Γ : ZG CW} {D : CD} {d p : Nat} (hp : D.K.1 = p) (G : ZOk Γ cX18_make RX18 8 (KnC D) (ZC D)) (M : ZRm Γ (d + 1) D.lim (Option.some (Jvm.ClassFile.FieldType.object "LetterPost$Node")) "make" []) (S : SdC d D p Γ.l) (hl : Γ.l.stackTraces = false) (hk : 0 ≤ d) {x0 : Nat} {x1 : Nat} {x2 : Int} {w : CW} (rx2 : zr x2) (h : pC_X18_make_0 p (wpC p d) (fun v w => Γ.Q (.inl (some (ar v))) w) (fun x w => Γ.Q (.inr x) w) x0 x1 x2 w) : ZV Γ w 0 [(0, ar x0), (1, ar x1), (2, ai x2)] [] := by
  refine zc_wk G hp (fun hw tw => ?_)
  refine zv_iload_n G rfl rfl dX18_make_0 ?_
  have o2 := h.1
  have h := h.2
  refine zc_anew (t := 116) G M (by decide) q1289 o2.1 o2.2 dX18_make_1 (fun u1 eu1 => ?_)
  have h := h u1 eu1
  refine zc_wk G hp (fun hu1 tu1 => ?_)
  refine zv_astore_n G rfl (by decide) rfl dX18_make_4 ?_
  refine zv_iconst (a := 0) G (by decide) dX18_make_5 ?_
  refine zv_istore G (by decide) rfl dX18_make_6 ?_
  refine zv_iconst (a := 0) G (by decide) dX18_make_8 ?_
  refine zv_istore G (by decide) rfl dX18_make_9 ?_
  exact zv_pick [0, 1, 2, 3, 4, 5] rfl (cpC_X18_make_11 hp G M S hl hk rx2 (zr_k 0 (by decide) (by decide)) (zr_k 0 (by decide) (by decide)) h)
end ZCC3
