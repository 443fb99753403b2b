/-! walks of the component's methods, printed by tools/comp.py -/
section ZCC5
set_option maxHeartbeats 4000000 in
set_option maxRecDepth 100000 in
theorem cpC_X29_what_0 {Γ : ZG CW} {D : CD} {d p : Nat} (hp : D.K.1 = p) (G : ZOk Γ cX29_what RX29 1 (KnC D) (ZC D)) (M : ZRm Γ (d + 1) D.lim (Option.some Jvm.ClassFile.FieldType.int) "what" []) (S : SdC d D p Γ.l) (hl : Γ.l.stackTraces = false) (hk : 0 ≤ d) {w : CW} (h : pC_X29_what_0 p (wpC p d) (fun v w => Γ.Q (.inl (some (ai v))) w) w) : ZV Γ w 0 [] [] := by
  refine zc_wk G hp (fun hw tw => ?_)
  refine zv_bipush (a := 6) G (by decide) dX29_what_0 ?_
  exact zv_iret (ty := .int) (zr_k 6 (by decide) (by decide)) G M rfl dX29_what_2 h
set_option maxHeartbeats 4000000 in
set_option maxRecDepth 100000 in
theorem cpC_X29_go_33 {Γ : ZG CW} {D : CD} {d p : Nat} (hp : D.K.1 = p) (G : ZOk Γ cX29_go RX29 4 (KnC D) (ZC D)) (M : ZRm Γ (d + 1) D.lim (Option.some (Jvm.ClassFile.FieldType.object "LetterPost$Node")) "go" []) (S : SdC d D p Γ.l) (hl : Γ.l.stackTraces = false) (hk : 0 ≤ d) {x0 : Nat} {x3 : Int} {w : CW} (rx3 : zr x3) (h : pC_X29_go_33 p (wpC p d) (fun v w => Γ.Q (.inl (some (ar v))) w) x0 x3 w) : ZV Γ w 33 [(0, ar x0), (3, ai x3)] [] := by
  refine zc_wk G hp (fun hw tw => ?_)
  refine zv_aload_n G rfl rfl dX29_go_33 ?_
  have o10 := h.1
  have h := h.2
  refine zc_get (f := 107) (v := ar (fR w 107 x0)) G o10 rfl q1352 (Or.inr q1353) (cV_R rfl) dX29_go_34 ?_
  refine zv_iload_n G rfl rfl dX29_go_37 ?_
  have o11 := h.1
  have h := h.2
  refine zc_aald G o11.1 rx3 o11.2.1 o11.2.2 dX29_go_38 ?_
  exact zv_aret G M (Or.inl ⟨_, rfl⟩) dX29_go_39 h
set_option maxHeartbeats 4000000 in
set_option maxRecDepth 100000 in
theorem cpC_X29_go_17 {Γ : ZG CW} {D : CD} {d p : Nat} (hp : D.K.1 = p) (G : ZOk Γ cX29_go RX29 4 (KnC D) (ZC D)) (M : ZRm Γ (d + 1) D.lim (Option.some (Jvm.ClassFile.FieldType.object "LetterPost$Node")) "go" []) (S : SdC d D p Γ.l) (hl : Γ.l.stackTraces = false) (hk : 0 ≤ d) {x0 : Nat} {x2 : Int} {x3 : Int} {w : CW} (rx2 : zr x2) (rx3 : zr x3) (h : pC_X29_go_17 p (wpC p d) (fun v w => Γ.Q (.inl (some (ar v))) w) x0 x2 x3 w) : ZV Γ w 17 [(0, ar x0), (2, ai x2), (3, ai x3)] [] := by
  obtain ⟨I17, eI17⟩ : ∃ I : Int → CW → Prop, I = (fun x3 w => zr x3 → ZV Γ w 17 [(0, ar x0), (2, ai x2), (3, ai x3)] []) := ⟨_, rfl⟩
  have hI17 : ∀ (x3 : Int) (w : CW), I17 x3 w → zr x3 → ZV Γ w 17 [(0, ar x0), (2, ai x2), (3, ai x3)] [] := by subst eI17; exact fun _ _ z => z
  have hJ17 : ∀ (x3 : Int) (w : CW), (zr x3 → ZV Γ w 17 [(0, ar x0), (2, ai x2), (3, ai x3)] []) → I17 x3 w := by subst eI17; exact fun _ _ z => z
  refine hI17 x3 w (h I17 (fun x3 w h => hJ17 x3 w (fun rx3 => ?_))) rx3
  refine zc_wk G hp (fun hw tw => ?_)
  refine zv_iload_n G rfl rfl dX29_go_17 ?_
  refine zv_aload_n G rfl rfl dX29_go_18 ?_
  have o7 := h.1
  have h := h.2
  refine zc_get (f := 112) (v := ar (fR w 112 x0)) G o7 rfl q1527 (Or.inl rfl) (cV_R rfl) dX29_go_19 ?_
  refine zv_iload_n G rfl rfl dX29_go_22 ?_
  have o8 := h.1
  have h := h.2
  refine zc_ialdN G o8.1 rx3 o8.2.1 o8.2.2 dX29_go_23 ?_
  refine zv_icmp_le (tgt := 33) G rx2 (aN_r hw _ _) (by decide) dX29_go_24 (fun c9 => ?_) (fun c9 => ?_)
  · have h := h.1 c9
    exact zv_pick [0, 3] rfl (cpC_X29_go_33 hp G M S hl hk rx3 h)
  · have h := h.2 c9
    refine zv_iincN G rfl (by decide) dX29_go_27 (fun x3_12 ex3_12 => ?_)
    have h := h x3_12 ex3_12
    have rx3_12 : zr x3_12 := by rw [ex3_12]; exact w32_r _
    refine zv_goto (tgt := 17) G (by decide) dX29_go_30 ?_
    exact zv_pick [0, 2, 3] rfl (hI17 _ _ h rx3_12)
set_option maxHeartbeats 4000000 in
set_option maxRecDepth 100000 in
theorem cpC_X29_go_0 {Γ : ZG CW} {D : CD} {d p : Nat} (hp : D.K.1 = p) (G : ZOk Γ cX29_go RX29 4 (KnC D) (ZC D)) (M : ZRm Γ (d + 1) D.lim (Option.some (Jvm.ClassFile.FieldType.object "LetterPost$Node")) "go" []) (S : SdC d D p Γ.l) (hl : Γ.l.stackTraces = false) (hk : 0 ≤ d) {x0 : Nat} {x1 : Nat} {w : CW} (h : pC_X29_go_0 p (wpC p d) (fun v w => Γ.Q (.inl (some (ar v))) w) x0 x1 w) : ZV Γ w 0 [(0, ar x0), (1, ar x1)] [] := by
  refine zc_wk G hp (fun hw tw => ?_)
  refine zv_aload_n G rfl rfl dX29_go_0 ?_
  have o1 := h.1
  have h := h.2
  refine zc_get (f := 109) (v := ar (fR w 109 x0)) G o1 rfl q1466 (Or.inr q1467) (cV_R rfl) dX29_go_1 ?_
  refine zv_aload_n G rfl rfl dX29_go_4 ?_
  have o13 := h.1
  have h := h.2
  refine zv_callR (as := [ar (fR w 109 x0), ar x1]) (st := []) G M (zc_eV (C := zcn 15) G q1974 q1902 q1903 (Or.inl ⟨rfl, rfl⟩) q1904 md_X17_of (zc_rc G (zne tw o13 (by decide)) o13 (by decide) (by decide) rfl) rfl dX29_go_5) (S 131 _ rfl _ _ _ h (zoks_cons trivial (zoks_cons trivial zoks_nil))) (Or.inl ⟨rfl, rfl⟩) (zc_hk q1904 q173) (by decide) (Nat.le_of_ble_eq_true rfl) (fun v3 u2 h => ?_) (fun _ _ h => h.elim)
  refine zc_wk G hp (fun hu2 tu2 => ?_)
  have o4 := h.1
  have h := h.2
  refine zc_cast G q1975 o4 dX29_go_8 ?_
  have o5 := h.1
  have h := h.2
  refine zc_get (f := 115) (v := ai (fI u2 115 v3)) G o5 rfl q1705 (Or.inl rfl) (cV_I (by decide) (by decide)) dX29_go_11 ?_
  refine zv_istore_nN G rfl (by decide) dX29_go_14 (fun x2_6 ex2_6 => ?_)
  have h := h x2_6 ex2_6
  have rx2_6 : zr x2_6 := by rw [ex2_6]; exact (hu2.i 115 _ (by decide))
  refine zv_iconst (a := 0) G (by decide) dX29_go_15 ?_
  refine zv_istore_n G rfl (by decide) rfl dX29_go_16 ?_
  exact zv_pick [0, 2, 3] rfl (cpC_X29_go_17 hp G M S hl hk rx2_6 (zr_k 0 (by decide) (by decide)) h)
set_option maxHeartbeats 4000000 in
set_option maxRecDepth 100000 in
theorem cpC_X30_init_0 {Γ : ZG CW} {D : CD} {d p : Nat} (hp : D.K.1 = p) (G : ZOk Γ cX30_init RX30 3 (KnC D) (ZC D)) (M : ZRm Γ (d + 1) D.lim (Option.none : Option Jvm.ClassFile.FieldType) "<init>" []) (S : SdC d D p Γ.l) (hl : Γ.l.stackTraces = false) (hk : 0 ≤ d) {x0 : Nat} {x1 : Int} {x2 : Int} {w : CW} (rx1 : zr x1) (rx2 : zr x2) (h : pC_X30_init_0 p (wpC p d) (fun w => Γ.Q (.inl none) w) x0 x1 x2 w) : ZV Γ w 0 [(0, ar x0), (1, ai x1), (2, ai x2)] [] := by
  refine zc_wk G hp (fun hw tw => ?_)
  refine zv_aload_n G rfl rfl dX30_init_0 ?_
  have o2 := h.1
  have h := h.2
  refine zc_oinit G M q1701 q262 q263 o2 (Nat.le_of_ble_eq_true rfl) dX30_init_1 ?_
  refine zv_aload_n G rfl rfl dX30_init_4 ?_
  refine zv_iload_n G rfl rfl dX30_init_5 ?_
  have o4 := h.1
  have h := h.2
  refine zc_putI (f := 113) G M o4 rfl q1707 (Or.inl rfl) (Or.inr ⟨rfl, rfl, rfl⟩) (zfty_113) rfl rfl (by decide) (by decide) rx1 dX30_init_6 (fun u3 eu3 => ?_)
  have h := h u3 eu3
  refine zc_wk G hp (fun hu3 tu3 => ?_)
  refine zv_aload_n G rfl rfl dX30_init_9 ?_
  refine zv_iload_n G rfl rfl dX30_init_10 ?_
  have o6 := h.1
  have h := h.2
  refine zc_putI (f := 114) G M o6 rfl q1709 (Or.inl rfl) (Or.inr ⟨rfl, rfl, rfl⟩) (zfty_114) rfl rfl (by decide) (by decide) rx2 dX30_init_11 (fun u5 eu5 => ?_)
  have h := h u5 eu5
  refine zc_wk G hp (fun hu5 tu5 => ?_)
  exact zv_vret G M dX30_init_14 h
set_option maxHeartbeats 4000000 in
set_option maxRecDepth 100000 in
theorem cpC_X30_kind_0 {Γ : ZG CW} {D : CD} {d p : Nat} (hp : D.K.1 = p) (G : ZOk Γ cX30_kind RX30 1 (KnC D) (ZC D)) (M : ZRm Γ (d + 1) D.lim (Option.some (Jvm.ClassFile.FieldType.object "LetterPost$Kind")) "kind" []) (S : SdC d D p Γ.l) (hl : Γ.l.stackTraces = false) (hk : 0 ≤ d) {w : CW} (h : pC_X30_kind_0 p (wpC p d) (fun v w => Γ.Q (.inl (some (ar v))) w) w) : ZV Γ w 0 [] [] := by
  refine zc_wk G hp (fun hw tw => ?_)
  refine zv_null G dX30_kind_0 ?_
  exact zv_aret G M (Or.inl ⟨_, rfl⟩) dX30_kind_1 h
set_option maxHeartbeats 4000000 in
set_option maxRecDepth 100000 in
theorem cpC_X30_told_0 {Γ : ZG CW} {D : CD} {d p : Nat} (hp : D.K.1 = p) (G : ZOk Γ cX30_told RX30 1 (KnC D) (ZC D)) (M : ZRm Γ (d + 1) D.lim (Option.some Jvm.ClassFile.FieldType.int) "told" []) (S : SdC d D p Γ.l) (hl : Γ.l.stackTraces = false) (hk : 0 ≤ d) {w : CW} (h : pC_X30_told_0 p (wpC p d) (fun v w => Γ.Q (.inl (some (ai v))) w) w) : ZV Γ w 0 [] [] := by
  refine zc_wk G hp (fun hw tw => ?_)
  refine zv_bipush (a := (-4)) G (by decide) dX30_told_0 ?_
  exact zv_iret (ty := .int) (zr_k (-4) (by decide) (by decide)) G M rfl dX30_told_2 h
set_option maxHeartbeats 4000000 in
set_option maxRecDepth 100000 in
theorem cpC_X31_init_0 {Γ : ZG CW} {D : CD} {d p : Nat} (hp : D.K.1 = p) (G : ZOk Γ cX31_init RX31 3 (KnC D) (ZC D)) (M : ZRm Γ (d + 1) D.lim (Option.none : Option Jvm.ClassFile.FieldType) "<init>" []) (S : SdC d D p Γ.l) (hl : Γ.l.stackTraces = false) (hk : 0 ≤ d) {x0 : Nat} {x1 : Int} {x2 : Int} {w : CW} (rx1 : zr x1) (rx2 : zr x2) (h : pC_X31_init_0 p (wpC p d) (fun w => Γ.Q (.inl none) w) x0 x1 x2 w) : ZV Γ w 0 [(0, ar x0), (1, ai x1), (2, ai x2)] [] := by
  refine zc_wk G hp (fun hw tw => ?_)
  refine zv_aload_n G rfl rfl dX31_init_0 ?_
  refine zv_iload_n G rfl rfl dX31_init_1 ?_
  refine zv_iconst (a := 1) G (by decide) dX31_init_2 ?_
  have o5 := h.1
  have h := h.2
  refine zv_callV (as := [ar x0, ai x1, ai 1]) (st := []) G M (zc_eI G rfl q1698 q1699 q1700 md_X30_init o5 rfl dX31_init_3) (S 183 _ rfl _ _ _ h (zoks_cons trivial (zoks_cons rx1 (zoks_cons (zr_k 1 (by decide) (by decide)) zoks_nil)))) (Or.inl ⟨rfl, rfl⟩) (zc_hk q1700 q186) (by decide) (Nat.le_of_ble_eq_true rfl) (fun u1 h => ?_) (fun _ _ h => h.elim)
  refine zc_wk G hp (fun hu1 tu1 => ?_)
  refine zv_aload_n G rfl rfl dX31_init_6 ?_
  refine zv_iload_n G rfl rfl dX31_init_7 ?_
  have o4 := h.1
  have h := h.2
  refine zc_putI (f := 115) G M o4 rfl q1702 (Or.inl rfl) (Or.inr ⟨rfl, rfl, rfl⟩) (zfty_115) rfl rfl (by decide) (by decide) rx2 dX31_init_8 (fun u3 eu3 => ?_)
  have h := h u3 eu3
  refine zc_wk G hp (fun hu3 tu3 => ?_)
  exact zv_vret G M dX31_init_11 h
set_option maxHeartbeats 4000000 in
set_option maxRecDepth 100000 in
theorem cpC_X31_what_0 {Γ : ZG CW} {D : CD} {d p : Nat} (hp : D.K.1 = p) (G : ZOk Γ cX31_what RX31 1 (KnC D) (ZC D)) (M : ZRm Γ (d + 1) D.lim (Option.some Jvm.ClassFile.FieldType.int) "what" []) (S : SdC d D p Γ.l) (hl : Γ.l.stackTraces = false) (hk : 0 ≤ d) {w : CW} (h : pC_X31_what_0 p (wpC p d) (fun v w => Γ.Q (.inl (some (ai v))) w) w) : ZV Γ w 0 [] [] := by
  refine zc_wk G hp (fun hw tw => ?_)
  refine zv_iconst (a := 0) G (by decide) dX31_what_0 ?_
  exact zv_iret (ty := .int) (zr_k 0 (by decide) (by decide)) G M rfl dX31_what_1 h
set_option maxHeartbeats 4000000 in
set_option maxRecDepth 100000 in
theorem cpC_X31_told_0 {Γ : ZG CW} {D : CD} {d p : Nat} (hp : D.K.1 = p) (G : ZOk Γ cX31_told RX31 1 (KnC D) (ZC D)) (M : ZRm Γ (d + 1) D.lim (Option.some Jvm.ClassFile.FieldType.int) "told" []) (S : SdC d D p Γ.l) (hl : Γ.l.stackTraces = false) (hk : 0 ≤ d) {x0 : Nat} {w : CW} (h : pC_X31_told_0 p (wpC p d) (fun v w => Γ.Q (.inl (some (ai v))) w) x0 w) : ZV Γ w 0 [(0, ar x0)] [] := by
  refine zc_wk G hp (fun hw tw => ?_)
  refine zv_aload_n G rfl rfl dX31_told_0 ?_
  have o1 := h.1
  have h := h.2
  refine zc_get (f := 115) (v := ai (fI w 115 x0)) G o1 rfl q1702 (Or.inl rfl) (cV_I (by decide) (by decide)) dX31_told_1 ?_
  exact zv_iret (ty := .int) (hw.i 115 _ (by decide)) G M rfl dX31_told_4 h
set_option maxHeartbeats 4000000 in
set_option maxRecDepth 100000 in
theorem cpC_X31_isLike_0 {Γ : ZG CW} {D : CD} {d p : Nat} (hp : D.K.1 = p) (G : ZOk Γ cX31_isLike RX31 2 (KnC D) (ZC D)) (M : ZRm Γ (d + 1) D.lim (Option.some Jvm.ClassFile.FieldType.boolean) "isLike" []) (S : SdC d D p Γ.l) (hl : Γ.l.stackTraces = false) (hk : 0 ≤ d) {x0 : Nat} {x1 : Nat} {w : CW} (h : pC_X31_isLike_0 p (wpC p d) (fun v w => Γ.Q (.inl (some (ai v))) w) x0 x1 w) : ZV Γ w 0 [(0, ar x0), (1, ar x1)] [] := by
  refine zc_wk G hp (fun hw tw => ?_)
  refine zv_aload_n G rfl rfl dX31_isLike_0 ?_
  have kj16 : ∀ (v2 : Int) (u1 : CW), zr v2 → (
      (wpC p d) (vm5 (tg u1 x1)) [ar x1] u1 (zqI (fun v4 u3 =>
        ((v2 = v4 → (hF 115 (tg u3 x0) = true) ∧ (x1 = 0 ∨ zca (tg u3 x1) "LetterPost$Whole" = true) ∧ (hF 115 (tg u3 x1) = true))) ∧
        ∀ v5 : Int, v5 = (if (v2 = v4) ∧ ((fI u3 115 x0) = (fI u3 115 x1)) then 1 else 0) →
        (fun v w => Γ.Q (.inl (some (ai v))) w) v5 u3) zno)) → ZV Γ u1 4 [(0, ar x0), (1, ar x1)] [ai v2] := by
    intro v2 u1 rv2 h
    refine zc_wk G hp (fun hu1 tu1 => ?_)
    refine zv_aload_n G rfl rfl dX31_isLike_4 ?_
    have kj10 : ∀ (v4 : Int) (u3 : CW), zr v4 → (
        ((v2 = v4 → (hF 115 (tg u3 x0) = true) ∧ (x1 = 0 ∨ zca (tg u3 x1) "LetterPost$Whole" = true) ∧ (hF 115 (tg u3 x1) = true))) ∧
        ∀ v5 : Int, v5 = (if (v2 = v4) ∧ ((fI u3 115 x0) = (fI u3 115 x1)) then 1 else 0) →
        (fun v w => Γ.Q (.inl (some (ai v))) w) v5 u3) → ZV Γ u3 8 [(0, ar x0), (1, ar x1)] [ai v4, ai v2] := by
      intro v4 u3 rv4 h
      refine zc_wk G hp (fun hu3 tu3 => ?_)
      have o6 := h.1
      have h := h.2
      have kj7 : ∀ v5 : Int, v5 = (if (v2 = v4) ∧ ((fI u3 115 x0) = (fI u3 115 x1)) then 1 else 0) → ZV Γ u3 30 [(0, ar x0), (1, ar x1)] (ai v5 :: []) := by
        intro v5 ev5
        have h := h v5 ev5
        have rv5 : zr v5 := by rw [ev5]; exact (zr_ite (zr_k 1 (by decide) (by decide)) (zr_k 0 (by decide) (by decide)))
        have bv5 : v5 = 0 ∨ v5 = 1 := by rw [ev5]; exact (zb_ite (Or.inr rfl) (Or.inl rfl))
        exact zv_iret (ty := .boolean) rv5 G M (zn_Z bv5) dX31_isLike_30 h
      refine zv_icmp_ne (tgt := 29) G rv2 rv4 (by decide) dX31_isLike_8 (fun c8 => ?_) (fun c8 => ?_)
      · refine zv_iconst (a := 0) G (by decide) dX31_isLike_29 ?_
        exact kj7 _ (if_neg (fun q => c8 q.1)).symm
      · refine zv_aload_n G rfl rfl dX31_isLike_11 ?_
        refine zc_get (f := 115) (v := ai (fI u3 115 x0)) G (o6 c8).1 rfl q1702 (Or.inl rfl) (cV_I (by decide) (by decide)) dX31_isLike_12 ?_
        refine zv_aload_n G rfl rfl dX31_isLike_15 ?_
        refine zc_cast G q1873 (o6 c8).2.1 dX31_isLike_16 ?_
        refine zc_get (f := 115) (v := ai (fI u3 115 x1)) G (o6 c8).2.2 rfl q1702 (Or.inl rfl) (cV_I (by decide) (by decide)) dX31_isLike_19 ?_
        refine zv_icmp_ne (tgt := 29) G (hu3.i 115 _ (by decide)) (hu3.i 115 _ (by decide)) (by decide) dX31_isLike_22 (fun c9 => ?_) (fun c9 => ?_)
        · refine zv_iconst (a := 0) G (by decide) dX31_isLike_29 ?_
          exact kj7 _ (if_neg (fun q => c9 q.2)).symm
        · refine zv_iconst (a := 1) G (by decide) dX31_isLike_25 ?_
          refine zv_goto (tgt := 30) G (by decide) dX31_isLike_26 ?_
          exact kj7 _ (if_pos ⟨c8, c9⟩).symm
    have h : wpC p d (vm5 (tg u1 x1)) [ar x1] u1 _ := h
    by_cases c11 : tg u1 x1 = 26
    · have e : vm5 (tg u1 x1) = 187 := by rw [c11]; rfl
      rw [e] at h
      exact zv_callI (as := [ar x1]) (st := [ai v2]) G M (zc_eU (C := zcn 26) G q1872 q1783 (zc_declD G q1782) ⟨by decide, by decide⟩ q1796 q1797 mdx_0 (zc_rc G (zne tu1 c11 (by decide)) c11 (by decide) (by decide) rfl) rfl dX31_isLike_5) (S 187 _ rfl _ _ _ h (zoks_cons trivial zoks_nil)) (Or.inl ⟨rfl, rfl⟩) (zc_hk q1798 q187) (by decide) (Nat.le_of_ble_eq_true rfl) kj10 (fun _ _ h => h.elim)
    by_cases c12 : tg u1 x1 = 27
    · have e : vm5 (tg u1 x1) = 191 := by rw [c12]; rfl
      rw [e] at h
      exact zv_callI (as := [ar x1]) (st := [ai v2]) G M (zc_eU (C := zcn 27) G q1872 q1783 (zc_declD G q1782) ⟨by decide, by decide⟩ q1793 q1794 mdx_0 (zc_rc G (zne tu1 c12 (by decide)) c12 (by decide) (by decide) rfl) rfl dX31_isLike_5) (S 191 _ rfl _ _ _ h (zoks_cons trivial zoks_nil)) (Or.inl ⟨rfl, rfl⟩) (zc_hk q1795 q188) (by decide) (Nat.le_of_ble_eq_true rfl) kj10 (fun _ _ h => h.elim)
    by_cases c13 : tg u1 x1 = 28
    · have e : vm5 (tg u1 x1) = 193 := by rw [c13]; rfl
      rw [e] at h
      exact zv_callI (as := [ar x1]) (st := [ai v2]) G M (zc_eU (C := zcn 28) G q1872 q1783 (zc_declD G q1782) ⟨by decide, by decide⟩ q1790 q1791 mdx_0 (zc_rc G (zne tu1 c13 (by decide)) c13 (by decide) (by decide) rfl) rfl dX31_isLike_5) (S 193 _ rfl _ _ _ h (zoks_cons trivial zoks_nil)) (Or.inl ⟨rfl, rfl⟩) (zc_hk q1792 q189) (by decide) (Nat.le_of_ble_eq_true rfl) kj10 (fun _ _ h => h.elim)
    by_cases c14 : tg u1 x1 = 29
    · have e : vm5 (tg u1 x1) = 197 := by rw [c14]; rfl
      rw [e] at h
      exact zv_callI (as := [ar x1]) (st := [ai v2]) G M (zc_eU (C := zcn 29) G q1872 q1783 (zc_declD G q1782) ⟨by decide, by decide⟩ q1787 q1788 mdx_0 (zc_rc G (zne tu1 c14 (by decide)) c14 (by decide) (by decide) rfl) rfl dX31_isLike_5) (S 197 _ rfl _ _ _ h (zoks_cons trivial zoks_nil)) (Or.inl ⟨rfl, rfl⟩) (zc_hk q1789 q190) (by decide) (Nat.le_of_ble_eq_true rfl) kj10 (fun _ _ h => h.elim)
    by_cases c15 : tg u1 x1 = 30
    · have e : vm5 (tg u1 x1) = 199 := by rw [c15]; rfl
      rw [e] at h
      exact zv_callI (as := [ar x1]) (st := [ai v2]) G M (zc_eU (C := zcn 30) G q1872 q1783 (zc_declD G q1782) ⟨by decide, by decide⟩ q1784 q1785 mdx_0 (zc_rc G (zne tu1 c15 (by decide)) c15 (by decide) (by decide) rfl) rfl dX31_isLike_5) (S 199 _ rfl _ _ _ h (zoks_cons trivial zoks_nil)) (Or.inl ⟨rfl, rfl⟩) (zc_hk q1786 q191) (by decide) (Nat.le_of_ble_eq_true rfl) kj10 (fun _ _ h => h.elim)
    have e : vm5 (tg u1 x1) = 9999 := by unfold vm5; rw [if_neg c11, if_neg c12, if_neg c13, if_neg c14, if_neg c15]
    rw [e] at h
    exact (wpC_none h).elim
  have h : wpC p d (vm13 (tg w x0)) [ar x0] w _ := h
  by_cases c17 : tg w x0 = 26
  · have e : vm13 (tg w x0) = 187 := by rw [c17]; rfl
    rw [e] at h
    exact zv_callI (as := [ar x0]) (st := []) G M (zc_eV (C := zcn 26) G q1871 q1797 q3007 (Or.inl ⟨rfl, rfl⟩) q1798 md_X31_what (zc_rc G (zne tw c17 (by decide)) c17 (by decide) (by decide) rfl) rfl dX31_isLike_1) (S 187 _ rfl _ _ _ h (zoks_cons trivial zoks_nil)) (Or.inl ⟨rfl, rfl⟩) (zc_hk q1798 q187) (by decide) (Nat.le_of_ble_eq_true rfl) kj16 (fun _ _ h => h.elim)
  by_cases c18 : tg w x0 = 27
  · have e : vm13 (tg w x0) = 191 := by rw [c18]; rfl
    rw [e] at h
    exact zv_callI (as := [ar x0]) (st := []) G M (zc_eU (C := zcn 27) G q1871 q3005 (zc_declC G q1797 q1798) ⟨by decide, by decide⟩ q3006 q1794 md_X31_what (zc_rc G (zne tw c18 (by decide)) c18 (by decide) (by decide) rfl) rfl dX31_isLike_1) (S 191 _ rfl _ _ _ h (zoks_cons trivial zoks_nil)) (Or.inl ⟨rfl, rfl⟩) (zc_hk q1795 q188) (by decide) (Nat.le_of_ble_eq_true rfl) kj16 (fun _ _ h => h.elim)
  have e : vm13 (tg w x0) = 9999 := by unfold vm13; rw [if_neg c17, if_neg c18]
  rw [e] at h
  exact (wpC_none h).elim
set_option maxHeartbeats 4000000 in
set_option maxRecDepth 100000 in
theorem cpC_X32_init_0 {Γ : ZG CW} {D : CD} {d p : Nat} (hp : D.K.1 = p) (G : ZOk Γ cX32_init RX32 3 (KnC D) (ZC D)) (M : ZRm Γ (d + 1) D.lim (Option.none : Option Jvm.ClassFile.FieldType) "<init>" []) (S : SdC d D p Γ.l) (hl : Γ.l.stackTraces = false) (hk : 0 ≤ d) {x0 : Nat} {x1 : Int} {x2 : Int} {w : CW} (rx1 : zr x1) (rx2 : zr x2) (h : pC_X32_init_0 p (wpC p d) (fun w => Γ.Q (.inl none) w) x0 x1 x2 w) : ZV Γ w 0 [(0, ar x0), (1, ai x1), (2, ai x2)] [] := by
  refine zc_wk G hp (fun hw tw => ?_)
  refine zv_aload_n G rfl rfl dX32_init_0 ?_
  refine zv_iload_n G rfl rfl dX32_init_1 ?_
  refine zv_iload_n G rfl rfl dX32_init_2 ?_
  have kj5 : ∀ v1 : Int, v1 = (if ¬ (x2 = 0) then 1 else 0) → ZV Γ w 11 [(0, ar x0), (1, ai x1), (2, ai x2)] (ai v1 :: ai x1 :: ar x0 :: []) := by
    intro v1 ev1
    have h := h v1 ev1
    have rv1 : zr v1 := by rw [ev1]; exact (zr_ite (zr_k 1 (by decide) (by decide)) (zr_k 0 (by decide) (by decide)))
    have bv1 : v1 = 0 ∨ v1 = 1 := by rw [ev1]; exact (zb_ite (Or.inr rfl) (Or.inl rfl))
    have o4 := h.1
    have h := h.2
    refine zv_callV (as := [ar x0, ai x1, ai v1]) (st := []) G M (zc_eI G rfl q1731 q1696 q1697 md_X31_init o4 rfl dX32_init_11) (S 186 _ rfl _ _ _ h (zoks_cons trivial (zoks_cons rx1 (zoks_cons rv1 zoks_nil)))) (Or.inl ⟨rfl, rfl⟩) (zc_hk q1697 q187) (by decide) (Nat.le_of_ble_eq_true rfl) (fun u2 h => ?_) (fun _ _ h => h.elim)
    refine zc_wk G hp (fun hu2 tu2 => ?_)
    exact zv_vret G M dX32_init_14 h
  refine zv_if_eq (tgt := 10) G rx2 (by decide) dX32_init_3 (fun c6 => ?_) (fun c6 => ?_)
  · refine zv_iconst (a := 0) G (by decide) dX32_init_10 ?_
    exact kj5 _ (if_neg (fun q => q c6)).symm
  · refine zv_iconst (a := 1) G (by decide) dX32_init_6 ?_
    refine zv_goto (tgt := 11) G (by decide) dX32_init_7 ?_
    exact kj5 _ (if_pos c6).symm
set_option maxHeartbeats 4000000 in
set_option maxRecDepth 100000 in
theorem cpC_X32_what_0 {Γ : ZG CW} {D : CD} {d p : Nat} (hp : D.K.1 = p) (G : ZOk Γ cX32_what RX32 1 (KnC D) (ZC D)) (M : ZRm Γ (d + 1) D.lim (Option.some Jvm.ClassFile.FieldType.int) "what" []) (S : SdC d D p Γ.l) (hl : Γ.l.stackTraces = false) (hk : 0 ≤ d) {w : CW} (h : pC_X32_what_0 p (wpC p d) (fun v w => Γ.Q (.inl (some (ai v))) w) w) : ZV Γ w 0 [] [] := by
  refine zc_wk G hp (fun hw tw => ?_)
  refine zv_iconst (a := 1) G (by decide) dX32_what_0 ?_
  exact zv_iret (ty := .int) (zr_k 1 (by decide) (by decide)) G M rfl dX32_what_1 h
set_option maxHeartbeats 4000000 in
set_option maxRecDepth 100000 in
theorem cpC_X33_init_0 {Γ : ZG CW} {D : CD} {d p : Nat} (hp : D.K.1 = p) (G : ZOk Γ cX33_init RX33 4 (KnC D) (ZC D)) (M : ZRm Γ (d + 1) D.lim (Option.none : Option Jvm.ClassFile.FieldType) "<init>" []) (S : SdC d D p Γ.l) (hl : Γ.l.stackTraces = false) (hk : 0 ≤ d) {x0 : Nat} {x1 : Int} {x2 : Int} {w : CW} (rx1 : zr x1) (rx2 : zrl x2) (h : pC_X33_init_0 p (wpC p d) (fun w => Γ.Q (.inl none) w) x0 x1 x2 w) : ZV Γ w 0 [(0, ar x0), (1, ai x1), (2, al x2)] [] := by
  refine zc_wk G hp (fun hw tw => ?_)
  refine zv_aload_n G rfl rfl dX33_init_0 ?_
  refine zv_iload_n G rfl rfl dX33_init_1 ?_
  refine zv_iconst (a := 1) G (by decide) dX33_init_2 ?_
  have o5 := h.1
  have h := h.2
  refine zv_callV (as := [ar x0, ai x1, ai 1]) (st := []) G M (zc_eI G rfl q1745 q1699 q1700 md_X30_init o5 rfl dX33_init_3) (S 183 _ rfl _ _ _ h (zoks_cons trivial (zoks_cons rx1 (zoks_cons (zr_k 1 (by decide) (by decide)) zoks_nil)))) (Or.inl ⟨rfl, rfl⟩) (zc_hk q1700 q186) (by decide) (Nat.le_of_ble_eq_true rfl) (fun u1 h => ?_) (fun _ _ h => h.elim)
  refine zc_wk G hp (fun hu1 tu1 => ?_)
  refine zv_aload_n G rfl rfl dX33_init_6 ?_
  refine zv_lload_n G rfl rfl dX33_init_7 ?_
  have o4 := h.1
  have h := h.2
  refine zc_putL (f := 116) G M o4 rfl q1746 (Or.inl rfl) (Or.inr ⟨rfl, rfl, rfl⟩) (zfty_116) rfl rfl rfl rx2 dX33_init_8 (fun u3 eu3 => ?_)
  have h := h u3 eu3
  refine zc_wk G hp (fun hu3 tu3 => ?_)
  exact zv_vret G M dX33_init_11 h
set_option maxHeartbeats 4000000 in
set_option maxRecDepth 100000 in
theorem cpC_X33_what_0 {Γ : ZG CW} {D : CD} {d p : Nat} (hp : D.K.1 = p) (G : ZOk Γ cX33_what RX33 1 (KnC D) (ZC D)) (M : ZRm Γ (d + 1) D.lim (Option.some Jvm.ClassFile.FieldType.int) "what" []) (S : SdC d D p Γ.l) (hl : Γ.l.stackTraces = false) (hk : 0 ≤ d) {w : CW} (h : pC_X33_what_0 p (wpC p d) (fun v w => Γ.Q (.inl (some (ai v))) w) w) : ZV Γ w 0 [] [] := by
  refine zc_wk G hp (fun hw tw => ?_)
  refine zv_iconst (a := 2) G (by decide) dX33_what_0 ?_
  exact zv_iret (ty := .int) (zr_k 2 (by decide) (by decide)) G M rfl dX33_what_1 h
set_option maxHeartbeats 4000000 in
set_option maxRecDepth 100000 in
theorem cpC_X33_told_24 {Γ : ZG CW} {D : CD} {d p : Nat} (hp : D.K.1 = p) (G : ZOk Γ cX33_told RX33 4 (KnC D) (ZC D)) (M : ZRm Γ (d + 1) D.lim (Option.some Jvm.ClassFile.FieldType.int) "told" []) (S : SdC d D p Γ.l) (hl : Γ.l.stackTraces = false) (hk : 0 ≤ d) {x1 : Int} {w : CW} (rx1 : zr x1) (h : pC_X33_told_24 p (wpC p d) (fun v w => Γ.Q (.inl (some (ai v))) w) x1 w) : ZV Γ w 24 [(1, ai x1)] [] := by
  refine zc_wk G hp (fun hw tw => ?_)
  refine zv_iload_n G rfl rfl dX33_told_24 ?_
  exact zv_iret (ty := .int) rx1 G M rfl dX33_told_25 h
set_option maxHeartbeats 4000000 in
set_option maxRecDepth 100000 in
theorem cpC_X33_told_7 {Γ : ZG CW} {D : CD} {d p : Nat} (hp : D.K.1 = p) (G : ZOk Γ cX33_told RX33 4 (KnC D) (ZC D)) (M : ZRm Γ (d + 1) D.lim (Option.some Jvm.ClassFile.FieldType.int) "told" []) (S : SdC d D p Γ.l) (hl : Γ.l.stackTraces = false) (hk : 0 ≤ d) {x1 : Int} {x2 : Int} {w : CW} (rx1 : zr x1) (rx2 : zrl x2) (h : pC_X33_told_7 p (wpC p d) (fun v w => Γ.Q (.inl (some (ai v))) w) x1 x2 w) : ZV Γ w 7 [(1, ai x1), (2, al x2)] [] := by
  obtain ⟨I7, eI7⟩ : ∃ I : Int → Int → CW → Prop, I = (fun x1 x2 w => zr x1 → zrl x2 → ZV Γ w 7 [(1, ai x1), (2, al x2)] []) := ⟨_, rfl⟩
  have hI7 : ∀ (x1 : Int) (x2 : Int) (w : CW), I7 x1 x2 w → zr x1 → zrl x2 → ZV Γ w 7 [(1, ai x1), (2, al x2)] [] := by subst eI7; exact fun _ _ _ z => z
  have hJ7 : ∀ (x1 : Int) (x2 : Int) (w : CW), (zr x1 → zrl x2 → ZV Γ w 7 [(1, ai x1), (2, al x2)] []) → I7 x1 x2 w := by subst eI7; exact fun _ _ _ z => z
  refine hI7 x1 x2 w (h I7 (fun x1 x2 w h => hJ7 x1 x2 w (fun rx1 rx2 => ?_))) rx1 rx2
  refine zc_wk G hp (fun hw tw => ?_)
  refine zv_lload_n G rfl rfl dX33_told_7 ?_
  refine zv_lconst (a := 0) G (by decide) dX33_told_8 ?_
  refine zv_lcmp G rx2 (zrl_k 0 (by decide) (by decide)) dX33_told_9 ?_
  refine zv_lif_eq (tgt := 24) G (by decide) dX33_told_10 (fun c3 => ?_) (fun c3 => ?_)
  · have h := h.1 c3
    exact zv_pick [1] rfl (cpC_X33_told_24 hp G M S hl hk rx1 h)
  · have h := h.2 c3
    refine zv_iincN G rfl (by decide) dX33_told_13 (fun x1_4 ex1_4 => ?_)
    have h := h x1_4 ex1_4
    have rx1_4 : zr x1_4 := by rw [ex1_4]; exact w32_r _
    refine zv_lload_n G rfl rfl dX33_told_16 ?_
    refine zv_bipush (a := 8) G (by decide) dX33_told_17 ?_
    refine zv_lushr G dX33_told_19 ?_
    refine zv_lstore_nN G rfl (by decide) dX33_told_20 (fun x2_5 ex2_5 => ?_)
    have h := h x2_5 ex2_5
    have rx2_5 : zrl x2_5 := by rw [ex2_5]; exact (show zrl _ from by first | with_reducible exact l_and_r _ _ | with_reducible exact l_or_r _ _ | with_reducible exact l_shl_r _ _ | with_reducible exact l_shr_r _ _ | with_reducible exact l_ushr_r _ _ | exact zrl_of _)
    refine zv_goto (tgt := 7) G (by decide) dX33_told_21 ?_
    exact zv_pick [1, 2] rfl (hI7 _ _ _ h rx1_4 rx2_5)
set_option maxHeartbeats 4000000 in
set_option maxRecDepth 100000 in
theorem cpC_X33_told_0 {Γ : ZG CW} {D : CD} {d p : Nat} (hp : D.K.1 = p) (G : ZOk Γ cX33_told RX33 4 (KnC D) (ZC D)) (M : ZRm Γ (d + 1) D.lim (Option.some Jvm.ClassFile.FieldType.int) "told" []) (S : SdC d D p Γ.l) (hl : Γ.l.stackTraces = false) (hk : 0 ≤ d) {x0 : Nat} {w : CW} (h : pC_X33_told_0 p (wpC p d) (fun v w => Γ.Q (.inl (some (ai v))) w) x0 w) : ZV Γ w 0 [(0, ar x0)] [] := by
  refine zc_wk G hp (fun hw tw => ?_)
  refine zv_iconst (a := 0) G (by decide) dX33_told_0 ?_
  refine zv_istore_n G rfl (by decide) rfl dX33_told_1 ?_
  refine zv_aload_n G rfl rfl dX33_told_2 ?_
  have o1 := h.1
  have h := h.2
  refine zc_get (f := 116) (v := al (fI w 116 x0)) G o1 rfl q1746 (Or.inl rfl) (cV_L rfl) dX33_told_3 ?_
  refine zv_lstore_nN G rfl (by decide) dX33_told_6 (fun x2_2 ex2_2 => ?_)
  have h := h x2_2 ex2_2
  have rx2_2 : zrl x2_2 := by rw [ex2_2]; exact (hw.l 116 _ (by decide))
  exact zv_pick [1, 2] rfl (cpC_X33_told_7 hp G M S hl hk (zr_k 0 (by decide) (by decide)) rx2_2 h)
set_option maxHeartbeats 4000000 in
set_option maxRecDepth 100000 in
theorem cpC_X33_isLike_0 {Γ : ZG CW} {D : CD} {d p : Nat} (hp : D.K.1 = p) (G : ZOk Γ cX33_isLike RX33 2 (KnC D) (ZC D)) (M : ZRm Γ (d + 1) D.lim (Option.some Jvm.ClassFile.FieldType.boolean) "isLike" []) (S : SdC d D p Γ.l) (hl : Γ.l.stackTraces = false) (hk : 0 ≤ d) {x0 : Nat} {x1 : Nat} {w : CW} (h : pC_X33_isLike_0 p (wpC p d) (fun v w => Γ.Q (.inl (some (ai v))) w) x0 x1 w) : ZV Γ w 0 [(0, ar x0), (1, ar x1)] [] := by
  refine zc_wk G hp (fun hw tw => ?_)
  refine zv_aload_n G rfl rfl dX33_isLike_0 ?_
  have o1 := h.1
  have h := h.2
  refine zc_inst G q1868 o1 dX33_isLike_1 ?_
  have o3 := h.1
  have h := h.2
  have kj4 : ∀ v2 : Int, v2 = (if (zca (tg w x1) "LetterPost$Text" = true) ∧ ((fI w 116 x0) = (fI w 116 x1)) then 1 else 0) → ZV Γ w 27 [(0, ar x0), (1, ar x1)] (ai v2 :: []) := by
    intro v2 ev2
    have h := h v2 ev2
    have rv2 : zr v2 := by rw [ev2]; exact (zr_ite (zr_k 1 (by decide) (by decide)) (zr_k 0 (by decide) (by decide)))
    have bv2 : v2 = 0 ∨ v2 = 1 := by rw [ev2]; exact (zb_ite (Or.inr rfl) (Or.inl rfl))
    exact zv_iret (ty := .boolean) rv2 G M (zn_Z bv2) dX33_isLike_27 h
  refine zv_bif_eq (tgt := 26) G (by decide) dX33_isLike_4 (fun c5 => ?_) (fun c5 => ?_)
  · refine zv_iconst (a := 0) G (by decide) dX33_isLike_26 ?_
    exact kj4 _ (if_neg (fun q => c5 q.1)).symm
  · refine zv_aload_n G rfl rfl dX33_isLike_7 ?_
    refine zc_get (f := 116) (v := al (fI w 116 x0)) G (o3 c5).1 rfl q1746 (Or.inl rfl) (cV_L rfl) dX33_isLike_8 ?_
    refine zv_aload_n G rfl rfl dX33_isLike_11 ?_
    refine zc_cast G q1868 (o3 c5).2.1 dX33_isLike_12 ?_
    refine zc_get (f := 116) (v := al (fI w 116 x1)) G (o3 c5).2.2 rfl q1746 (Or.inl rfl) (cV_L rfl) dX33_isLike_15 ?_
    refine zv_lcmp G (hw.l 116 _ (by decide)) (hw.l 116 _ (by decide)) dX33_isLike_18 ?_
    refine zv_lif_ne (tgt := 26) G (by decide) dX33_isLike_19 (fun c6 => ?_) (fun c6 => ?_)
    · refine zv_iconst (a := 0) G (by decide) dX33_isLike_26 ?_
      exact kj4 _ (if_neg (fun q => c6 q.2)).symm
    · refine zv_iconst (a := 1) G (by decide) dX33_isLike_22 ?_
      refine zv_goto (tgt := 27) G (by decide) dX33_isLike_23 ?_
      exact kj4 _ (if_pos ⟨c5, c6⟩).symm
set_option maxHeartbeats 4000000 in
set_option maxRecDepth 100000 in
theorem cpC_X34_init_0 {Γ : ZG CW} {D : CD} {d p : Nat} (hp : D.K.1 = p) (G : ZOk Γ cX34_init RX34 3 (KnC D) (ZC D)) (M : ZRm Γ (d + 1) D.lim (Option.none : Option Jvm.ClassFile.FieldType) "<init>" []) (S : SdC d D p Γ.l) (hl : Γ.l.stackTraces = false) (hk : 0 ≤ d) {x0 : Nat} {x1 : Int} {x2 : Int} {w : CW} (rx1 : zr x1) (rx2 : zr x2) (h : pC_X34_init_0 p (wpC p d) (fun w => Γ.Q (.inl none) w) x0 x1 x2 w) : ZV Γ w 0 [(0, ar x0), (1, ai x1), (2, ai x2)] [] := by
  refine zc_wk G hp (fun hw tw => ?_)
  refine zv_aload_n G rfl rfl dX34_init_0 ?_
  refine zv_iload_n G rfl rfl dX34_init_1 ?_
  refine zv_iload_n G rfl rfl dX34_init_2 ?_
  have o3 := h.1
  have h := h.2
  refine zv_callV (as := [ar x0, ai x1, ai x2]) (st := []) G M (zc_eI G rfl q1763 q1699 q1700 md_X30_init o3 rfl dX34_init_3) (S 183 _ rfl _ _ _ h (zoks_cons trivial (zoks_cons rx1 (zoks_cons rx2 zoks_nil)))) (Or.inl ⟨rfl, rfl⟩) (zc_hk q1700 q186) (by decide) (Nat.le_of_ble_eq_true rfl) (fun u1 h => ?_) (fun _ _ h => h.elim)
  refine zc_wk G hp (fun hu1 tu1 => ?_)
  exact zv_vret G M dX34_init_6 h
set_option maxHeartbeats 4000000 in
set_option maxRecDepth 100000 in
theorem cpC_X34_what_0 {Γ : ZG CW} {D : CD} {d p : Nat} (hp : D.K.1 = p) (G : ZOk Γ cX34_what RX34 1 (KnC D) (ZC D)) (M : ZRm Γ (d + 1) D.lim (Option.some Jvm.ClassFile.FieldType.int) "what" []) (S : SdC d D p Γ.l) (hl : Γ.l.stackTraces = false) (hk : 0 ≤ d) {w : CW} (h : pC_X34_what_0 p (wpC p d) (fun v w => Γ.Q (.inl (some (ai v))) w) w) : ZV Γ w 0 [] [] := by
  refine zc_wk G hp (fun hw tw => ?_)
  refine zv_iconst (a := 3) G (by decide) dX34_what_0 ?_
  exact zv_iret (ty := .int) (zr_k 3 (by decide) (by decide)) G M rfl dX34_what_1 h
set_option maxHeartbeats 4000000 in
set_option maxRecDepth 100000 in
theorem cpC_X34_isLike_0 {Γ : ZG CW} {D : CD} {d p : Nat} (hp : D.K.1 = p) (G : ZOk Γ cX34_isLike RX34 2 (KnC D) (ZC D)) (M : ZRm Γ (d + 1) D.lim (Option.some Jvm.ClassFile.FieldType.boolean) "isLike" []) (S : SdC d D p Γ.l) (hl : Γ.l.stackTraces = false) (hk : 0 ≤ d) {x0 : Nat} {x1 : Nat} {w : CW} (h : pC_X34_isLike_0 p (wpC p d) (fun v w => Γ.Q (.inl (some (ai v))) w) x0 x1 w) : ZV Γ w 0 [(0, ar x0), (1, ar x1)] [] := by
  refine zc_wk G hp (fun hw tw => ?_)
  refine zv_aload_n G rfl rfl dX34_isLike_0 ?_
  have kj14 : ∀ (v2 : Int) (u1 : CW), zr v2 → (
      (wpC p d) (vm5 (tg u1 x1)) [ar x1] u1 (zqI (fun v4 u3 =>
        ∀ v5 : Int, v5 = (if v2 = v4 then 1 else 0) →
        (fun v w => Γ.Q (.inl (some (ai v))) w) v5 u3) zno)) → ZV Γ u1 4 [(0, ar x0), (1, ar x1)] [ai v2] := by
    intro v2 u1 rv2 h
    refine zc_wk G hp (fun hu1 tu1 => ?_)
    refine zv_aload_n G rfl rfl dX34_isLike_4 ?_
    have kj8 : ∀ (v4 : Int) (u3 : CW), zr v4 → (
        ∀ v5 : Int, v5 = (if v2 = v4 then 1 else 0) →
        (fun v w => Γ.Q (.inl (some (ai v))) w) v5 u3) → ZV Γ u3 8 [(0, ar x0), (1, ar x1)] [ai v4, ai v2] := by
      intro v4 u3 rv4 h
      refine zc_wk G hp (fun hu3 tu3 => ?_)
      have kj6 : ∀ v5 : Int, v5 = (if v2 = v4 then 1 else 0) → ZV Γ u3 16 [(0, ar x0), (1, ar x1)] (ai v5 :: []) := by
        intro v5 ev5
        have h := h v5 ev5
        have rv5 : zr v5 := by rw [ev5]; exact (zr_ite (zr_k 1 (by decide) (by decide)) (zr_k 0 (by decide) (by decide)))
        have bv5 : v5 = 0 ∨ v5 = 1 := by rw [ev5]; exact (zb_ite (Or.inr rfl) (Or.inl rfl))
        exact zv_iret (ty := .boolean) rv5 G M (zn_Z bv5) dX34_isLike_16 h
      refine zv_icmp_ne (tgt := 15) G rv2 rv4 (by decide) dX34_isLike_8 (fun c7 => ?_) (fun c7 => ?_)
      · refine zv_iconst (a := 0) G (by decide) dX34_isLike_15 ?_
        exact kj6 _ (if_neg c7).symm
      · refine zv_iconst (a := 1) G (by decide) dX34_isLike_11 ?_
        refine zv_goto (tgt := 16) G (by decide) dX34_isLike_12 ?_
        exact kj6 _ (if_pos c7).symm
    have h : wpC p d (vm5 (tg u1 x1)) [ar x1] u1 _ := h
    by_cases c9 : tg u1 x1 = 26
    · have e : vm5 (tg u1 x1) = 187 := by rw [c9]; rfl
      rw [e] at h
      exact zv_callI (as := [ar x1]) (st := [ai v2]) G M (zc_eU (C := zcn 26) G q1862 q1783 (zc_declD G q1782) ⟨by decide, by decide⟩ q1796 q1797 mdx_0 (zc_rc G (zne tu1 c9 (by decide)) c9 (by decide) (by decide) rfl) rfl dX34_isLike_5) (S 187 _ rfl _ _ _ h (zoks_cons trivial zoks_nil)) (Or.inl ⟨rfl, rfl⟩) (zc_hk q1798 q187) (by decide) (Nat.le_of_ble_eq_true rfl) kj8 (fun _ _ h => h.elim)
    by_cases c10 : tg u1 x1 = 27
    · have e : vm5 (tg u1 x1) = 191 := by rw [c10]; rfl
      rw [e] at h
      exact zv_callI (as := [ar x1]) (st := [ai v2]) G M (zc_eU (C := zcn 27) G q1862 q1783 (zc_declD G q1782) ⟨by decide, by decide⟩ q1793 q1794 mdx_0 (zc_rc G (zne tu1 c10 (by decide)) c10 (by decide) (by decide) rfl) rfl dX34_isLike_5) (S 191 _ rfl _ _ _ h (zoks_cons trivial zoks_nil)) (Or.inl ⟨rfl, rfl⟩) (zc_hk q1795 q188) (by decide) (Nat.le_of_ble_eq_true rfl) kj8 (fun _ _ h => h.elim)
    by_cases c11 : tg u1 x1 = 28
    · have e : vm5 (tg u1 x1) = 193 := by rw [c11]; rfl
      rw [e] at h
      exact zv_callI (as := [ar x1]) (st := [ai v2]) G M (zc_eU (C := zcn 28) G q1862 q1783 (zc_declD G q1782) ⟨by decide, by decide⟩ q1790 q1791 mdx_0 (zc_rc G (zne tu1 c11 (by decide)) c11 (by decide) (by decide) rfl) rfl dX34_isLike_5) (S 193 _ rfl _ _ _ h (zoks_cons trivial zoks_nil)) (Or.inl ⟨rfl, rfl⟩) (zc_hk q1792 q189) (by decide) (Nat.le_of_ble_eq_true rfl) kj8 (fun _ _ h => h.elim)
    by_cases c12 : tg u1 x1 = 29
    · have e : vm5 (tg u1 x1) = 197 := by rw [c12]; rfl
      rw [e] at h
      exact zv_callI (as := [ar x1]) (st := [ai v2]) G M (zc_eU (C := zcn 29) G q1862 q1783 (zc_declD G q1782) ⟨by decide, by decide⟩ q1787 q1788 mdx_0 (zc_rc G (zne tu1 c12 (by decide)) c12 (by decide) (by decide) rfl) rfl dX34_isLike_5) (S 197 _ rfl _ _ _ h (zoks_cons trivial zoks_nil)) (Or.inl ⟨rfl, rfl⟩) (zc_hk q1789 q190) (by decide) (Nat.le_of_ble_eq_true rfl) kj8 (fun _ _ h => h.elim)
    by_cases c13 : tg u1 x1 = 30
    · have e : vm5 (tg u1 x1) = 199 := by rw [c13]; rfl
      rw [e] at h
      exact zv_callI (as := [ar x1]) (st := [ai v2]) G M (zc_eU (C := zcn 30) G q1862 q1783 (zc_declD G q1782) ⟨by decide, by decide⟩ q1784 q1785 mdx_0 (zc_rc G (zne tu1 c13 (by decide)) c13 (by decide) (by decide) rfl) rfl dX34_isLike_5) (S 199 _ rfl _ _ _ h (zoks_cons trivial zoks_nil)) (Or.inl ⟨rfl, rfl⟩) (zc_hk q1786 q191) (by decide) (Nat.le_of_ble_eq_true rfl) kj8 (fun _ _ h => h.elim)
    have e : vm5 (tg u1 x1) = 9999 := by unfold vm5; rw [if_neg c9, if_neg c10, if_neg c11, if_neg c12, if_neg c13]
    rw [e] at h
    exact (wpC_none h).elim
  have h : wpC p d (vm14 (tg w x0)) [ar x0] w _ := h
  by_cases c15 : tg w x0 = 29
  · have e : vm14 (tg w x0) = 197 := by rw [c15]; rfl
    rw [e] at h
    exact zv_callI (as := [ar x0]) (st := []) G M (zc_eV (C := zcn 29) G q1861 q1788 q3004 (Or.inl ⟨rfl, rfl⟩) q1789 md_X34_what (zc_rc G (zne tw c15 (by decide)) c15 (by decide) (by decide) rfl) rfl dX34_isLike_1) (S 197 _ rfl _ _ _ h (zoks_cons trivial zoks_nil)) (Or.inl ⟨rfl, rfl⟩) (zc_hk q1789 q190) (by decide) (Nat.le_of_ble_eq_true rfl) kj14 (fun _ _ h => h.elim)
  by_cases c16 : tg w x0 = 30
  · have e : vm14 (tg w x0) = 199 := by rw [c16]; rfl
    rw [e] at h
    exact zv_callI (as := [ar x0]) (st := []) G M (zc_eU (C := zcn 30) G q1861 q3002 (zc_declC G q1788 q1789) ⟨by decide, by decide⟩ q3003 q1785 md_X34_what (zc_rc G (zne tw c16 (by decide)) c16 (by decide) (by decide) rfl) rfl dX34_isLike_1) (S 199 _ rfl _ _ _ h (zoks_cons trivial zoks_nil)) (Or.inl ⟨rfl, rfl⟩) (zc_hk q1786 q191) (by decide) (Nat.le_of_ble_eq_true rfl) kj14 (fun _ _ h => h.elim)
  have e : vm14 (tg w x0) = 9999 := by unfold vm14; rw [if_neg c15, if_neg c16]
  rw [e] at h
  exact (wpC_none h).elim
set_option maxHeartbeats 4000000 in
set_option maxRecDepth 100000 in
theorem cpC_X35_what_0 {Γ : ZG CW} {D : CD} {d p : Nat} (hp : D.K.1 = p) (G : ZOk Γ cX35_what RX35 1 (KnC D) (ZC D)) (M : ZRm Γ (d + 1) D.lim (Option.some Jvm.ClassFile.FieldType.int) "what" []) (S : SdC d D p Γ.l) (hl : Γ.l.stackTraces = false) (hk : 0 ≤ d) {w : CW} (h : pC_X35_what_0 p (wpC p d) (fun v w => Γ.Q (.inl (some (ai v))) w) w) : ZV Γ w 0 [] [] := by
  refine zc_wk G hp (fun hw tw => ?_)
  refine zv_iconst (a := 4) G (by decide) dX35_what_0 ?_
  exact zv_iret (ty := .int) (zr_k 4 (by decide) (by decide)) G M rfl dX35_what_1 h
set_option maxHeartbeats 4000000 in
set_option maxRecDepth 100000 in
theorem cpC_X35_kind_0 {Γ : ZG CW} {D : CD} {d p : Nat} (hp : D.K.1 = p) (G : ZOk Γ cX35_kind RX35 1 (KnC D) (ZC D)) (M : ZRm Γ (d + 1) D.lim (Option.some (Jvm.ClassFile.FieldType.object "LetterPost$Kind")) "kind" []) (S : SdC d D p Γ.l) (hl : Γ.l.stackTraces = false) (hk : 0 ≤ d) {x0 : Nat} {w : CW} (h : pC_X35_kind_0 p (wpC p d) (fun v w => Γ.Q (.inl (some (ar v))) w) x0 w) : ZV Γ w 0 [(0, ar x0)] [] := by
  refine zc_wk G hp (fun hw tw => ?_)
  refine zv_aload_n G rfl rfl dX35_kind_0 ?_
  have o1 := h.1
  have h := h.2
  refine zc_get (f := 117) (v := ar (fR w 117 x0)) G o1 rfl q1816 (Or.inl rfl) (cV_R rfl) dX35_kind_1 ?_
  exact zv_aret G M (Or.inl ⟨_, rfl⟩) dX35_kind_4 h
set_option maxHeartbeats 4000000 in
set_option maxRecDepth 100000 in
theorem cpC_X35_init_0 {Γ : ZG CW} {D : CD} {d p : Nat} (hp : D.K.1 = p) (G : ZOk Γ cX35_init RX35 5 (KnC D) (ZC D)) (M : ZRm Γ (d + 1) D.lim (Option.none : Option Jvm.ClassFile.FieldType) "<init>" []) (S : SdC d D p Γ.l) (hl : Γ.l.stackTraces = false) (hk : 0 ≤ d) {x0 : Nat} {x1 : Int} {x2 : Int} {x3 : Nat} {x4 : Nat} {w : CW} (rx1 : zr x1) (rx2 : zr x2) (h : pC_X35_init_0 p (wpC p d) (fun w => Γ.Q (.inl none) w) x0 x1 x2 x3 x4 w) : ZV Γ w 0 [(0, ar x0), (1, ai x1), (2, ai x2), (3, ar x3), (4, ar x4)] [] := by
  refine zc_wk G hp (fun hw tw => ?_)
  refine zv_aload_n G rfl rfl dX35_init_0 ?_
  refine zv_iload_n G rfl rfl dX35_init_1 ?_
  refine zv_iload_n G rfl rfl dX35_init_2 ?_
  have o7 := h.1
  have h := h.2
  refine zv_callV (as := [ar x0, ai x1, ai x2]) (st := []) G M (zc_eI G rfl q1815 q1761 q1762 md_X34_init o7 rfl dX35_init_3) (S 196 _ rfl _ _ _ h (zoks_cons trivial (zoks_cons rx1 (zoks_cons rx2 zoks_nil)))) (Or.inl ⟨rfl, rfl⟩) (zc_hk q1762 q190) (by decide) (Nat.le_of_ble_eq_true rfl) (fun u1 h => ?_) (fun _ _ h => h.elim)
  refine zc_wk G hp (fun hu1 tu1 => ?_)
  refine zv_aload_n G rfl rfl dX35_init_6 ?_
  refine zv_aload_n G rfl rfl dX35_init_7 ?_
  have o4 := h.1
  have h := h.2
  refine zc_putR (f := 117) G M o4 rfl q1816 (Or.inl rfl) (Or.inr ⟨rfl, rfl, rfl⟩) (zfty_117) (Or.inl ⟨_, rfl⟩) rfl dX35_init_8 (fun u3 eu3 => ?_)
  have h := h u3 eu3
  refine zc_wk G hp (fun hu3 tu3 => ?_)
  refine zv_aload_n G rfl rfl dX35_init_11 ?_
  refine zv_aload G rfl dX35_init_12 ?_
  have o6 := h.1
  have h := h.2
  refine zc_putR (f := 118) G M o6 rfl q1817 (Or.inl rfl) (Or.inr ⟨rfl, rfl, rfl⟩) (zfty_118) (Or.inr ⟨_, rfl⟩) rfl dX35_init_14 (fun u5 eu5 => ?_)
  have h := h u5 eu5
  refine zc_wk G hp (fun hu5 tu5 => ?_)
  exact zv_vret G M dX35_init_17 h
set_option maxHeartbeats 4000000 in
set_option maxRecDepth 100000 in
theorem cpC_X35_told_0 {Γ : ZG CW} {D : CD} {d p : Nat} (hp : D.K.1 = p) (G : ZOk Γ cX35_told RX35 1 (KnC D) (ZC D)) (M : ZRm Γ (d + 1) D.lim (Option.some Jvm.ClassFile.FieldType.int) "told" []) (S : SdC d D p Γ.l) (hl : Γ.l.stackTraces = false) (hk : 0 ≤ d) {x0 : Nat} {w : CW} (h : pC_X35_told_0 p (wpC p d) (fun v w => Γ.Q (.inl (some (ai v))) w) x0 w) : ZV Γ w 0 [(0, ar x0)] [] := by
  refine zc_wk G hp (fun hw tw => ?_)
  refine zv_aload_n G rfl rfl dX35_told_0 ?_
  have o1 := h.1
  have h := h.2
  refine zc_get (f := 117) (v := ar (fR w 117 x0)) G o1 rfl q1816 (Or.inl rfl) (cV_R rfl) dX35_told_1 ?_
  have o2 := h.1
  have h := h.2
  refine zc_get (f := 37) (v := ai (fI w 37 (fR w 117 x0))) G o2 rfl q683 (Or.inl rfl) (cV_I (by decide) (by decide)) dX35_told_4 ?_
  exact zv_iret (ty := .int) (hw.i 37 _ (by decide)) G M rfl dX35_told_7 h
set_option maxHeartbeats 4000000 in
set_option maxRecDepth 100000 in
theorem cpC_X35_isLike_65 {Γ : ZG CW} {D : CD} {d p : Nat} (hp : D.K.1 = p) (G : ZOk Γ cX35_isLike RX35 4 (KnC D) (ZC D)) (M : ZRm Γ (d + 1) D.lim (Option.some Jvm.ClassFile.FieldType.boolean) "isLike" []) (S : SdC d D p Γ.l) (hl : Γ.l.stackTraces = false) (hk : 0 ≤ d) {x2 : Int} {w : CW} (rx2 : zr x2) (h : pC_X35_isLike_65 p (wpC p d) (fun v w => Γ.Q (.inl (some (ai v))) w) x2 w) : ZV Γ w 65 [(2, ai x2)] [] := by
  refine zc_wk G hp (fun hw tw => ?_)
  refine zv_iload_n G rfl rfl dX35_isLike_65 ?_
  exact zv_iret (ty := .boolean) rx2 G M (zn_Z h.1) dX35_isLike_66 h.2
set_option maxHeartbeats 4000000 in
set_option maxRecDepth 100000 in
theorem cpC_X35_isLike_27 {Γ : ZG CW} {D : CD} {d p : Nat} (hp : D.K.1 = p) (G : ZOk Γ cX35_isLike RX35 4 (KnC D) (ZC D)) (M : ZRm Γ (d + 1) D.lim (Option.some Jvm.ClassFile.FieldType.boolean) "isLike" []) (S : SdC d D p Γ.l) (hl : Γ.l.stackTraces = false) (hk : 0 ≤ d) {x0 : Nat} {x1 : Nat} {x2 : Int} {x3 : Int} {w : CW} (rx2 : zr x2) (rx3 : zr x3) (h : pC_X35_isLike_27 p (wpC p d) (fun v w => Γ.Q (.inl (some (ai v))) w) x0 x1 x2 x3 w) : ZV Γ w 27 [(0, ar x0), (1, ar x1), (2, ai x2), (3, ai x3)] [] := by
  obtain ⟨I27, eI27⟩ : ∃ I : Int → Int → CW → Prop, I = (fun x2 x3 w => zr x2 → zr x3 → ZV Γ w 27 [(0, ar x0), (1, ar x1), (2, ai x2), (3, ai x3)] []) := ⟨_, rfl⟩
  have hI27 : ∀ (x2 : Int) (x3 : Int) (w : CW), I27 x2 x3 w → zr x2 → zr x3 → ZV Γ w 27 [(0, ar x0), (1, ar x1), (2, ai x2), (3, ai x3)] [] := by subst eI27; exact fun _ _ _ z => z
  have hJ27 : ∀ (x2 : Int) (x3 : Int) (w : CW), (zr x2 → zr x3 → ZV Γ w 27 [(0, ar x0), (1, ar x1), (2, ai x2), (3, ai x3)] []) → I27 x2 x3 w := by subst eI27; exact fun _ _ _ z => z
  refine hI27 x2 x3 w (h I27 (fun x2 x3 w h => hJ27 x2 x3 w (fun rx2 rx3 => ?_))) rx2 rx3
  refine zc_wk G hp (fun hw tw => ?_)
  refine zv_iload_n G rfl rfl dX35_isLike_27 ?_
  have o4 := h.1
  have h := h.2
  have kt19 : ¬ (x2 = 0) ∧ (¬ (((ln w (fR w 118 x0) : Nat) : Int) ≤ x3)) → ZV Γ w 40 [(0, ar x0), (1, ar x1), (2, ai x2), (3, ai x3)] [] := by
    intro c21
    have h := h.1 c21
    refine zv_aload_n G rfl rfl dX35_isLike_40 ?_
    have o5 := h.1
    have h := h.2
    refine zc_get (f := 118) (v := ar (fR w 118 x0)) G o5 rfl q1817 (Or.inl rfl) (cV_R rfl) dX35_isLike_41 ?_
    refine zv_iload_n G rfl rfl dX35_isLike_44 ?_
    have o6 := h.1
    have h := h.2
    refine zc_aald G o6.1 rx3 o6.2.1 o6.2.2 dX35_isLike_45 ?_
    refine zv_aload_n G rfl rfl dX35_isLike_46 ?_
    have o7 := h.1
    have h := h.2
    refine zc_cast G q1864 o7 dX35_isLike_47 ?_
    have o8 := h.1
    have h := h.2
    refine zc_get (f := 118) (v := ar (fR w 118 x1)) G o8 rfl q1817 (Or.inl rfl) (cV_R rfl) dX35_isLike_50 ?_
    refine zv_iload_n G rfl rfl dX35_isLike_53 ?_
    have o9 := h.1
    have h := h.2
    refine zc_aald G o9.1 rx3 o9.2.1 o9.2.2 dX35_isLike_54 ?_
    have kj13 : ∀ (v11 : Int) (u10 : CW), zr v11 → (
        ∀ x3_12 : Int, x3_12 = w32 (x3 + 1) →
        I27 v11 x3_12 u10) → ZV Γ u10 58 [(0, ar x0), (1, ar x1), (2, ai x2), (3, ai x3)] [ai v11] := by
      intro v11 u10 rv11 h
      refine zc_wk G hp (fun hu10 tu10 => ?_)
      refine zv_istore_n G rfl (by decide) rfl dX35_isLike_58 ?_
      refine zv_iincN G rfl (by decide) dX35_isLike_59 (fun x3_12 ex3_12 => ?_)
      have h := h x3_12 ex3_12
      have rx3_12 : zr x3_12 := by rw [ex3_12]; exact w32_r _
      refine zv_goto (tgt := 27) G (by decide) dX35_isLike_62 ?_
      exact zv_pick [0, 1, 2, 3] rfl (hI27 _ _ _ h rv11 rx3_12)
    have h : wpC p d (vm7 (tg w (aR w (fR w 118 x0) x3))) [ar (aR w (fR w 118 x0) x3), ar (aR w (fR w 118 x1) x3)] w _ := h
    by_cases c14 : tg w (aR w (fR w 118 x0) x3) = 26
    · have e : vm7 (tg w (aR w (fR w 118 x0) x3)) = 189 := by rw [c14]; rfl
      rw [e] at h
      exact zv_callI (as := [ar (aR w (fR w 118 x0) x3), ar (aR w (fR w 118 x1) x3)]) (st := []) G M (zc_eU (C := zcn 26) G q1865 q1854 (zc_declD G q1853) ⟨by decide, by decide⟩ q1877 q1869 mdx_1 (zc_rc G (zne tw c14 (by decide)) c14 (by decide) (by decide) rfl) rfl dX35_isLike_55) (S 189 _ rfl _ _ _ h (zoks_cons trivial (zoks_cons trivial zoks_nil))) (Or.inl ⟨rfl, rfl⟩) (zc_hk q1870 q187) (by decide) (Nat.le_of_ble_eq_true rfl) kj13 (fun _ _ h => h.elim)
    by_cases c15 : tg w (aR w (fR w 118 x0) x3) = 27
    · have e : vm7 (tg w (aR w (fR w 118 x0) x3)) = 189 := by rw [c15]; rfl
      rw [e] at h
      exact zv_callI (as := [ar (aR w (fR w 118 x0) x3), ar (aR w (fR w 118 x1) x3)]) (st := []) G M (zc_eU (C := zcn 27) G q1865 q1854 (zc_declD G q1853) ⟨by decide, by decide⟩ q1876 q1869 mdx_1 (zc_rc G (zne tw c15 (by decide)) c15 (by decide) (by decide) rfl) rfl dX35_isLike_55) (S 189 _ rfl _ _ _ h (zoks_cons trivial (zoks_cons trivial zoks_nil))) (Or.inl ⟨rfl, rfl⟩) (zc_hk q1870 q187) (by decide) (Nat.le_of_ble_eq_true rfl) kj13 (fun _ _ h => h.elim)
    by_cases c16 : tg w (aR w (fR w 118 x0) x3) = 28
    · have e : vm7 (tg w (aR w (fR w 118 x0) x3)) = 195 := by rw [c16]; rfl
      rw [e] at h
      exact zv_callI (as := [ar (aR w (fR w 118 x0) x3), ar (aR w (fR w 118 x1) x3)]) (st := []) G M (zc_eU (C := zcn 28) G q1865 q1854 (zc_declD G q1853) ⟨by decide, by decide⟩ q1875 q1866 mdx_1 (zc_rc G (zne tw c16 (by decide)) c16 (by decide) (by decide) rfl) rfl dX35_isLike_55) (S 195 _ rfl _ _ _ h (zoks_cons trivial (zoks_cons trivial zoks_nil))) (Or.inl ⟨rfl, rfl⟩) (zc_hk q1867 q189) (by decide) (Nat.le_of_ble_eq_true rfl) kj13 (fun _ _ h => h.elim)
    by_cases c17 : tg w (aR w (fR w 118 x0) x3) = 29
    · have e : vm7 (tg w (aR w (fR w 118 x0) x3)) = 198 := by rw [c17]; rfl
      rw [e] at h
      exact zv_callI (as := [ar (aR w (fR w 118 x0) x3), ar (aR w (fR w 118 x1) x3)]) (st := []) G M (zc_eU (C := zcn 29) G q1865 q1854 (zc_declD G q1853) ⟨by decide, by decide⟩ q1874 q1859 mdx_1 (zc_rc G (zne tw c17 (by decide)) c17 (by decide) (by decide) rfl) rfl dX35_isLike_55) (S 198 _ rfl _ _ _ h (zoks_cons trivial (zoks_cons trivial zoks_nil))) (Or.inl ⟨rfl, rfl⟩) (zc_hk q1860 q190) (by decide) (Nat.le_of_ble_eq_true rfl) kj13 (fun _ _ h => h.elim)
    by_cases c18 : tg w (aR w (fR w 118 x0) x3) = 30
    · have e : vm7 (tg w (aR w (fR w 118 x0) x3)) = 203 := by rw [c18]; rfl
      rw [e] at h
      exact zv_callI (as := [ar (aR w (fR w 118 x0) x3), ar (aR w (fR w 118 x1) x3)]) (st := []) G M (zc_eU (C := zcn 30) G q1865 q1854 (zc_declD G q1853) ⟨by decide, by decide⟩ q1855 q1856 mdx_1 (zc_rc G (zne tw c18 (by decide)) c18 (by decide) (by decide) rfl) rfl dX35_isLike_55) (S 203 _ rfl _ _ _ h (zoks_cons trivial (zoks_cons trivial zoks_nil))) (Or.inl ⟨rfl, rfl⟩) (zc_hk q1857 q191) (by decide) (Nat.le_of_ble_eq_true rfl) kj13 (fun _ _ h => h.elim)
    have e : vm7 (tg w (aR w (fR w 118 x0) x3)) = 9999 := by unfold vm7; rw [if_neg c14, if_neg c15, if_neg c16, if_neg c17, if_neg c18]
    rw [e] at h
    exact (wpC_none h).elim
  have kf20 : ¬ (¬ (x2 = 0) ∧ (¬ (((ln w (fR w 118 x0) : Nat) : Int) ≤ x3))) → ZV Γ w 65 [(0, ar x0), (1, ar x1), (2, ai x2), (3, ai x3)] [] := by
    intro c21
    have h := h.2 c21
    exact zv_pick [2] rfl (cpC_X35_isLike_65 hp G M S hl hk rx2 h)
  refine zv_if_eq (tgt := 65) G rx2 (by decide) dX35_isLike_28 (fun c22 => ?_) (fun c22 => ?_)
  · exact kf20 (fun q => q.1 c22)
  · refine zv_iload_n G rfl rfl dX35_isLike_31 ?_
    refine zv_aload_n G rfl rfl dX35_isLike_32 ?_
    refine zc_get (f := 118) (v := ar (fR w 118 x0)) G (o4 c22).1 rfl q1817 (Or.inl rfl) (cV_R rfl) dX35_isLike_33 ?_
    refine zc_alen G (o4 c22).2 dX35_isLike_36 ?_
    refine zv_icmp_ge (tgt := 65) G rx3 (zc_lnr hw _) (by decide) dX35_isLike_37 (fun c23 => ?_) (fun c23 => ?_)
    · exact kf20 (fun q => (fun q => q c23) q.2)
    · exact kt19 ⟨c22, c23⟩
set_option maxHeartbeats 4000000 in
set_option maxRecDepth 100000 in
theorem cpC_X35_isLike_24 {Γ : ZG CW} {D : CD} {d p : Nat} (hp : D.K.1 = p) (G : ZOk Γ cX35_isLike RX35 4 (KnC D) (ZC D)) (M : ZRm Γ (d + 1) D.lim (Option.some Jvm.ClassFile.FieldType.boolean) "isLike" []) (S : SdC d D p Γ.l) (hl : Γ.l.stackTraces = false) (hk : 0 ≤ d) {x0 : Nat} {x1 : Nat} {s0 : Int} {w : CW} (rs0 : zr s0) (h : pC_X35_isLike_24 p (wpC p d) (fun v w => Γ.Q (.inl (some (ai v))) w) x0 x1 s0 w) : ZV Γ w 24 [(0, ar x0), (1, ar x1)] [ai s0] := by
  refine zc_wk G hp (fun hw tw => ?_)
  refine zv_istore_n G rfl (by decide) rfl dX35_isLike_24 ?_
  refine zv_iconst (a := 0) G (by decide) dX35_isLike_25 ?_
  refine zv_istore_n G rfl (by decide) rfl dX35_isLike_26 ?_
  exact zv_pick [0, 1, 2, 3] rfl (cpC_X35_isLike_27 hp G M S hl hk rs0 (zr_k 0 (by decide) (by decide)) h)
set_option maxHeartbeats 4000000 in
set_option maxRecDepth 100000 in
theorem cpC_X35_isLike_23 {Γ : ZG CW} {D : CD} {d p : Nat} (hp : D.K.1 = p) (G : ZOk Γ cX35_isLike RX35 4 (KnC D) (ZC D)) (M : ZRm Γ (d + 1) D.lim (Option.some Jvm.ClassFile.FieldType.boolean) "isLike" []) (S : SdC d D p Γ.l) (hl : Γ.l.stackTraces = false) (hk : 0 ≤ d) {x0 : Nat} {x1 : Nat} {w : CW} (h : pC_X35_isLike_23 p (wpC p d) (fun v w => Γ.Q (.inl (some (ai v))) w) x0 x1 w) : ZV Γ w 23 [(0, ar x0), (1, ar x1)] [] := by
  refine zc_wk G hp (fun hw tw => ?_)
  refine zv_iconst (a := 0) G (by decide) dX35_isLike_23 ?_
  exact zv_pick [0, 1] rfl (cpC_X35_isLike_24 hp G M S hl hk (zr_k 0 (by decide) (by decide)) h)
set_option maxHeartbeats 4000000 in
set_option maxRecDepth 100000 in
theorem cpC_X35_isLike_0 {Γ : ZG CW} {D : CD} {d p : Nat} (hp : D.K.1 = p) (G : ZOk Γ cX35_isLike RX35 4 (KnC D) (ZC D)) (M : ZRm Γ (d + 1) D.lim (Option.some Jvm.ClassFile.FieldType.boolean) "isLike" []) (S : SdC d D p Γ.l) (hl : Γ.l.stackTraces = false) (hk : 0 ≤ d) {x0 : Nat} {x1 : Nat} {w : CW} (h : pC_X35_isLike_0 p (wpC p d) (fun v w => Γ.Q (.inl (some (ai v))) w) x0 x1 w) : ZV Γ w 0 [(0, ar x0), (1, ar x1)] [] := by
  refine zc_wk G hp (fun hw tw => ?_)
  refine zv_aload_n G rfl rfl dX35_isLike_0 ?_
  refine zv_aload_n G rfl rfl dX35_isLike_1 ?_
  have o34 := h.1
  have h := h.2
  refine zv_callI (as := [ar x0, ar x1]) (st := []) G M (zc_eSU G q1858 q3001 q1827 q1859 (Or.inl ⟨rfl, rfl⟩) q1860 (by decide) md_X34_isLike (zc_rc G (zne tw rfl o34.1) rfl o34.1 o34.2 rfl) rfl dX35_isLike_2) (S 198 _ rfl _ _ _ h (zoks_cons trivial (zoks_cons trivial zoks_nil))) (Or.inl ⟨rfl, rfl⟩) (zc_hk q1860 q190) (by decide) (Nat.le_of_ble_eq_true rfl) (fun v2 u1 rv2 h => ?_) (fun _ _ h => h.elim)
  refine zc_wk G hp (fun hu1 tu1 => ?_)
  refine zv_if_eq (tgt := 23) G rv2 (by decide) dX35_isLike_5 (fun c3 => ?_) (fun c3 => ?_)
  · have h := h.1 c3
    exact zv_pick [0, 1] rfl (cpC_X35_isLike_23 hp G M S hl hk h)
  · have h := h.2 c3
    refine zv_aload_n G rfl rfl dX35_isLike_8 ?_
    have o24 := h.1
    have h := h.2
    refine zc_get (f := 117) (v := ar (fR u1 117 x0)) G o24 rfl q1816 (Or.inl rfl) (cV_R rfl) dX35_isLike_9 ?_
    refine zv_aload_n G rfl rfl dX35_isLike_12 ?_
    have kj28 : ∀ (v26 : Nat) (u25 : CW), (
        ((fR u1 117 x0) = v26 →
          pC_X35_isLike_24 p (wpC p d) (fun v w => Γ.Q (.inl (some (ai v))) w) x0 x1 1 u25) ∧
        (¬ ((fR u1 117 x0) = v26) →
          pC_X35_isLike_23 p (wpC p d) (fun v w => Γ.Q (.inl (some (ai v))) w) x0 x1 u25)) → ZV Γ u25 16 [(0, ar x0), (1, ar x1)] [ar v26, ar (fR u1 117 x0)] := by
      intro v26 u25 h
      refine zc_wk G hp (fun hu25 tu25 => ?_)
      refine zv_acmp_ne (tgt := 23) G (by decide) dX35_isLike_16 (fun c27 => ?_) (fun c27 => ?_)
      · have h := h.2 c27
        exact zv_pick [0, 1] rfl (cpC_X35_isLike_23 hp G M S hl hk h)
      · have h := h.1 c27
        refine zv_iconst (a := 1) G (by decide) dX35_isLike_19 ?_
        refine zv_goto (tgt := 24) G (by decide) dX35_isLike_20 ?_
        exact zv_pick [0, 1] rfl (cpC_X35_isLike_24 hp G M S hl hk (zr_k 1 (by decide) (by decide)) h)
    have h : wpC p d (vm4 (tg u1 x1)) [ar x1] u1 _ := h
    by_cases c29 : tg u1 x1 = 26
    · have e : vm4 (tg u1 x1) = 184 := by rw [c29]; rfl
      rw [e] at h
      exact zv_callR (as := [ar x1]) (st := [ar (fR u1 117 x0)]) G M (zc_eV (C := zcn 26) G q1863 q1800 q1808 (Or.inl ⟨rfl, rfl⟩) q1809 md_X30_kind (zc_rc G (zne tu1 c29 (by decide)) c29 (by decide) (by decide) rfl) rfl dX35_isLike_13) (S 184 _ rfl _ _ _ h (zoks_cons trivial zoks_nil)) (Or.inl ⟨rfl, rfl⟩) (zc_hk q1809 q186) (by decide) (Nat.le_of_ble_eq_true rfl) kj28 (fun _ _ h => h.elim)
    by_cases c30 : tg u1 x1 = 27
    · have e : vm4 (tg u1 x1) = 184 := by rw [c30]; rfl
      rw [e] at h
      exact zv_callR (as := [ar x1]) (st := [ar (fR u1 117 x0)]) G M (zc_eV (C := zcn 27) G q1863 q1800 q1807 (Or.inl ⟨rfl, rfl⟩) q1809 md_X30_kind (zc_rc G (zne tu1 c30 (by decide)) c30 (by decide) (by decide) rfl) rfl dX35_isLike_13) (S 184 _ rfl _ _ _ h (zoks_cons trivial zoks_nil)) (Or.inl ⟨rfl, rfl⟩) (zc_hk q1809 q186) (by decide) (Nat.le_of_ble_eq_true rfl) kj28 (fun _ _ h => h.elim)
    by_cases c31 : tg u1 x1 = 28
    · have e : vm4 (tg u1 x1) = 184 := by rw [c31]; rfl
      rw [e] at h
      exact zv_callR (as := [ar x1]) (st := [ar (fR u1 117 x0)]) G M (zc_eV (C := zcn 28) G q1863 q1800 q1806 (Or.inl ⟨rfl, rfl⟩) q1809 md_X30_kind (zc_rc G (zne tu1 c31 (by decide)) c31 (by decide) (by decide) rfl) rfl dX35_isLike_13) (S 184 _ rfl _ _ _ h (zoks_cons trivial zoks_nil)) (Or.inl ⟨rfl, rfl⟩) (zc_hk q1809 q186) (by decide) (Nat.le_of_ble_eq_true rfl) kj28 (fun _ _ h => h.elim)
    by_cases c32 : tg u1 x1 = 29
    · have e : vm4 (tg u1 x1) = 184 := by rw [c32]; rfl
      rw [e] at h
      exact zv_callR (as := [ar x1]) (st := [ar (fR u1 117 x0)]) G M (zc_eV (C := zcn 29) G q1863 q1800 q1805 (Or.inl ⟨rfl, rfl⟩) q1809 md_X30_kind (zc_rc G (zne tu1 c32 (by decide)) c32 (by decide) (by decide) rfl) rfl dX35_isLike_13) (S 184 _ rfl _ _ _ h (zoks_cons trivial zoks_nil)) (Or.inl ⟨rfl, rfl⟩) (zc_hk q1809 q186) (by decide) (Nat.le_of_ble_eq_true rfl) kj28 (fun _ _ h => h.elim)
    by_cases c33 : tg u1 x1 = 30
    · have e : vm4 (tg u1 x1) = 200 := by rw [c33]; rfl
      rw [e] at h
      exact zv_callR (as := [ar x1]) (st := [ar (fR u1 117 x0)]) G M (zc_eU (C := zcn 30) G q1863 q1801 (zc_declC G q1800 q1809) ⟨by decide, by decide⟩ q1802 q1803 md_X30_kind (zc_rc G (zne tu1 c33 (by decide)) c33 (by decide) (by decide) rfl) rfl dX35_isLike_13) (S 200 _ rfl _ _ _ h (zoks_cons trivial zoks_nil)) (Or.inl ⟨rfl, rfl⟩) (zc_hk q1804 q191) (by decide) (Nat.le_of_ble_eq_true rfl) kj28 (fun _ _ h => h.elim)
    have e : vm4 (tg u1 x1) = 9999 := by unfold vm4; rw [if_neg c29, if_neg c30, if_neg c31, if_neg c32, if_neg c33]
    rw [e] at h
    exact (wpC_none h).elim
set_option maxHeartbeats 4000000 in
set_option maxRecDepth 100000 in
theorem cpC_J0_init_2_60 {Γ : ZG CW} {D : CD} {d p : Nat} (hp : D.K.1 = p) (G : ZOk Γ cJ0_init_2 RJ0 5 (KnC D) (ZC D)) (M : ZRm Γ (d + 1) D.lim (Option.none : Option Jvm.ClassFile.FieldType) "<init>" []) (S : SdC d D p Γ.l) (hl : Γ.l.stackTraces = false) (hk : 0 ≤ d) {w : CW} (h : pC_J0_init_2_60 p (wpC p d) (fun w => Γ.Q (.inl none) w) w) : ZV Γ w 60 [] [] := by
  refine zc_wk G hp (fun hw tw => ?_)
  exact zv_vret G M dJ0_init_2_60 h
set_option maxHeartbeats 4000000 in
set_option maxRecDepth 100000 in
theorem cpC_J0_init_2_41 {Γ : ZG CW} {D : CD} {d p : Nat} (hp : D.K.1 = p) (G : ZOk Γ cJ0_init_2 RJ0 5 (KnC D) (ZC D)) (M : ZRm Γ (d + 1) D.lim (Option.none : Option Jvm.ClassFile.FieldType) "<init>" []) (S : SdC d D p Γ.l) (hl : Γ.l.stackTraces = false) (hk : 0 ≤ d) {x0 : Nat} {x1 : Nat} {x2 : Nat} {x3 : Int} {w : CW} (rx3 : zr x3) (h : pC_J0_init_2_41 p (wpC p d) (fun w => Γ.Q (.inl none) w) x0 x1 x2 x3 w) : ZV Γ w 41 [(0, ar x0), (1, ar x1), (2, ar x2), (3, ai x3)] [] := by
  refine zc_wk G hp (fun hw tw => ?_)
  refine zv_aload_n G rfl rfl dJ0_init_2_41 ?_
  refine zv_aload_n G rfl rfl dJ0_init_2_42 ?_
  have o17 := h.1
  have h := h.2
  refine zc_putR (f := 32) G M o17 rfl q293 (Or.inl rfl) (Or.inl rfl) (zfty_32) (Or.inl ⟨_, rfl⟩) rfl dJ0_init_2_43 (fun u16 eu16 => ?_)
  have h := h u16 eu16
  refine zc_wk G hp (fun hu16 tu16 => ?_)
  refine zv_aload_n G rfl rfl dJ0_init_2_46 ?_
  refine zv_aload_n G rfl rfl dJ0_init_2_47 ?_
  have o19 := h.1
  have h := h.2
  refine zc_putR (f := 29) G M o19 rfl q294 (Or.inl rfl) (Or.inl rfl) (zfty_29) (Or.inl ⟨_, rfl⟩) rfl dJ0_init_2_48 (fun u18 eu18 => ?_)
  have h := h u18 eu18
  refine zc_wk G hp (fun hu18 tu18 => ?_)
  refine zv_iload_n G rfl rfl dJ0_init_2_51 ?_
  refine zv_if_ne (tgt := 60) G rx3 (by decide) dJ0_init_2_52 (fun c20 => ?_) (fun c20 => ?_)
  · have h := h.2 c20
    exact zv_pick [] rfl (cpC_J0_init_2_60 hp G M S hl hk h)
  · have h := h.1 c20
    refine zv_aload_n G rfl rfl dJ0_init_2_55 ?_
    refine zv_null G dJ0_init_2_56 ?_
    have o22 := h.1
    have h := h.2
    refine zc_putR (f := 31) G M o22 rfl q296 (Or.inl rfl) (Or.inl rfl) (zfty_31) (Or.inl ⟨_, rfl⟩) rfl dJ0_init_2_57 (fun u21 eu21 => ?_)
    have h := h u21 eu21
    refine zc_wk G hp (fun hu21 tu21 => ?_)
    exact zv_pick [] rfl (cpC_J0_init_2_60 hp G M S hl hk h)
set_option maxHeartbeats 4000000 in
set_option maxRecDepth 100000 in
theorem cpC_J0_init_2_0 {Γ : ZG CW} {D : CD} {d p : Nat} (hp : D.K.1 = p) (G : ZOk Γ cJ0_init_2 RJ0 5 (KnC D) (ZC D)) (M : ZRm Γ (d + 1) D.lim (Option.none : Option Jvm.ClassFile.FieldType) "<init>" []) (S : SdC d D p Γ.l) (hl : Γ.l.stackTraces = false) (hk : 0 ≤ d) {x0 : Nat} {x1 : Nat} {x2 : Nat} {x3 : Int} {x4 : Int} {w : CW} (rx3 : zr x3) (rx4 : zr x4) (h : pC_J0_init_2_0 p (wpC p d) (fun w => Γ.Q (.inl none) w) x0 x1 x2 x3 x4 w) : ZV Γ w 0 [(0, ar x0), (1, ar x1), (2, ar x2), (3, ai x3), (4, ai x4)] [] := by
  refine zc_wk G hp (fun hw tw => ?_)
  refine zv_aload_n G rfl rfl dJ0_init_2_0 ?_
  have o2 := h.1
  have h := h.2
  refine zc_oinit G M q261 q262 q263 o2 (Nat.le_of_ble_eq_true rfl) dJ0_init_2_1 ?_
  refine zv_aload_n G rfl rfl dJ0_init_2_4 ?_
  refine zv_aload_n G rfl rfl dJ0_init_2_5 ?_
  have o4 := h.1
  have h := h.2
  refine zc_putR (f := 29) G M o4 rfl q294 (Or.inl rfl) (Or.inl rfl) (zfty_29) (Or.inl ⟨_, rfl⟩) rfl dJ0_init_2_6 (fun u3 eu3 => ?_)
  have h := h u3 eu3
  refine zc_wk G hp (fun hu3 tu3 => ?_)
  refine zv_aload_n G rfl rfl dJ0_init_2_9 ?_
  refine zc_getsR (j := 0) G rfl q264 dJ0_init_2_10 (fun v6 => ?_)
  have h := h v6
  have o8 := h.1
  have h := h.2
  refine zc_putR (f := 30) G M o8 rfl q295 (Or.inl rfl) (Or.inl rfl) (zfty_30) (Or.inr ⟨_, rfl⟩) rfl dJ0_init_2_13 (fun u7 eu7 => ?_)
  have h := h u7 eu7
  refine zc_wk G hp (fun hu7 tu7 => ?_)
  refine zv_aload_n G rfl rfl dJ0_init_2_16 ?_
  refine zc_getsR (j := 1) G rfl q266 dJ0_init_2_17 (fun v10 => ?_)
  have h := h v10
  have o12 := h.1
  have h := h.2
  refine zc_putR (f := 31) G M o12 rfl q296 (Or.inl rfl) (Or.inl rfl) (zfty_31) (Or.inl ⟨_, rfl⟩) rfl dJ0_init_2_20 (fun u11 eu11 => ?_)
  have h := h u11 eu11
  refine zc_wk G hp (fun hu11 tu11 => ?_)
  refine zv_iload G rfl dJ0_init_2_23 ?_
  refine zv_if_eq (tgt := 36) G rx4 (by decide) dJ0_init_2_25 (fun c13 => ?_) (fun c13 => ?_)
  · have h := h.1 c13
    refine zv_aload_n G rfl rfl dJ0_init_2_36 ?_
    refine zv_null G dJ0_init_2_37 ?_
    have o15 := h.1
    have h := h.2
    refine zc_putR (f := 30) G M o15 rfl q295 (Or.inl rfl) (Or.inl rfl) (zfty_30) (Or.inr ⟨_, rfl⟩) rfl dJ0_init_2_38 (fun u14 eu14 => ?_)
    have h := h u14 eu14
    refine zc_wk G hp (fun hu14 tu14 => ?_)
    exact zv_pick [0, 1, 2, 3] rfl (cpC_J0_init_2_41 hp G M S hl hk rx3 h)
  · have h := h.2 c13
    refine zv_aload_n G rfl rfl dJ0_init_2_28 ?_
    exact h.elim
set_option maxHeartbeats 4000000 in
set_option maxRecDepth 100000 in
theorem cpC_J1_init_0 {Γ : ZG CW} {D : CD} {d p : Nat} (hp : D.K.1 = p) (G : ZOk Γ cJ1_init RJ1 5 (KnC D) (ZC D)) (M : ZRm Γ (d + 1) D.lim (Option.none : Option Jvm.ClassFile.FieldType) "<init>" []) (S : SdC d D p Γ.l) (hl : Γ.l.stackTraces = false) (hk : 0 ≤ d) {x0 : Nat} {x1 : Nat} {x2 : Nat} {x3 : Int} {x4 : Int} {w : CW} (rx3 : zr x3) (rx4 : zr x4) (h : pC_J1_init_0 p (wpC p d) (fun w => Γ.Q (.inl none) w) x0 x1 x2 x3 x4 w) : ZV Γ w 0 [(0, ar x0), (1, ar x1), (2, ar x2), (3, ai x3), (4, ai x4)] [] := by
  refine zc_wk G hp (fun hw tw => ?_)
  refine zv_aload_n G rfl rfl dJ1_init_0 ?_
  refine zv_aload_n G rfl rfl dJ1_init_1 ?_
  refine zv_aload_n G rfl rfl dJ1_init_2 ?_
  refine zv_iload_n G rfl rfl dJ1_init_3 ?_
  refine zv_iload G rfl dJ1_init_4 ?_
  have o3 := h.1
  have h := h.2
  refine zv_callV (as := [ar x0, ar x1, ar x2, ai x3, ai x4]) (st := []) G M (zc_eI G rfl q285 q286 q287 md_J0_init_2 o3 rfl dJ1_init_6) (S 204 _ rfl _ _ _ h (zoks_cons trivial (zoks_cons trivial (zoks_cons trivial (zoks_cons rx3 (zoks_cons rx4 zoks_nil)))))) (Or.inl ⟨rfl, rfl⟩) (zc_hk q287 q145) (by decide) (Nat.le_of_ble_eq_true rfl) (fun u1 h => ?_) (fun _ _ h => h.elim)
  refine zc_wk G hp (fun hu1 tu1 => ?_)
  exact zv_vret G M dJ1_init_9 h
set_option maxHeartbeats 4000000 in
set_option maxRecDepth 100000 in
theorem cpC_J2_init_53 {Γ : ZG CW} {D : CD} {d p : Nat} (hp : D.K.1 = p) (G : ZOk Γ cJ2_init RJ2 5 (KnC D) (ZC D)) (M : ZRm Γ (d + 1) D.lim (Option.none : Option Jvm.ClassFile.FieldType) "<init>" []) (S : SdC d D p Γ.l) (hl : Γ.l.stackTraces = false) (hk : 0 ≤ d) {x0 : Nat} {x1 : Nat} {s0 : Nat} {s1 : Nat} {w : CW} (h : pC_J2_init_53 p (wpC p d) (fun w => Γ.Q (.inl none) w) x0 x1 s0 s1 w) : ZV Γ w 53 [(0, ar x0), (1, ar x1)] [ar s0, ar s1] := by
  refine zc_wk G hp (fun hw tw => ?_)
  have o17 := h.1
  have h := h.2
  refine zc_putR (f := 119) G M o17 rfl q455 (Or.inl rfl) (Or.inl rfl) (zfty_119) (Or.inr ⟨_, rfl⟩) rfl dJ2_init_53 (fun u16 eu16 => ?_)
  have h := h u16 eu16
  refine zc_wk G hp (fun hu16 tu16 => ?_)
  refine zv_aload_n G rfl rfl dJ2_init_56 ?_
  refine zv_aload_n G rfl rfl dJ2_init_57 ?_
  have o20 := h.1
  have h := h.2
  refine zv_callR (as := [ar x0, ar x1]) (st := []) G M (zc_eU (C := zcn 31) G q339 q341 (zc_declC G q340 q351) ⟨by decide, by decide⟩ q342 q343 md_J2_append (zc_rc G (zne tu16 o20 (by decide)) o20 (by decide) (by decide) rfl) rfl dJ2_init_58) (S 216 _ rfl _ _ _ h (zoks_cons trivial (zoks_cons trivial zoks_nil))) (Or.inl ⟨rfl, rfl⟩) (zc_hk q344 q149) (by decide) (Nat.le_of_ble_eq_true rfl) (fun v19 u18 h => ?_) (fun _ _ h => h.elim)
  refine zc_wk G hp (fun hu18 tu18 => ?_)
  refine zv_pop G rfl dJ2_init_61 ?_
  exact zv_vret G M dJ2_init_62 h
set_option maxHeartbeats 4000000 in
set_option maxRecDepth 100000 in
theorem cpC_J2_init_0 {Γ : ZG CW} {D : CD} {d p : Nat} (hp : D.K.1 = p) (G : ZOk Γ cJ2_init RJ2 5 (KnC D) (ZC D)) (M : ZRm Γ (d + 1) D.lim (Option.none : Option Jvm.ClassFile.FieldType) "<init>" []) (S : SdC d D p Γ.l) (hl : Γ.l.stackTraces = false) (hk : 0 ≤ d) {x0 : Nat} {x1 : Nat} {w : CW} (h : pC_J2_init_0 p (wpC p d) (fun w => Γ.Q (.inl none) w) x0 x1 w) : ZV Γ w 0 [(0, ar x0), (1, ar x1)] [] := by
  refine zc_wk G hp (fun hw tw => ?_)
  refine zv_aload_n G rfl rfl dJ2_init_0 ?_
  have o2 := h.1
  have h := h.2
  refine zc_oinit G M q318 q262 q263 o2 (Nat.le_of_ble_eq_true rfl) dJ2_init_1 ?_
  refine zv_aload_n G rfl rfl dJ2_init_4 ?_
  have o25 := h.1
  have h := h.2
  have en26 : ZEn Γ w 5 [(0, ar x0), (1, ar x1)] yJ4_length 3 [ar x1] [] := by
    rcases o25 with z | z
    · exact (zc_eV (C := zcn 32) G q319 q320 q321 (Or.inl ⟨rfl, rfl⟩) q322 md_J4_length (zc_rc G (zne tw z (by decide)) z (by decide) (by decide) rfl) rfl dJ2_init_5)
    · exact (zc_eV (C := zcn 34) G q319 q320 q321 (Or.inl ⟨rfl, rfl⟩) q322 md_J4_length (zc_rc G (zne tw z (by decide)) z (by decide) (by decide) rfl) rfl dJ2_init_5)
  refine zv_callI (as := [ar x1]) (st := []) G M en26 (S 221 _ rfl _ _ _ h (zoks_cons trivial zoks_nil)) (Or.inl ⟨rfl, rfl⟩) (zc_hk q322 q150) (by decide) (Nat.le_of_ble_eq_true rfl) (fun v4 u3 rv4 h => ?_) (fun _ _ h => h.elim)
  refine zc_wk G hp (fun hu3 tu3 => ?_)
  refine zv_istore_n G rfl (by decide) rfl dJ2_init_8 ?_
  refine zv_iload_n G rfl rfl dJ2_init_9 ?_
  refine zv_ldc (a := 2147483631) G (G.kn.2.1 _ q329 _) (by decide) dJ2_init_10 ?_
  have kj23 : ∀ v5 : Int, v5 = (if ¬ (2147483631 ≤ v4) then w32 (v4 + 16) else 2147483647) → ZV Γ u3 24 [(2, ai v4), (0, ar x0), (1, ar x1)] (ai v5 :: []) := by
    intro v5 ev5
    have h := h v5 ev5
    have rv5 : zr v5 := by rw [ev5]; exact (zr_ite (w32_r _) (zr_k 2147483647 (by decide) (by decide)))
    refine zv_istore_n G rfl (by decide) rfl dJ2_init_24 ?_
    refine zv_aload_n G rfl rfl dJ2_init_25 ?_
    have o21 := h.1
    have h := h.2
    have en22 : ZEn Γ u3 26 [(3, ai v5), (2, ai v4), (0, ar x0), (1, ar x1)] yJ4_coder 3 [ar x1] [] := by
      rcases o21 with z | z
      · exact (zc_eV (C := zcn 32) G q331 q324 q325 (Or.inl ⟨rfl, rfl⟩) q326 md_J4_coder (zc_rc G (zne tu3 z (by decide)) z (by decide) (by decide) rfl) rfl dJ2_init_26)
      · exact (zc_eV (C := zcn 34) G q331 q324 q325 (Or.inl ⟨rfl, rfl⟩) q326 md_J4_coder (zc_rc G (zne tu3 z (by decide)) z (by decide) (by decide) rfl) rfl dJ2_init_26)
    refine zv_callI (as := [ar x1]) (st := []) G M en22 (S 222 _ rfl _ _ _ h (zoks_cons trivial zoks_nil)) (Or.inl ⟨rfl, rfl⟩) (zc_hk q326 q150) (by decide) (Nat.le_of_ble_eq_true rfl) (fun v7 u6 rv7 h => ?_) (fun _ _ h => h.elim)
    refine zc_wk G hp (fun hu6 tu6 => ?_)
    refine zv_istore G (by decide) rfl dJ2_init_29 ?_
    refine zv_aload_n G rfl rfl dJ2_init_31 ?_
    refine zv_iload G rfl dJ2_init_32 ?_
    have o9 := h.1
    have h := h.2
    have o10 := h.1
    have h := h.2
    refine zc_putI (f := 120) G M o9 rfl q456 (Or.inl rfl) (Or.inl rfl) (zfty_120) (zn_B o10) (zf_B o10) (by decide) (by decide) rv7 dJ2_init_34 (fun u8 eu8 => ?_)
    have h := h u8 eu8
    refine zc_wk G hp (fun hu8 tu8 => ?_)
    refine zv_aload_n G rfl rfl dJ2_init_37 ?_
    refine zv_iload G rfl dJ2_init_38 ?_
    refine zv_if_ne (tgt := 49) G rv7 (by decide) dJ2_init_40 (fun c11 => ?_) (fun c11 => ?_)
    · have h := h.2 c11
      refine zv_iload_n G rfl rfl dJ2_init_49 ?_
      exact h.elim
    · have h := h.1 c11
      refine zv_iload_n G rfl rfl dJ2_init_43 ?_
      have o15 := h.1
      have h := h.2
      refine zc_newa (t := 101) (ty := .byte) G M (by decide) rfl rfl (fun z => z) (by decide) rfl q467 o15.1 o15.2 dJ2_init_44 (fun u14 eu14 => ?_)
      have h := h u14 eu14
      refine zc_wk G hp (fun hu14 tu14 => ?_)
      refine zv_goto (tgt := 53) G (by decide) dJ2_init_46 ?_
      exact zv_pick [0, 1] rfl (cpC_J2_init_53 hp G M S hl hk h)
  refine zv_icmp_ge (tgt := 22) G rv4 (zr_k 2147483631 (by decide) (by decide)) (by decide) dJ2_init_12 (fun c24 => ?_) (fun c24 => ?_)
  · refine zv_ldc (a := 2147483647) G (G.kn.2.1 _ q330 _) (by decide) dJ2_init_22 ?_
    exact kj23 _ (if_neg (fun q => q c24)).symm
  · refine zv_iload_n G rfl rfl dJ2_init_15 ?_
    refine zv_bipush (a := 16) G (by decide) dJ2_init_16 ?_
    refine zv_iadd G dJ2_init_18 ?_
    refine zv_goto (tgt := 24) G (by decide) dJ2_init_19 ?_
    exact kj23 _ (if_pos c24).symm
set_option maxHeartbeats 4000000 in
set_option maxRecDepth 100000 in
theorem cpC_J2_append_0 {Γ : ZG CW} {D : CD} {d p : Nat} (hp : D.K.1 = p) (G : ZOk Γ cJ2_append RJ2 3 (KnC D) (ZC D)) (M : ZRm Γ (d + 1) D.lim (Option.some (Jvm.ClassFile.FieldType.object "java/lang/AbstractStringBuilder")) "append" []) (S : SdC d D p Γ.l) (hl : Γ.l.stackTraces = false) (hk : 0 ≤ d) {x0 : Nat} {x1 : Nat} {w : CW} (h : pC_J2_append_0 p (wpC p d) (fun v w => Γ.Q (.inl (some (ar v))) w) x0 x1 w) : ZV Γ w 0 [(0, ar x0), (1, ar x1)] [] := by
  refine zc_wk G hp (fun hw tw => ?_)
  refine zv_aload_n G rfl rfl dJ2_append_0 ?_
  refine zv_ifnonnull (tgt := 9) G (by decide) dJ2_append_1 (fun c1 => ?_) (fun c1 => ?_)
  · have h := h.2 c1
    refine zv_aload_n G rfl rfl dJ2_append_9 ?_
    have o15 := h.1
    have h := h.2
    have en16 : ZEn Γ w 10 [(0, ar x0), (1, ar x1)] yJ4_length 3 [ar x1] [] := by
      rcases o15 with z | z
      · exact (zc_eV (C := zcn 32) G q319 q320 q321 (Or.inl ⟨rfl, rfl⟩) q322 md_J4_length (zc_rc G (zne tw z (by decide)) z (by decide) (by decide) rfl) rfl dJ2_append_10)
      · exact (zc_eV (C := zcn 34) G q319 q320 q321 (Or.inl ⟨rfl, rfl⟩) q322 md_J4_length (zc_rc G (zne tw z (by decide)) z (by decide) (by decide) rfl) rfl dJ2_append_10)
    refine zv_callI (as := [ar x1]) (st := []) G M en16 (S 221 _ rfl _ _ _ h (zoks_cons trivial zoks_nil)) (Or.inl ⟨rfl, rfl⟩) (zc_hk q322 q150) (by decide) (Nat.le_of_ble_eq_true rfl) (fun v3 u2 rv3 h => ?_) (fun _ _ h => h.elim)
    refine zc_wk G hp (fun hu2 tu2 => ?_)
    refine zv_istore_n G rfl (by decide) rfl dJ2_append_13 ?_
    refine zv_aload_n G rfl rfl dJ2_append_14 ?_
    refine zv_aload_n G rfl rfl dJ2_append_15 ?_
    have o4 := h.1
    have h := h.2
    refine zc_get (f := 122) (v := ai (fI u2 122 x0)) G o4 rfl q458 (Or.inl rfl) (cV_I (by decide) (by decide)) dJ2_append_16 ?_
    refine zv_iload_n G rfl rfl dJ2_append_19 ?_
    refine zv_iadd G dJ2_append_20 ?_
    have o14 := h.1
    have h := h.2
    refine zv_callV (as := [ar x0, ai (w32 ((fI u2 122 x0) + v3))]) (st := []) G M (zc_eP G q356 q358 q357 q393 rfl (Or.inl ⟨rfl, rfl⟩) q359 md_J2_ensureCapacityInternal (zc_rc G (zne tu2 o14 (by decide)) o14 (by decide) (by decide) rfl) rfl dJ2_append_21) (S 208 _ rfl _ _ _ h (zoks_cons trivial (zoks_cons (w32_r _) zoks_nil))) (Or.inl ⟨rfl, rfl⟩) (zc_hk q359 q148) (by decide) (Nat.le_of_ble_eq_true rfl) (fun u5 h => ?_) (fun _ _ h => h.elim)
    refine zc_wk G hp (fun hu5 tu5 => ?_)
    refine zv_aload_n G rfl rfl dJ2_append_24 ?_
    refine zv_aload_n G rfl rfl dJ2_append_25 ?_
    have o7 := h.1
    have h := h.2
    refine zc_get (f := 122) (v := ai (fI u5 122 x0)) G o7 rfl q458 (Or.inl rfl) (cV_I (by decide) (by decide)) dJ2_append_26 ?_
    refine zv_aload_n G rfl rfl dJ2_append_29 ?_
    have o13 := h.1
    have h := h.2
    refine zv_callV (as := [ar x0, ai (fI u5 122 x0), ar x1]) (st := []) G M (zc_eP G q422 q424 q423 q393 rfl (Or.inl ⟨rfl, rfl⟩) q425 md_J2_putStringAt (zc_rc G (zne tu5 o13 (by decide)) o13 (by decide) (by decide) rfl) rfl dJ2_append_30) (S 210 _ rfl _ _ _ h (zoks_cons trivial (zoks_cons (hu5.i 122 _ (by decide)) (zoks_cons trivial zoks_nil)))) (Or.inl ⟨rfl, rfl⟩) (zc_hk q425 q148) (by decide) (Nat.le_of_ble_eq_true rfl) (fun u8 h => ?_) (fun _ _ h => h.elim)
    refine zc_wk G hp (fun hu8 tu8 => ?_)
    refine zv_aload_n G rfl rfl dJ2_append_33 ?_
    refine zv_dup G rfl dJ2_append_34 ?_
    have o10 := h.1
    have h := h.2
    refine zc_get (f := 122) (v := ai (fI u8 122 x0)) G o10 rfl q458 (Or.inl rfl) (cV_I (by decide) (by decide)) dJ2_append_35 ?_
    refine zv_iload_n G rfl rfl dJ2_append_38 ?_
    refine zv_iadd G dJ2_append_39 ?_
    have o12 := h.1
    have h := h.2
    refine zc_putI (f := 122) G M o12 rfl q458 (Or.inl rfl) (Or.inl rfl) (zfty_122) rfl rfl (by decide) (by decide) (w32_r _) dJ2_append_40 (fun u11 eu11 => ?_)
    have h := h u11 eu11
    refine zc_wk G hp (fun hu11 tu11 => ?_)
    refine zv_aload_n G rfl rfl dJ2_append_43 ?_
    exact zv_aret G M (Or.inl ⟨_, rfl⟩) dJ2_append_44 h
  · have h := h.1 c1
    refine zv_aload_n G rfl rfl dJ2_append_4 ?_
    exact h.elim
set_option maxHeartbeats 4000000 in
set_option maxRecDepth 100000 in
theorem cpC_J2_ensureCapacityInternal_38 {Γ : ZG CW} {D : CD} {d p : Nat} (hp : D.K.1 = p) (G : ZOk Γ cJ2_ensureCapacityInternal RJ2 3 (KnC D) (ZC D)) (M : ZRm Γ (d + 1) D.lim (Option.none : Option Jvm.ClassFile.FieldType) "ensureCapacityInternal" []) (S : SdC d D p Γ.l) (hl : Γ.l.stackTraces = false) (hk : 0 ≤ d) {w : CW} (h : pC_J2_ensureCapacityInternal_38 p (wpC p d) (fun w => Γ.Q (.inl none) w) w) : ZV Γ w 38 [] [] := by
  refine zc_wk G hp (fun hw tw => ?_)
  exact zv_vret G M dJ2_ensureCapacityInternal_38 h
set_option maxHeartbeats 4000000 in
set_option maxRecDepth 100000 in
theorem cpC_J2_ensureCapacityInternal_0 {Γ : ZG CW} {D : CD} {d p : Nat} (hp : D.K.1 = p) (G : ZOk Γ cJ2_ensureCapacityInternal RJ2 3 (KnC D) (ZC D)) (M : ZRm Γ (d + 1) D.lim (Option.none : Option Jvm.ClassFile.FieldType) "ensureCapacityInternal" []) (S : SdC d D p Γ.l) (hl : Γ.l.stackTraces = false) (hk : 0 ≤ d) {x0 : Nat} {x1 : Int} {w : CW} (rx1 : zr x1) (h : pC_J2_ensureCapacityInternal_0 p (wpC p d) (fun w => Γ.Q (.inl none) w) x0 x1 w) : ZV Γ w 0 [(0, ar x0), (1, ai x1)] [] := by
  refine zc_wk G hp (fun hw tw => ?_)
  refine zv_aload_n G rfl rfl dJ2_ensureCapacityInternal_0 ?_
  have o1 := h.1
  have h := h.2
  refine zc_get (f := 119) (v := ar (fR w 119 x0)) G o1 rfl q455 (Or.inl rfl) (cV_R rfl) dJ2_ensureCapacityInternal_1 ?_
  have o2 := h.1
  have h := h.2
  refine zc_alen G o2 dJ2_ensureCapacityInternal_4 ?_
  refine zv_aload_n G rfl rfl dJ2_ensureCapacityInternal_5 ?_
  have o3 := h.1
  have h := h.2
  refine zc_get (f := 120) (v := ai (fI w 120 x0)) G o3 rfl q456 (Or.inl rfl) (cV_I (by decide) (by decide)) dJ2_ensureCapacityInternal_6 ?_
  refine zv_ishr G dJ2_ensureCapacityInternal_9 ?_
  refine zv_istore_nN G rfl (by decide) dJ2_ensureCapacityInternal_10 (fun x2_4 ex2_4 => ?_)
  have h := h x2_4 ex2_4
  have rx2_4 : zr x2_4 := by rw [ex2_4]; exact (show zr _ from by first | with_reducible exact i_and_r _ _ | with_reducible exact i_or_r _ _ | with_reducible exact i_shl_r _ _ | with_reducible exact i_shr_r _ _ | with_reducible exact i_ushr_r _ _ | with_reducible exact i_b_r _ | with_reducible exact i_c_r _ | with_reducible exact i_xor_r _ _ | with_reducible exact i_div_r _ _ | with_reducible exact i_rem_r _ _ | exact zr_of _)
  refine zv_iload_n G rfl rfl dJ2_ensureCapacityInternal_11 ?_
  refine zv_iload_n G rfl rfl dJ2_ensureCapacityInternal_12 ?_
  refine zv_isub G dJ2_ensureCapacityInternal_13 ?_
  refine zv_if_le (tgt := 38) G (w32_r _) (by decide) dJ2_ensureCapacityInternal_14 (fun c5 => ?_) (fun c5 => ?_)
  · have h := h.1 c5
    exact zv_pick [] rfl (cpC_J2_ensureCapacityInternal_38 hp G M S hl hk h)
  · have h := h.2 c5
    refine zv_aload_n G rfl rfl dJ2_ensureCapacityInternal_17 ?_
    refine zv_aload_n G rfl rfl dJ2_ensureCapacityInternal_18 ?_
    have o6 := h.1
    have h := h.2
    refine zc_get (f := 119) (v := ar (fR w 119 x0)) G o6 rfl q455 (Or.inl rfl) (cV_R rfl) dJ2_ensureCapacityInternal_19 ?_
    refine zv_aload_n G rfl rfl dJ2_ensureCapacityInternal_22 ?_
    refine zv_iload_n G rfl rfl dJ2_ensureCapacityInternal_23 ?_
    exact h.elim
set_option maxHeartbeats 4000000 in
set_option maxRecDepth 100000 in
theorem cpC_J2_isLatin1_0 {Γ : ZG CW} {D : CD} {d p : Nat} (hp : D.K.1 = p) (G : ZOk Γ cJ2_isLatin1 RJ2 1 (KnC D) (ZC D)) (M : ZRm Γ (d + 1) D.lim (Option.some Jvm.ClassFile.FieldType.boolean) "isLatin1" []) (S : SdC d D p Γ.l) (hl : Γ.l.stackTraces = false) (hk : 0 ≤ d) {x0 : Nat} {w : CW} (h : pC_J2_isLatin1_0 p (wpC p d) (fun v w => Γ.Q (.inl (some (ai v))) w) x0 w) : ZV Γ w 0 [(0, ar x0)] [] := by
  refine zc_wk G hp (fun hw tw => ?_)
  refine zc_getsI (j := 2) G rfl q395 dJ2_isLatin1_0 ?_
  have o2 := h.1
  have h := h.2
  have kj3 : ∀ v1 : Int, v1 = (if ¬ ((1 : Int) = 0) ∧ ((fI w 120 x0) = 0) then 1 else 0) → ZV Γ w 18 [(0, ar x0)] (ai v1 :: []) := by
    intro v1 ev1
    have h := h v1 ev1
    have rv1 : zr v1 := by rw [ev1]; exact (zr_ite (zr_k 1 (by decide) (by decide)) (zr_k 0 (by decide) (by decide)))
    have bv1 : v1 = 0 ∨ v1 = 1 := by rw [ev1]; exact (zb_ite (Or.inr rfl) (Or.inl rfl))
    exact zv_iret (ty := .boolean) rv1 G M (zn_Z bv1) dJ2_isLatin1_18 h
  refine zv_if_eq (tgt := 17) G (zr_k 1 (by decide) (by decide)) (by decide) dJ2_isLatin1_3 (fun c4 => ?_) (fun c4 => ?_)
  · refine zv_iconst (a := 0) G (by decide) dJ2_isLatin1_17 ?_
    exact kj3 _ (if_neg (fun q => q.1 c4)).symm
  · refine zv_aload_n G rfl rfl dJ2_isLatin1_6 ?_
    refine zc_get (f := 120) (v := ai (fI w 120 x0)) G (o2 c4) rfl q456 (Or.inl rfl) (cV_I (by decide) (by decide)) dJ2_isLatin1_7 ?_
    refine zv_if_ne (tgt := 17) G (hw.i 120 _ (by decide)) (by decide) dJ2_isLatin1_10 (fun c5 => ?_) (fun c5 => ?_)
    · refine zv_iconst (a := 0) G (by decide) dJ2_isLatin1_17 ?_
      exact kj3 _ (if_neg (fun q => c5 q.2)).symm
    · refine zv_iconst (a := 1) G (by decide) dJ2_isLatin1_13 ?_
      refine zv_goto (tgt := 18) G (by decide) dJ2_isLatin1_14 ?_
      exact kj3 _ (if_pos ⟨c4, c5⟩).symm
set_option maxHeartbeats 4000000 in
set_option maxRecDepth 100000 in
theorem cpC_J2_putStringAt_0 {Γ : ZG CW} {D : CD} {d p : Nat} (hp : D.K.1 = p) (G : ZOk Γ cJ2_putStringAt RJ2 3 (KnC D) (ZC D)) (M : ZRm Γ (d + 1) D.lim (Option.none : Option Jvm.ClassFile.FieldType) "putStringAt" []) (S : SdC d D p Γ.l) (hl : Γ.l.stackTraces = false) (hk : 0 ≤ d) {x0 : Nat} {x1 : Int} {x2 : Nat} {w : CW} (rx1 : zr x1) (h : pC_J2_putStringAt_0 p (wpC p d) (fun w => Γ.Q (.inl none) w) x0 x1 x2 w) : ZV Γ w 0 [(0, ar x0), (1, ai x1), (2, ar x2)] [] := by
  refine zc_wk G hp (fun hw tw => ?_)
  refine zv_aload_n G rfl rfl dJ2_putStringAt_0 ?_
  refine zv_aload_n G rfl rfl dJ2_putStringAt_1 ?_
  have o9 := h.1
  have h := h.2
  refine zv_callV (as := [ar x0, ar x2]) (st := []) G M (zc_eP G q426 q428 q427 q393 rfl (Or.inl ⟨rfl, rfl⟩) q429 md_J2_inflateIfNeededFor (zc_rc G (zne tw o9 (by decide)) o9 (by decide) (by decide) rfl) rfl dJ2_putStringAt_2) (S 211 _ rfl _ _ _ h (zoks_cons trivial (zoks_cons trivial zoks_nil))) (Or.inl ⟨rfl, rfl⟩) (zc_hk q429 q148) (by decide) (Nat.le_of_ble_eq_true rfl) (fun u1 h => ?_) (fun _ _ h => h.elim)
  refine zc_wk G hp (fun hu1 tu1 => ?_)
  refine zv_aload_n G rfl rfl dJ2_putStringAt_5 ?_
  refine zv_aload_n G rfl rfl dJ2_putStringAt_6 ?_
  have o3 := h.1
  have h := h.2
  refine zc_get (f := 119) (v := ar (fR u1 119 x0)) G o3 rfl q455 (Or.inl rfl) (cV_R rfl) dJ2_putStringAt_7 ?_
  refine zv_iload_n G rfl rfl dJ2_putStringAt_10 ?_
  refine zv_aload_n G rfl rfl dJ2_putStringAt_11 ?_
  have o4 := h.1
  have h := h.2
  refine zc_get (f := 120) (v := ai (fI u1 120 x0)) G o4 rfl q456 (Or.inl rfl) (cV_I (by decide) (by decide)) dJ2_putStringAt_12 ?_
  have o7 := h.1
  have h := h.2
  have en8 : ZEn Γ u1 15 [(0, ar x0), (1, ai x1), (2, ar x2)] yJ4_getBytes 3 [ar x2, ar (fR u1 119 x0), ai x1, ai (fI u1 120 x0)] [] := by
    rcases o7 with z | z
    · exact (zc_eV (C := zcn 32) G q449 q450 q451 (Or.inl ⟨rfl, rfl⟩) q452 md_J4_getBytes (zc_rc G (zne tu1 z (by decide)) z (by decide) (by decide) rfl) rfl dJ2_putStringAt_15)
    · exact (zc_eV (C := zcn 34) G q449 q450 q451 (Or.inl ⟨rfl, rfl⟩) q452 md_J4_getBytes (zc_rc G (zne tu1 z (by decide)) z (by decide) (by decide) rfl) rfl dJ2_putStringAt_15)
  refine zv_callV (as := [ar x2, ar (fR u1 119 x0), ai x1, ai (fI u1 120 x0)]) (st := []) G M en8 (S 223 _ rfl _ _ _ h (zoks_cons trivial (zoks_cons trivial (zoks_cons rx1 (zoks_cons (hu1.i 120 _ (by decide)) zoks_nil))))) (Or.inl ⟨rfl, rfl⟩) (zc_hk q452 q150) (by decide) (Nat.le_of_ble_eq_true rfl) (fun u5 h => ?_) (fun _ _ h => h.elim)
  refine zc_wk G hp (fun hu5 tu5 => ?_)
  exact zv_vret G M dJ2_putStringAt_18 h
set_option maxHeartbeats 4000000 in
set_option maxRecDepth 100000 in
theorem cpC_J2_inflateIfNeededFor_21 {Γ : ZG CW} {D : CD} {d p : Nat} (hp : D.K.1 = p) (G : ZOk Γ cJ2_inflateIfNeededFor RJ2 2 (KnC D) (ZC D)) (M : ZRm Γ (d + 1) D.lim (Option.none : Option Jvm.ClassFile.FieldType) "inflateIfNeededFor" []) (S : SdC d D p Γ.l) (hl : Γ.l.stackTraces = false) (hk : 0 ≤ d) {w : CW} (h : pC_J2_inflateIfNeededFor_21 p (wpC p d) (fun w => Γ.Q (.inl none) w) w) : ZV Γ w 21 [] [] := by
  refine zc_wk G hp (fun hw tw => ?_)
  exact zv_vret G M dJ2_inflateIfNeededFor_21 h
set_option maxHeartbeats 4000000 in
set_option maxRecDepth 100000 in
theorem cpC_J2_inflateIfNeededFor_0 {Γ : ZG CW} {D : CD} {d p : Nat} (hp : D.K.1 = p) (G : ZOk Γ cJ2_inflateIfNeededFor RJ2 2 (KnC D) (ZC D)) (M : ZRm Γ (d + 1) D.lim (Option.none : Option Jvm.ClassFile.FieldType) "inflateIfNeededFor" []) (S : SdC d D p Γ.l) (hl : Γ.l.stackTraces = false) (hk : 0 ≤ d) {x0 : Nat} {x1 : Nat} {w : CW} (h : pC_J2_inflateIfNeededFor_0 p (wpC p d) (fun w => Γ.Q (.inl none) w) x0 x1 w) : ZV Γ w 0 [(0, ar x0), (1, ar x1)] [] := by
  refine zc_wk G hp (fun hw tw => ?_)
  refine zc_getsI (j := 2) G rfl q395 dJ2_inflateIfNeededFor_0 ?_
  refine zv_if_eq (tgt := 21) G (zr_k 1 (by decide) (by decide)) (by decide) dJ2_inflateIfNeededFor_3 (fun c1 => ?_) (fun c1 => ?_)
  · have h := h.1 c1
    exact zv_pick [] rfl (cpC_J2_inflateIfNeededFor_21 hp G M S hl hk h)
  · have h := h.2 c1
    refine zv_aload_n G rfl rfl dJ2_inflateIfNeededFor_6 ?_
    have o2 := h.1
    have h := h.2
    refine zc_get (f := 120) (v := ai (fI w 120 x0)) G o2 rfl q456 (Or.inl rfl) (cV_I (by decide) (by decide)) dJ2_inflateIfNeededFor_7 ?_
    refine zv_aload_n G rfl rfl dJ2_inflateIfNeededFor_10 ?_
    have o8 := h.1
    have h := h.2
    have en9 : ZEn Γ w 11 [(0, ar x0), (1, ar x1)] yJ4_coder 3 [ar x1] [ai (fI w 120 x0)] := by
      rcases o8 with z | z
      · exact (zc_eV (C := zcn 32) G q331 q324 q325 (Or.inl ⟨rfl, rfl⟩) q326 md_J4_coder (zc_rc G (zne tw z (by decide)) z (by decide) (by decide) rfl) rfl dJ2_inflateIfNeededFor_11)
      · exact (zc_eV (C := zcn 34) G q331 q324 q325 (Or.inl ⟨rfl, rfl⟩) q326 md_J4_coder (zc_rc G (zne tw z (by decide)) z (by decide) (by decide) rfl) rfl dJ2_inflateIfNeededFor_11)
    refine zv_callI (as := [ar x1]) (st := [ai (fI w 120 x0)]) G M en9 (S 222 _ rfl _ _ _ h (zoks_cons trivial zoks_nil)) (Or.inl ⟨rfl, rfl⟩) (zc_hk q326 q150) (by decide) (Nat.le_of_ble_eq_true rfl) (fun v4 u3 rv4 h => ?_) (fun _ _ h => h.elim)
    refine zc_wk G hp (fun hu3 tu3 => ?_)
    refine zv_icmp_eq (tgt := 21) G (hw.i 120 _ (by decide)) rv4 (by decide) dJ2_inflateIfNeededFor_14 (fun c5 => ?_) (fun c5 => ?_)
    · have h := h.1 c5
      exact zv_pick [] rfl (cpC_J2_inflateIfNeededFor_21 hp G M S hl hk h)
    · have h := h.2 c5
      refine zv_aload_n G rfl rfl dJ2_inflateIfNeededFor_17 ?_
      exact h.elim
set_option maxHeartbeats 4000000 in
set_option maxRecDepth 100000 in
theorem cpC_J2_append_2_56 {Γ : ZG CW} {D : CD} {d p : Nat} (hp : D.K.1 = p) (G : ZOk Γ cJ2_append_2 RJ2 2 (KnC D) (ZC D)) (M : ZRm Γ (d + 1) D.lim (Option.some (Jvm.ClassFile.FieldType.object "java/lang/AbstractStringBuilder")) "append" []) (S : SdC d D p Γ.l) (hl : Γ.l.stackTraces = false) (hk : 0 ≤ d) {x0 : Nat} {x1 : Int} {w : CW} (rx1 : zr x1) (h : pC_J2_append_2_56 p (wpC p d) (fun v w => Γ.Q (.inl (some (ar v))) w) x0 x1 w) : ZV Γ w 56 [(0, ar x0), (1, ai x1)] [] := by
  refine zc_wk G hp (fun hw tw => ?_)
  refine zv_aload_n G rfl rfl dJ2_append_2_56 ?_
  have o10 := h.1
  have h := h.2
  refine zc_get (f := 119) (v := ar (fR w 119 x0)) G o10 rfl q455 (Or.inl rfl) (cV_R rfl) dJ2_append_2_57 ?_
  refine zv_aload_n G rfl rfl dJ2_append_2_60 ?_
  refine zv_dup G rfl dJ2_append_2_61 ?_
  have o11 := h.1
  have h := h.2
  refine zc_get (f := 122) (v := ai (fI w 122 x0)) G o11 rfl q458 (Or.inl rfl) (cV_I (by decide) (by decide)) dJ2_append_2_62 ?_
  refine zv_dup_x1 G rfl rfl dJ2_append_2_65 ?_
  refine zv_iconst (a := 1) G (by decide) dJ2_append_2_66 ?_
  refine zv_iadd G dJ2_append_2_67 ?_
  have o13 := h.1
  have h := h.2
  refine zc_putI (f := 122) G M o13 rfl q458 (Or.inl rfl) (Or.inl rfl) (zfty_122) rfl rfl (by decide) (by decide) (w32_r _) dJ2_append_2_68 (fun u12 eu12 => ?_)
  have h := h u12 eu12
  refine zc_wk G hp (fun hu12 tu12 => ?_)
  refine zv_iload_n G rfl rfl dJ2_append_2_71 ?_
  exact h.elim
set_option maxHeartbeats 4000000 in
set_option maxRecDepth 100000 in
theorem cpC_J2_append_2_45 {Γ : ZG CW} {D : CD} {d p : Nat} (hp : D.K.1 = p) (G : ZOk Γ cJ2_append_2 RJ2 2 (KnC D) (ZC D)) (M : ZRm Γ (d + 1) D.lim (Option.some (Jvm.ClassFile.FieldType.object "java/lang/AbstractStringBuilder")) "append" []) (S : SdC d D p Γ.l) (hl : Γ.l.stackTraces = false) (hk : 0 ≤ d) {x0 : Nat} {x1 : Int} {w : CW} (rx1 : zr x1) (h : pC_J2_append_2_45 p (wpC p d) (fun v w => Γ.Q (.inl (some (ar v))) w) x0 x1 w) : ZV Γ w 45 [(0, ar x0), (1, ai x1)] [] := by
  refine zc_wk G hp (fun hw tw => ?_)
  refine zv_aload_n G rfl rfl dJ2_append_2_45 ?_
  have o18 := h.1
  have h := h.2
  refine zv_callI (as := [ar x0]) (st := []) G M (zc_eV (C := zcn 31) G q390 q391 q393 (Or.inl ⟨rfl, rfl⟩) q394 md_J2_isLatin1 (zc_rc G (zne tw o18 (by decide)) o18 (by decide) (by decide) rfl) rfl dJ2_append_2_46) (S 209 _ rfl _ _ _ h (zoks_cons trivial zoks_nil)) (Or.inl ⟨rfl, rfl⟩) (zc_hk q394 q148) (by decide) (Nat.le_of_ble_eq_true rfl) (fun v8 u7 rv8 h => ?_) (fun _ _ h => h.elim)
  refine zc_wk G hp (fun hu7 tu7 => ?_)
  refine zv_if_eq (tgt := 56) G rv8 (by decide) dJ2_append_2_49 (fun c9 => ?_) (fun c9 => ?_)
  · have h := h.1 c9
    exact zv_pick [0, 1] rfl (cpC_J2_append_2_56 hp G M S hl hk rx1 h)
  · have h := h.2 c9
    refine zv_aload_n G rfl rfl dJ2_append_2_52 ?_
    exact h.elim
set_option maxHeartbeats 4000000 in
set_option maxRecDepth 100000 in
theorem cpC_J2_append_2_75 {Γ : ZG CW} {D : CD} {d p : Nat} (hp : D.K.1 = p) (G : ZOk Γ cJ2_append_2 RJ2 2 (KnC D) (ZC D)) (M : ZRm Γ (d + 1) D.lim (Option.some (Jvm.ClassFile.FieldType.object "java/lang/AbstractStringBuilder")) "append" []) (S : SdC d D p Γ.l) (hl : Γ.l.stackTraces = false) (hk : 0 ≤ d) {x0 : Nat} {w : CW} (h : pC_J2_append_2_75 p (wpC p d) (fun v w => Γ.Q (.inl (some (ar v))) w) x0 w) : ZV Γ w 75 [(0, ar x0)] [] := by
  refine zc_wk G hp (fun hw tw => ?_)
  refine zv_aload_n G rfl rfl dJ2_append_2_75 ?_
  exact zv_aret G M (Or.inl ⟨_, rfl⟩) dJ2_append_2_76 h
set_option maxHeartbeats 4000000 in
set_option maxRecDepth 100000 in
theorem cpC_J2_append_2_0 {Γ : ZG CW} {D : CD} {d p : Nat} (hp : D.K.1 = p) (G : ZOk Γ cJ2_append_2 RJ2 2 (KnC D) (ZC D)) (M : ZRm Γ (d + 1) D.lim (Option.some (Jvm.ClassFile.FieldType.object "java/lang/AbstractStringBuilder")) "append" []) (S : SdC d D p Γ.l) (hl : Γ.l.stackTraces = false) (hk : 0 ≤ d) {x0 : Nat} {x1 : Int} {w : CW} (rx1 : zr x1) (h : pC_J2_append_2_0 p (wpC p d) (fun v w => Γ.Q (.inl (some (ar v))) w) x0 x1 w) : ZV Γ w 0 [(0, ar x0), (1, ai x1)] [] := by
  refine zc_wk G hp (fun hw tw => ?_)
  refine zv_aload_n G rfl rfl dJ2_append_2_0 ?_
  refine zv_aload_n G rfl rfl dJ2_append_2_1 ?_
  have o1 := h.1
  have h := h.2
  refine zc_get (f := 122) (v := ai (fI w 122 x0)) G o1 rfl q458 (Or.inl rfl) (cV_I (by decide) (by decide)) dJ2_append_2_2 ?_
  refine zv_iconst (a := 1) G (by decide) dJ2_append_2_5 ?_
  refine zv_iadd G dJ2_append_2_6 ?_
  have o29 := h.1
  have h := h.2
  refine zv_callV (as := [ar x0, ai (w32 ((fI w 122 x0) + 1))]) (st := []) G M (zc_eP G q356 q358 q357 q393 rfl (Or.inl ⟨rfl, rfl⟩) q359 md_J2_ensureCapacityInternal (zc_rc G (zne tw o29 (by decide)) o29 (by decide) (by decide) rfl) rfl dJ2_append_2_7) (S 208 _ rfl _ _ _ h (zoks_cons trivial (zoks_cons (w32_r _) zoks_nil))) (Or.inl ⟨rfl, rfl⟩) (zc_hk q359 q148) (by decide) (Nat.le_of_ble_eq_true rfl) (fun u2 h => ?_) (fun _ _ h => h.elim)
  refine zc_wk G hp (fun hu2 tu2 => ?_)
  refine zv_aload_n G rfl rfl dJ2_append_2_10 ?_
  have o28 := h.1
  have h := h.2
  refine zv_callI (as := [ar x0]) (st := []) G M (zc_eV (C := zcn 31) G q390 q391 q393 (Or.inl ⟨rfl, rfl⟩) q394 md_J2_isLatin1 (zc_rc G (zne tu2 o28 (by decide)) o28 (by decide) (by decide) rfl) rfl dJ2_append_2_11) (S 209 _ rfl _ _ _ h (zoks_cons trivial zoks_nil)) (Or.inl ⟨rfl, rfl⟩) (zc_hk q394 q148) (by decide) (Nat.le_of_ble_eq_true rfl) (fun v5 u4 rv5 h => ?_) (fun _ _ h => h.elim)
  refine zc_wk G hp (fun hu4 tu4 => ?_)
  refine zv_if_eq (tgt := 45) G rv5 (by decide) dJ2_append_2_14 (fun c6 => ?_) (fun c6 => ?_)
  · have h := h.1 c6
    exact zv_pick [0, 1] rfl (cpC_J2_append_2_45 hp G M S hl hk rx1 h)
  · have h := h.2 c6
    refine zv_iload_n G rfl rfl dJ2_append_2_17 ?_
    refine zv_callI (as := [ai x1]) (st := []) G M (zc_eS G q475 q476 q157 q477 md_J10_canEncode rfl dJ2_append_2_18) (S 239 _ rfl _ _ _ h (zoks_cons rx1 zoks_nil)) (Or.inl ⟨rfl, rfl⟩) (zc_hk q477 q157) (by decide) (Nat.le_of_ble_eq_true rfl) (fun v20 u19 rv20 h => ?_) (fun _ _ h => h.elim)
    refine zc_wk G hp (fun hu19 tu19 => ?_)
    refine zv_if_eq (tgt := 45) G rv20 (by decide) dJ2_append_2_21 (fun c21 => ?_) (fun c21 => ?_)
    · have h := h.1 c21
      exact zv_pick [0, 1] rfl (cpC_J2_append_2_45 hp G M S hl hk rx1 h)
    · have h := h.2 c21
      refine zv_aload_n G rfl rfl dJ2_append_2_24 ?_
      have o22 := h.1
      have h := h.2
      refine zc_get (f := 119) (v := ar (fR u19 119 x0)) G o22 rfl q455 (Or.inl rfl) (cV_R rfl) dJ2_append_2_25 ?_
      refine zv_aload_n G rfl rfl dJ2_append_2_28 ?_
      refine zv_dup G rfl dJ2_append_2_29 ?_
      have o23 := h.1
      have h := h.2
      refine zc_get (f := 122) (v := ai (fI u19 122 x0)) G o23 rfl q458 (Or.inl rfl) (cV_I (by decide) (by decide)) dJ2_append_2_30 ?_
      refine zv_dup_x1 G rfl rfl dJ2_append_2_33 ?_
      refine zv_iconst (a := 1) G (by decide) dJ2_append_2_34 ?_
      refine zv_iadd G dJ2_append_2_35 ?_
      have o25 := h.1
      have h := h.2
      refine zc_putI (f := 122) G M o25 rfl q458 (Or.inl rfl) (Or.inl rfl) (zfty_122) rfl rfl (by decide) (by decide) (w32_r _) dJ2_append_2_36 (fun u24 eu24 => ?_)
      have h := h u24 eu24
      refine zc_wk G hp (fun hu24 tu24 => ?_)
      refine zv_iload_n G rfl rfl dJ2_append_2_39 ?_
      refine zv_i2b G dJ2_append_2_40 ?_
      have o27 := h.1
      have h := h.2
      refine zc_bast G o27.1 (hu19.i 122 _ (by decide)) o27.2.1 o27.2.2 dJ2_append_2_41 (fun u26 eu26 => ?_)
      have h := h u26 eu26
      refine zc_wk G hp (fun hu26 tu26 => ?_)
      refine zv_goto (tgt := 75) G (by decide) dJ2_append_2_42 ?_
      exact zv_pick [0] rfl (cpC_J2_append_2_75 hp G M S hl hk h)
set_option maxHeartbeats 4000000 in
set_option maxRecDepth 100000 in
theorem cpC_J2_getValue_0 {Γ : ZG CW} {D : CD} {d p : Nat} (hp : D.K.1 = p) (G : ZOk Γ cJ2_getValue RJ2 1 (KnC D) (ZC D)) (M : ZRm Γ (d + 1) D.lim (Option.some (Jvm.ClassFile.FieldType.array Jvm.ClassFile.FieldType.byte)) "getValue" []) (S : SdC d D p Γ.l) (hl : Γ.l.stackTraces = false) (hk : 0 ≤ d) {x0 : Nat} {w : CW} (h : pC_J2_getValue_0 p (wpC p d) (fun v w => Γ.Q (.inl (some (ar v))) w) x0 w) : ZV Γ w 0 [(0, ar x0)] [] := by
  refine zc_wk G hp (fun hw tw => ?_)
  refine zv_aload_n G rfl rfl dJ2_getValue_0 ?_
  have o1 := h.1
  have h := h.2
  refine zc_get (f := 119) (v := ar (fR w 119 x0)) G o1 rfl q455 (Or.inl rfl) (cV_R rfl) dJ2_getValue_1 ?_
  exact zv_aret G M (Or.inr ⟨_, rfl⟩) dJ2_getValue_4 h
set_option maxHeartbeats 4000000 in
set_option maxRecDepth 100000 in
theorem cpC_J2_length_0 {Γ : ZG CW} {D : CD} {d p : Nat} (hp : D.K.1 = p) (G : ZOk Γ cJ2_length RJ2 1 (KnC D) (ZC D)) (M : ZRm Γ (d + 1) D.lim (Option.some Jvm.ClassFile.FieldType.int) "length" []) (S : SdC d D p Γ.l) (hl : Γ.l.stackTraces = false) (hk : 0 ≤ d) {x0 : Nat} {w : CW} (h : pC_J2_length_0 p (wpC p d) (fun v w => Γ.Q (.inl (some (ai v))) w) x0 w) : ZV Γ w 0 [(0, ar x0)] [] := by
  refine zc_wk G hp (fun hw tw => ?_)
  refine zv_aload_n G rfl rfl dJ2_length_0 ?_
  have o1 := h.1
  have h := h.2
  refine zc_get (f := 122) (v := ai (fI w 122 x0)) G o1 rfl q458 (Or.inl rfl) (cV_I (by decide) (by decide)) dJ2_length_1 ?_
  exact zv_iret (ty := .int) (hw.i 122 _ (by decide)) G M rfl dJ2_length_4 h
set_option maxHeartbeats 4000000 in
set_option maxRecDepth 100000 in
theorem cpC_J3_init_0 {Γ : ZG CW} {D : CD} {d p : Nat} (hp : D.K.1 = p) (G : ZOk Γ cJ3_init RJ3 2 (KnC D) (ZC D)) (M : ZRm Γ (d + 1) D.lim (Option.none : Option Jvm.ClassFile.FieldType) "<init>" []) (S : SdC d D p Γ.l) (hl : Γ.l.stackTraces = false) (hk : 0 ≤ d) {x0 : Nat} {x1 : Nat} {w : CW} (h : pC_J3_init_0 p (wpC p d) (fun w => Γ.Q (.inl none) w) x0 x1 w) : ZV Γ w 0 [(0, ar x0), (1, ar x1)] [] := by
  refine zc_wk G hp (fun hw tw => ?_)
  refine zv_aload_n G rfl rfl dJ3_init_0 ?_
  refine zv_aload_n G rfl rfl dJ3_init_1 ?_
  have o3 := h.1
  have h := h.2
  refine zv_callV (as := [ar x0, ar x1]) (st := []) G M (zc_eI G rfl q315 q316 q317 md_J2_init o3 rfl dJ3_init_2) (S 206 _ rfl _ _ _ h (zoks_cons trivial (zoks_cons trivial zoks_nil))) (Or.inl ⟨rfl, rfl⟩) (zc_hk q317 q148) (by decide) (Nat.le_of_ble_eq_true rfl) (fun u1 h => ?_) (fun _ _ h => h.elim)
  refine zc_wk G hp (fun hu1 tu1 => ?_)
  exact zv_vret G M dJ3_init_5 h
set_option maxHeartbeats 4000000 in
set_option maxRecDepth 100000 in
theorem cpC_J3_append_0 {Γ : ZG CW} {D : CD} {d p : Nat} (hp : D.K.1 = p) (G : ZOk Γ cJ3_append RJ3 2 (KnC D) (ZC D)) (M : ZRm Γ (d + 1) D.lim (Option.some (Jvm.ClassFile.FieldType.object "java/lang/AbstractStringBuilder")) "append" []) (S : SdC d D p Γ.l) (hl : Γ.l.stackTraces = false) (hk : 0 ≤ d) {x0 : Nat} {x1 : Nat} {w : CW} (h : pC_J3_append_0 p (wpC p d) (fun v w => Γ.Q (.inl (some (ar v))) w) x0 x1 w) : ZV Γ w 0 [(0, ar x0), (1, ar x1)] [] := by
  refine zc_wk G hp (fun hw tw => ?_)
  refine zv_aload_n G rfl rfl dJ3_append_0 ?_
  refine zv_aload_n G rfl rfl dJ3_append_1 ?_
  have o3 := h.1
  have h := h.2
  refine zv_callR (as := [ar x0, ar x1]) (st := []) G M (zc_eV (C := zcn 31) G q345 q346 q347 (Or.inl ⟨rfl, rfl⟩) q348 md_J3_append_2 (zc_rc G (zne tw o3 (by decide)) o3 (by decide) (by decide) rfl) rfl dJ3_append_2) (S 217 _ rfl _ _ _ h (zoks_cons trivial (zoks_cons trivial zoks_nil))) (Or.inl ⟨rfl, rfl⟩) (zc_hk q348 q149) (by decide) (Nat.le_of_ble_eq_true rfl) (fun v2 u1 h => ?_) (fun _ _ h => h.elim)
  refine zc_wk G hp (fun hu1 tu1 => ?_)
  exact zv_aret G M (Or.inl ⟨_, rfl⟩) dJ3_append_5 h
set_option maxHeartbeats 4000000 in
set_option maxRecDepth 100000 in
theorem cpC_J3_append_2_0 {Γ : ZG CW} {D : CD} {d p : Nat} (hp : D.K.1 = p) (G : ZOk Γ cJ3_append_2 RJ3 2 (KnC D) (ZC D)) (M : ZRm Γ (d + 1) D.lim (Option.some (Jvm.ClassFile.FieldType.object "java/lang/StringBuilder")) "append" []) (S : SdC d D p Γ.l) (hl : Γ.l.stackTraces = false) (hk : 0 ≤ d) {x0 : Nat} {x1 : Nat} {w : CW} (h : pC_J3_append_2_0 p (wpC p d) (fun v w => Γ.Q (.inl (some (ar v))) w) x0 x1 w) : ZV Γ w 0 [(0, ar x0), (1, ar x1)] [] := by
  refine zc_wk G hp (fun hw tw => ?_)
  refine zv_aload_n G rfl rfl dJ3_append_2_0 ?_
  refine zv_aload_n G rfl rfl dJ3_append_2_1 ?_
  have o3 := h.1
  have h := h.2
  refine zv_callR (as := [ar x0, ar x1]) (st := []) G M (zc_eSU G q349 q341 q350 q340 (Or.inl ⟨rfl, rfl⟩) q351 (by decide) md_J2_append (zc_rc G (zne tw rfl o3.1) rfl o3.1 o3.2 rfl) rfl dJ3_append_2_2) (S 207 _ rfl _ _ _ h (zoks_cons trivial (zoks_cons trivial zoks_nil))) (Or.inl ⟨rfl, rfl⟩) (zc_hk q351 q148) (by decide) (Nat.le_of_ble_eq_true rfl) (fun v2 u1 h => ?_) (fun _ _ h => h.elim)
  refine zc_wk G hp (fun hu1 tu1 => ?_)
  refine zv_pop G rfl dJ3_append_2_5 ?_
  refine zv_aload_n G rfl rfl dJ3_append_2_6 ?_
  exact zv_aret G M (Or.inl ⟨_, rfl⟩) dJ3_append_2_7 h
set_option maxHeartbeats 4000000 in
set_option maxRecDepth 100000 in
theorem cpC_J3_append_3_0 {Γ : ZG CW} {D : CD} {d p : Nat} (hp : D.K.1 = p) (G : ZOk Γ cJ3_append_3 RJ3 2 (KnC D) (ZC D)) (M : ZRm Γ (d + 1) D.lim (Option.some (Jvm.ClassFile.FieldType.object "java/lang/StringBuilder")) "append" []) (S : SdC d D p Γ.l) (hl : Γ.l.stackTraces = false) (hk : 0 ≤ d) {x0 : Nat} {x1 : Int} {w : CW} (rx1 : zr x1) (h : pC_J3_append_3_0 p (wpC p d) (fun v w => Γ.Q (.inl (some (ar v))) w) x0 x1 w) : ZV Γ w 0 [(0, ar x0), (1, ai x1)] [] := by
  refine zc_wk G hp (fun hw tw => ?_)
  refine zv_aload_n G rfl rfl dJ3_append_3_0 ?_
  refine zv_iload_n G rfl rfl dJ3_append_3_1 ?_
  have o3 := h.1
  have h := h.2
  refine zv_callR (as := [ar x0, ai x1]) (st := []) G M (zc_eSU G q472 q2998 q350 q473 (Or.inl ⟨rfl, rfl⟩) q474 (by decide) md_J2_append_2 (zc_rc G (zne tw rfl o3.1) rfl o3.1 o3.2 rfl) rfl dJ3_append_3_2) (S 212 _ rfl _ _ _ h (zoks_cons trivial (zoks_cons rx1 zoks_nil))) (Or.inl ⟨rfl, rfl⟩) (zc_hk q474 q148) (by decide) (Nat.le_of_ble_eq_true rfl) (fun v2 u1 h => ?_) (fun _ _ h => h.elim)
  refine zc_wk G hp (fun hu1 tu1 => ?_)
  refine zv_pop G rfl dJ3_append_3_5 ?_
  refine zv_aload_n G rfl rfl dJ3_append_3_6 ?_
  exact zv_aret G M (Or.inl ⟨_, rfl⟩) dJ3_append_3_7 h
set_option maxHeartbeats 4000000 in
set_option maxRecDepth 100000 in
theorem cpC_J3_toString_0 {Γ : ZG CW} {D : CD} {d p : Nat} (hp : D.K.1 = p) (G : ZOk Γ cJ3_toString RJ3 1 (KnC D) (ZC D)) (M : ZRm Γ (d + 1) D.lim (Option.some (Jvm.ClassFile.FieldType.object "java/lang/String")) "toString" []) (S : SdC d D p Γ.l) (hl : Γ.l.stackTraces = false) (hk : 0 ≤ d) {x0 : Nat} {w : CW} (h : pC_J3_toString_0 p (wpC p d) (fun v w => Γ.Q (.inl (some (ar v))) w) x0 w) : ZV Γ w 0 [(0, ar x0)] [] := by
  refine zc_wk G hp (fun hw tw => ?_)
  have o2 := h.1
  have h := h.2
  refine zc_new (ci := 31) (t := 32) (n := 4) G M rfl rfl (by decide) rfl q495 q496 q150 o2 dJ3_toString_0 (fun u1 eu1 => ?_)
  have h := h u1 eu1
  refine zc_wk G hp (fun hu1 tu1 => ?_)
  refine zv_dup G rfl dJ3_toString_3 ?_
  refine zv_aload_n G rfl rfl dJ3_toString_4 ?_
  refine zv_callV (as := [ar (cz w + 1), ar x0]) (st := [ar (cz w + 1)]) G M (zc_eI G rfl q497 q498 q499 md_J4_init (Nat.succ_ne_zero _) rfl dJ3_toString_5) (S 225 _ rfl _ _ _ h (zoks_cons trivial (zoks_cons trivial zoks_nil))) (Or.inl ⟨rfl, rfl⟩) (zc_hk q499 q150) (by decide) (Nat.le_of_ble_eq_true rfl) (fun u3 h => ?_) (fun _ _ h => h.elim)
  refine zc_wk G hp (fun hu3 tu3 => ?_)
  exact zv_aret G M (Or.inl ⟨_, rfl⟩) dJ3_toString_8 h
set_option maxHeartbeats 4000000 in
set_option maxRecDepth 100000 in
theorem cpC_J3_length_0 {Γ : ZG CW} {D : CD} {d p : Nat} (hp : D.K.1 = p) (G : ZOk Γ cJ3_length RJ3 1 (KnC D) (ZC D)) (M : ZRm Γ (d + 1) D.lim (Option.some Jvm.ClassFile.FieldType.int) "length" []) (S : SdC d D p Γ.l) (hl : Γ.l.stackTraces = false) (hk : 0 ≤ d) {x0 : Nat} {w : CW} (h : pC_J3_length_0 p (wpC p d) (fun v w => Γ.Q (.inl (some (ai v))) w) x0 w) : ZV Γ w 0 [(0, ar x0)] [] := by
  refine zc_wk G hp (fun hw tw => ?_)
  refine zv_aload_n G rfl rfl dJ3_length_0 ?_
  have o3 := h.1
  have h := h.2
  refine zv_callI (as := [ar x0]) (st := []) G M (zc_eSU G q515 q511 q350 q510 (Or.inl ⟨rfl, rfl⟩) q516 (by decide) md_J2_length (zc_rc G (zne tw rfl o3.1) rfl o3.1 o3.2 rfl) rfl dJ3_length_1) (S 214 _ rfl _ _ _ h (zoks_cons trivial zoks_nil)) (Or.inl ⟨rfl, rfl⟩) (zc_hk q516 q148) (by decide) (Nat.le_of_ble_eq_true rfl) (fun v2 u1 rv2 h => ?_) (fun _ _ h => h.elim)
  refine zc_wk G hp (fun hu1 tu1 => ?_)
  exact zv_iret (ty := .int) rv2 G M rfl dJ3_length_4 h
set_option maxHeartbeats 4000000 in
set_option maxRecDepth 100000 in
theorem cpC_J4_length_0 {Γ : ZG CW} {D : CD} {d p : Nat} (hp : D.K.1 = p) (G : ZOk Γ cJ4_length RJ4 1 (KnC D) (ZC D)) (M : ZRm Γ (d + 1) D.lim (Option.some Jvm.ClassFile.FieldType.int) "length" []) (S : SdC d D p Γ.l) (hl : Γ.l.stackTraces = false) (hk : 0 ≤ d) {x0 : Nat} {w : CW} (h : pC_J4_length_0 p (wpC p d) (fun v w => Γ.Q (.inl (some (ai v))) w) x0 w) : ZV Γ w 0 [(0, ar x0)] [] := by
  refine zc_wk G hp (fun hw tw => ?_)
  refine zv_aload_n G rfl rfl dJ4_length_0 ?_
  have o1 := h.1
  have h := h.2
  refine zc_get (f := 123) (v := ar (fR w 123 x0)) G o1 rfl q540 (Or.inl rfl) (cV_R rfl) dJ4_length_1 ?_
  have o2 := h.1
  have h := h.2
  refine zc_alen G o2 dJ4_length_4 ?_
  refine zv_aload_n G rfl rfl dJ4_length_5 ?_
  have o5 := h.1
  have h := h.2
  have en6 : ZEn Γ w 6 [(0, ar x0)] yJ4_coder 3 [ar x0] [ai ((ln w (fR w 123 x0) : Nat) : Int)] := by
    rcases o5 with z | z
    · exact (zc_eV (C := zcn 32) G q323 q324 q325 (Or.inl ⟨rfl, rfl⟩) q326 md_J4_coder (zc_rc G (zne tw z (by decide)) z (by decide) (by decide) rfl) rfl dJ4_length_6)
    · exact (zc_eV (C := zcn 34) G q323 q324 q325 (Or.inl ⟨rfl, rfl⟩) q326 md_J4_coder (zc_rc G (zne tw z (by decide)) z (by decide) (by decide) rfl) rfl dJ4_length_6)
  refine zv_callI (as := [ar x0]) (st := [ai ((ln w (fR w 123 x0) : Nat) : Int)]) G M en6 (S 222 _ rfl _ _ _ h (zoks_cons trivial zoks_nil)) (Or.inl ⟨rfl, rfl⟩) (zc_hk q326 q150) (by decide) (Nat.le_of_ble_eq_true rfl) (fun v4 u3 rv4 h => ?_) (fun _ _ h => h.elim)
  refine zc_wk G hp (fun hu3 tu3 => ?_)
  refine zv_ishr G dJ4_length_9 ?_
  exact zv_iret (ty := .int) (show zr _ from by first | with_reducible exact i_and_r _ _ | with_reducible exact i_or_r _ _ | with_reducible exact i_shl_r _ _ | with_reducible exact i_shr_r _ _ | with_reducible exact i_ushr_r _ _ | with_reducible exact i_b_r _ | with_reducible exact i_c_r _ | with_reducible exact i_xor_r _ _ | with_reducible exact i_div_r _ _ | with_reducible exact i_rem_r _ _ | exact zr_of _) G M rfl dJ4_length_10 h
set_option maxHeartbeats 4000000 in
set_option maxRecDepth 100000 in
theorem cpC_J4_coder_0 {Γ : ZG CW} {D : CD} {d p : Nat} (hp : D.K.1 = p) (G : ZOk Γ cJ4_coder RJ4 1 (KnC D) (ZC D)) (M : ZRm Γ (d + 1) D.lim (Option.some Jvm.ClassFile.FieldType.byte) "coder" []) (S : SdC d D p Γ.l) (hl : Γ.l.stackTraces = false) (hk : 0 ≤ d) {x0 : Nat} {w : CW} (h : pC_J4_coder_0 p (wpC p d) (fun v w => Γ.Q (.inl (some (ai v))) w) x0 w) : ZV Γ w 0 [(0, ar x0)] [] := by
  refine zc_wk G hp (fun hw tw => ?_)
  refine zc_getsI (j := 2) G rfl q327 dJ4_coder_0 ?_
  have o2 := h.1
  have h := h.2
  have kj3 : ∀ v1 : Int, v1 = (if (1 : Int) = 0 then 1 else fI w 124 x0) → ZV Γ w 14 [(0, ar x0)] (ai v1 :: []) := by
    intro v1 ev1
    have h := h v1 ev1
    have rv1 : zr v1 := by rw [ev1]; exact (zr_ite (zr_k 1 (by decide) (by decide)) (hw.i 124 _ (by decide)))
    exact zv_iret (ty := .byte) rv1 G M (zn_B h.1) dJ4_coder_14 h.2
  refine zv_if_eq (tgt := 13) G (zr_k 1 (by decide) (by decide)) (by decide) dJ4_coder_3 (fun c4 => ?_) (fun c4 => ?_)
  · refine zv_iconst (a := 1) G (by decide) dJ4_coder_13 ?_
    exact kj3 _ (if_pos c4).symm
  · refine zv_aload_n G rfl rfl dJ4_coder_6 ?_
    refine zc_get (f := 124) (v := ai (fI w 124 x0)) G (o2 c4) rfl q541 (Or.inl rfl) (cV_I (by decide) (by decide)) dJ4_coder_7 ?_
    refine zv_goto (tgt := 14) G (by decide) dJ4_coder_10 ?_
    exact kj3 _ (if_neg c4).symm
set_option maxHeartbeats 4000000 in
set_option maxRecDepth 100000 in
theorem cpC_J4_getBytes_43 {Γ : ZG CW} {D : CD} {d p : Nat} (hp : D.K.1 = p) (G : ZOk Γ cJ4_getBytes RJ4 4 (KnC D) (ZC D)) (M : ZRm Γ (d + 1) D.lim (Option.none : Option Jvm.ClassFile.FieldType) "getBytes" []) (S : SdC d D p Γ.l) (hl : Γ.l.stackTraces = false) (hk : 0 ≤ d) {w : CW} (h : pC_J4_getBytes_43 p (wpC p d) (fun w => Γ.Q (.inl none) w) w) : ZV Γ w 43 [] [] := by
  refine zc_wk G hp (fun hw tw => ?_)
  exact zv_vret G M dJ4_getBytes_43 h
set_option maxHeartbeats 4000000 in
set_option maxRecDepth 100000 in
theorem cpC_J4_getBytes_0 {Γ : ZG CW} {D : CD} {d p : Nat} (hp : D.K.1 = p) (G : ZOk Γ cJ4_getBytes RJ4 4 (KnC D) (ZC D)) (M : ZRm Γ (d + 1) D.lim (Option.none : Option Jvm.ClassFile.FieldType) "getBytes" []) (S : SdC d D p Γ.l) (hl : Γ.l.stackTraces = false) (hk : 0 ≤ d) {x0 : Nat} {x1 : Nat} {x2 : Int} {x3 : Int} {w : CW} (rx2 : zr x2) (rx3 : zr x3) (h : pC_J4_getBytes_0 p (wpC p d) (fun w => Γ.Q (.inl none) w) x0 x1 x2 x3 w) : ZV Γ w 0 [(0, ar x0), (1, ar x1), (2, ai x2), (3, ai x3)] [] := by
  refine zc_wk G hp (fun hw tw => ?_)
  refine zv_aload_n G rfl rfl dJ4_getBytes_0 ?_
  have o14 := h.1
  have h := h.2
  have en15 : ZEn Γ w 1 [(0, ar x0), (1, ar x1), (2, ai x2), (3, ai x3)] yJ4_coder 3 [ar x0] [] := by
    rcases o14 with z | z
    · exact (zc_eV (C := zcn 32) G q323 q324 q325 (Or.inl ⟨rfl, rfl⟩) q326 md_J4_coder (zc_rc G (zne tw z (by decide)) z (by decide) (by decide) rfl) rfl dJ4_getBytes_1)
    · exact (zc_eV (C := zcn 34) G q323 q324 q325 (Or.inl ⟨rfl, rfl⟩) q326 md_J4_coder (zc_rc G (zne tw z (by decide)) z (by decide) (by decide) rfl) rfl dJ4_getBytes_1)
  refine zv_callI (as := [ar x0]) (st := []) G M en15 (S 222 _ rfl _ _ _ h (zoks_cons trivial zoks_nil)) (Or.inl ⟨rfl, rfl⟩) (zc_hk q326 q150) (by decide) (Nat.le_of_ble_eq_true rfl) (fun v2 u1 rv2 h => ?_) (fun _ _ h => h.elim)
  refine zc_wk G hp (fun hu1 tu1 => ?_)
  refine zv_iload_n G rfl rfl dJ4_getBytes_4 ?_
  refine zv_icmp_ne (tgt := 28) G rv2 rx3 (by decide) dJ4_getBytes_5 (fun c3 => ?_) (fun c3 => ?_)
  · have h := h.2 c3
    refine zv_aload_n G rfl rfl dJ4_getBytes_28 ?_
    have o4 := h.1
    have h := h.2
    refine zc_get (f := 123) (v := ar (fR u1 123 x0)) G o4 rfl q540 (Or.inl rfl) (cV_R rfl) dJ4_getBytes_29 ?_
    refine zv_iconst (a := 0) G (by decide) dJ4_getBytes_32 ?_
    refine zv_aload_n G rfl rfl dJ4_getBytes_33 ?_
    refine zv_iload_n G rfl rfl dJ4_getBytes_34 ?_
    refine zv_aload_n G rfl rfl dJ4_getBytes_35 ?_
    have o5 := h.1
    have h := h.2
    refine zc_get (f := 123) (v := ar (fR u1 123 x0)) G o5 rfl q540 (Or.inl rfl) (cV_R rfl) dJ4_getBytes_36 ?_
    have o6 := h.1
    have h := h.2
    refine zc_alen G o6 dJ4_getBytes_39 ?_
    exact h.elim
  · have h := h.1 c3
    refine zv_aload_n G rfl rfl dJ4_getBytes_8 ?_
    have o9 := h.1
    have h := h.2
    refine zc_get (f := 123) (v := ar (fR u1 123 x0)) G o9 rfl q540 (Or.inl rfl) (cV_R rfl) dJ4_getBytes_9 ?_
    refine zv_iconst (a := 0) G (by decide) dJ4_getBytes_12 ?_
    refine zv_aload_n G rfl rfl dJ4_getBytes_13 ?_
    refine zv_iload_n G rfl rfl dJ4_getBytes_14 ?_
    refine zv_iload_n G rfl rfl dJ4_getBytes_15 ?_
    refine zv_ishl G dJ4_getBytes_16 ?_
    refine zv_aload_n G rfl rfl dJ4_getBytes_17 ?_
    have o10 := h.1
    have h := h.2
    refine zc_get (f := 123) (v := ar (fR u1 123 x0)) G o10 rfl q540 (Or.inl rfl) (cV_R rfl) dJ4_getBytes_18 ?_
    have o11 := h.1
    have h := h.2
    refine zc_alen G o11 dJ4_getBytes_21 ?_
    have o13 := h.1
    have h := h.2
    refine zc_copy G M q453 q389 q388 q155 o13.1 o13.2 (Nat.le_of_ble_eq_true rfl) dJ4_getBytes_22 (fun u12 eu12 => ?_)
    have h := h u12 eu12
    refine zc_wk G hp (fun hu12 tu12 => ?_)
    refine zv_goto (tgt := 43) G (by decide) dJ4_getBytes_25 ?_
    exact zv_pick [] rfl (cpC_J4_getBytes_43 hp G M S hl hk h)
set_option maxHeartbeats 4000000 in
set_option maxRecDepth 100000 in
theorem cpC_J4_checkIndex_0 {Γ : ZG CW} {D : CD} {d p : Nat} (hp : D.K.1 = p) (G : ZOk Γ cJ4_checkIndex RJ4 2 (KnC D) (ZC D)) (M : ZRm Γ (d + 1) D.lim (Option.none : Option Jvm.ClassFile.FieldType) "checkIndex" []) (S : SdC d D p Γ.l) (hl : Γ.l.stackTraces = false) (hk : 0 ≤ d) {x0 : Int} {x1 : Int} {w : CW} (rx0 : zr x0) (rx1 : zr x1) (h : pC_J4_checkIndex_0 p (wpC p d) (fun w => Γ.Q (.inl none) w) x0 x1 w) : ZV Γ w 0 [(0, ai x0), (1, ai x1)] [] := by
  refine zc_wk G hp (fun hw tw => ?_)
  refine zv_iload_n G rfl rfl dJ4_checkIndex_0 ?_
  refine zv_iload_n G rfl rfl dJ4_checkIndex_1 ?_
  refine zc_getsR (j := 3) G rfl q408 dJ4_checkIndex_2 (fun v2 => ?_)
  have h := h v2
  refine zv_callI (as := [ai x0, ai x1, ar v2]) (st := []) G M (zc_eS G q487 q488 q156 q489 md_J9_checkIndex rfl dJ4_checkIndex_5) (S 238 _ rfl _ _ _ h (zoks_cons rx0 (zoks_cons rx1 (zoks_cons trivial zoks_nil)))) (Or.inl ⟨rfl, rfl⟩) (zc_hk q489 q156) (by decide) (Nat.le_of_ble_eq_true rfl) (fun v4 u3 rv4 h => ?_) (fun _ _ h => h.elim)
  refine zc_wk G hp (fun hu3 tu3 => ?_)
  refine zv_pop G rfl dJ4_checkIndex_8 ?_
  exact zv_vret G M dJ4_checkIndex_9 h
set_option maxHeartbeats 4000000 in
set_option maxRecDepth 100000 in
theorem cpC_J4_init_0 {Γ : ZG CW} {D : CD} {d p : Nat} (hp : D.K.1 = p) (G : ZOk Γ cJ4_init RJ4 2 (KnC D) (ZC D)) (M : ZRm Γ (d + 1) D.lim (Option.none : Option Jvm.ClassFile.FieldType) "<init>" []) (S : SdC d D p Γ.l) (hl : Γ.l.stackTraces = false) (hk : 0 ≤ d) {x0 : Nat} {x1 : Nat} {w : CW} (h : pC_J4_init_0 p (wpC p d) (fun w => Γ.Q (.inl none) w) x0 x1 w) : ZV Γ w 0 [(0, ar x0), (1, ar x1)] [] := by
  refine zc_wk G hp (fun hw tw => ?_)
  refine zv_aload_n G rfl rfl dJ4_init_0 ?_
  refine zv_aload_n G rfl rfl dJ4_init_1 ?_
  refine zv_null G dJ4_init_2 ?_
  have o3 := h.1
  have h := h.2
  refine zv_callV (as := [ar x0, ar x1, ar 0]) (st := []) G M (zc_eI G rfl q500 q501 q502 md_J4_init_2 o3 rfl dJ4_init_3) (S 226 _ rfl _ _ _ h (zoks_cons trivial (zoks_cons trivial (zoks_cons trivial zoks_nil)))) (Or.inl ⟨rfl, rfl⟩) (zc_hk q502 q150) (by decide) (Nat.le_of_ble_eq_true rfl) (fun u1 h => ?_) (fun _ _ h => h.elim)
  refine zc_wk G hp (fun hu1 tu1 => ?_)
  exact zv_vret G M dJ4_init_6 h
set_option maxHeartbeats 4000000 in
set_option maxRecDepth 100000 in
theorem cpC_J4_init_2_97 {Γ : ZG CW} {D : CD} {d p : Nat} (hp : D.K.1 = p) (G : ZOk Γ cJ4_init_2 RJ4 5 (KnC D) (ZC D)) (M : ZRm Γ (d + 1) D.lim (Option.none : Option Jvm.ClassFile.FieldType) "<init>" []) (S : SdC d D p Γ.l) (hl : Γ.l.stackTraces = false) (hk : 0 ≤ d) {w : CW} (h : pC_J4_init_2_97 p (wpC p d) (fun w => Γ.Q (.inl none) w) w) : ZV Γ w 97 [] [] := by
  refine zc_wk G hp (fun hw tw => ?_)
  exact zv_vret G M dJ4_init_2_97 h
set_option maxHeartbeats 4000000 in
set_option maxRecDepth 100000 in
theorem cpC_J4_init_2_79 {Γ : ZG CW} {D : CD} {d p : Nat} (hp : D.K.1 = p) (G : ZOk Γ cJ4_init_2 RJ4 5 (KnC D) (ZC D)) (M : ZRm Γ (d + 1) D.lim (Option.none : Option Jvm.ClassFile.FieldType) "<init>" []) (S : SdC d D p Γ.l) (hl : Γ.l.stackTraces = false) (hk : 0 ≤ d) {x0 : Nat} {x3 : Nat} {x4 : Int} {w : CW} (rx4 : zr x4) (h : pC_J4_init_2_79 p (wpC p d) (fun w => Γ.Q (.inl none) w) x0 x3 x4 w) : ZV Γ w 79 [(0, ar x0), (3, ar x3), (4, ai x4)] [] := by
  refine zc_wk G hp (fun hw tw => ?_)
  refine zv_aload_n G rfl rfl dJ4_init_2_79 ?_
  refine zv_iconst (a := 1) G (by decide) dJ4_init_2_80 ?_
  have o14 := h.1
  have h := h.2
  refine zc_putI (f := 124) G M o14 rfl q541 (Or.inl rfl) (Or.inr ⟨rfl, rfl, rfl⟩) (zfty_124) (zn_B (by decide)) (zf_B (by decide)) (by decide) (by decide) (zr_k 1 (by decide) (by decide)) dJ4_init_2_81 (fun u13 eu13 => ?_)
  have h := h u13 eu13
  refine zc_wk G hp (fun hu13 tu13 => ?_)
  refine zv_aload_n G rfl rfl dJ4_init_2_84 ?_
  refine zv_aload_n G rfl rfl dJ4_init_2_85 ?_
  refine zv_iconst (a := 0) G (by decide) dJ4_init_2_86 ?_
  refine zv_iload G rfl dJ4_init_2_87 ?_
  refine zv_iconst (a := 1) G (by decide) dJ4_init_2_89 ?_
  refine zv_ishl G dJ4_init_2_90 ?_
  refine zv_callR (as := [ar x3, ai 0, ai (i_shl x4 1)]) (st := [ar x0]) G M (zc_eS G q518 q519 q154 q520 md_J8_copyOfRange rfl dJ4_init_2_91) (S 234 _ rfl _ _ _ h (zoks_cons trivial (zoks_cons (zr_k 0 (by decide) (by decide)) (zoks_cons (show zr _ from by first | with_reducible exact i_and_r _ _ | with_reducible exact i_or_r _ _ | with_reducible exact i_shl_r _ _ | with_reducible exact i_shr_r _ _ | with_reducible exact i_ushr_r _ _ | with_reducible exact i_b_r _ | with_reducible exact i_c_r _ | with_reducible exact i_xor_r _ _ | with_reducible exact i_div_r _ _ | with_reducible exact i_rem_r _ _ | exact zr_of _) zoks_nil)))) (Or.inl ⟨rfl, rfl⟩) (zc_hk q520 q154) (by decide) (Nat.le_of_ble_eq_true rfl) (fun v16 u15 h => ?_) (fun _ _ h => h.elim)
  refine zc_wk G hp (fun hu15 tu15 => ?_)
  have o18 := h.1
  have h := h.2
  refine zc_putR (f := 123) G M o18 rfl q540 (Or.inl rfl) (Or.inr ⟨rfl, rfl, rfl⟩) (zfty_123) (Or.inr ⟨_, rfl⟩) rfl dJ4_init_2_94 (fun u17 eu17 => ?_)
  have h := h u17 eu17
  refine zc_wk G hp (fun hu17 tu17 => ?_)
  exact zv_pick [] rfl (cpC_J4_init_2_97 hp G M S hl hk h)
set_option maxHeartbeats 4000000 in
set_option maxRecDepth 100000 in
theorem cpC_J4_init_2_0 {Γ : ZG CW} {D : CD} {d p : Nat} (hp : D.K.1 = p) (G : ZOk Γ cJ4_init_2 RJ4 5 (KnC D) (ZC D)) (M : ZRm Γ (d + 1) D.lim (Option.none : Option Jvm.ClassFile.FieldType) "<init>" []) (S : SdC d D p Γ.l) (hl : Γ.l.stackTraces = false) (hk : 0 ≤ d) {x0 : Nat} {x1 : Nat} {w : CW} (h : pC_J4_init_2_0 p (wpC p d) (fun w => Γ.Q (.inl none) w) x0 x1 w) : ZV Γ w 0 [(0, ar x0), (1, ar x1)] [] := by
  refine zc_wk G hp (fun hw tw => ?_)
  refine zv_aload_n G rfl rfl dJ4_init_2_0 ?_
  have o2 := h.1
  have h := h.2
  refine zc_oinit G M q503 q262 q263 o2 (Nat.le_of_ble_eq_true rfl) dJ4_init_2_1 ?_
  refine zv_aload_n G rfl rfl dJ4_init_2_4 ?_
  have o32 := h.1
  have h := h.2
  refine zv_callR (as := [ar x1]) (st := []) G M (zc_eV (C := zcn 31) G q504 q505 q507 (Or.inl ⟨rfl, rfl⟩) q508 md_J2_getValue (zc_rc G (zne tw o32 (by decide)) o32 (by decide) (by decide) rfl) rfl dJ4_init_2_5) (S 213 _ rfl _ _ _ h (zoks_cons trivial zoks_nil)) (Or.inl ⟨rfl, rfl⟩) (zc_hk q508 q148) (by decide) (Nat.le_of_ble_eq_true rfl) (fun v4 u3 h => ?_) (fun _ _ h => h.elim)
  refine zc_wk G hp (fun hu3 tu3 => ?_)
  refine zv_astore_n G rfl (by decide) rfl dJ4_init_2_8 ?_
  refine zv_aload_n G rfl rfl dJ4_init_2_9 ?_
  have o31 := h.1
  have h := h.2
  refine zv_callI (as := [ar x1]) (st := []) G M (zc_eU (C := zcn 31) G q509 q511 (zc_declC G q510 q516) ⟨by decide, by decide⟩ q512 q513 md_J2_length (zc_rc G (zne tu3 o31 (by decide)) o31 (by decide) (by decide) rfl) rfl dJ4_init_2_10) (S 220 _ rfl _ _ _ h (zoks_cons trivial zoks_nil)) (Or.inl ⟨rfl, rfl⟩) (zc_hk q514 q149) (by decide) (Nat.le_of_ble_eq_true rfl) (fun v6 u5 rv6 h => ?_) (fun _ _ h => h.elim)
  refine zc_wk G hp (fun hu5 tu5 => ?_)
  refine zv_istore G (by decide) rfl dJ4_init_2_13 ?_
  refine zv_aload_n G rfl rfl dJ4_init_2_15 ?_
  have o30 := h.1
  have h := h.2
  refine zv_callI (as := [ar x1]) (st := []) G M (zc_eV (C := zcn 31) G q517 q391 q393 (Or.inl ⟨rfl, rfl⟩) q394 md_J2_isLatin1 (zc_rc G (zne tu5 o30 (by decide)) o30 (by decide) (by decide) rfl) rfl dJ4_init_2_16) (S 209 _ rfl _ _ _ h (zoks_cons trivial zoks_nil)) (Or.inl ⟨rfl, rfl⟩) (zc_hk q394 q148) (by decide) (Nat.le_of_ble_eq_true rfl) (fun v8 u7 rv8 h => ?_) (fun _ _ h => h.elim)
  refine zc_wk G hp (fun hu7 tu7 => ?_)
  refine zv_if_eq (tgt := 41) G rv8 (by decide) dJ4_init_2_19 (fun c9 => ?_) (fun c9 => ?_)
  · have h := h.1 c9
    refine zc_getsI (j := 2) G rfl q327 dJ4_init_2_41 ?_
    have o10 := h.1
    have h := h.2
    have kt19 : ¬ ((1 : Int) = 0) ∧ (¬ ((fI u7 121 x1) = 0)) → ZV Γ u7 54 [(4, ai v6), (3, ar v4), (0, ar x0), (1, ar x1)] [] := by
      intro c21
      have h := h.1 c21
      refine zv_aload_n G rfl rfl dJ4_init_2_54 ?_
      refine zv_aload_n G rfl rfl dJ4_init_2_55 ?_
      refine zv_iconst (a := 0) G (by decide) dJ4_init_2_56 ?_
      refine zv_iload G rfl dJ4_init_2_57 ?_
      exact h.elim
    have kf20 : ¬ (¬ ((1 : Int) = 0) ∧ (¬ ((fI u7 121 x1) = 0))) → ZV Γ u7 79 [(4, ai v6), (3, ar v4), (0, ar x0), (1, ar x1)] [] := by
      intro c21
      have h := h.2 c21
      exact zv_pick [0, 3, 4] rfl (cpC_J4_init_2_79 hp G M S hl hk rv6 h)
    refine zv_if_eq (tgt := 79) G (zr_k 1 (by decide) (by decide)) (by decide) dJ4_init_2_44 (fun c22 => ?_) (fun c22 => ?_)
    · exact kf20 (fun q => q.1 c22)
    · refine zv_aload_n G rfl rfl dJ4_init_2_47 ?_
      refine zc_get (f := 121) (v := ai (fI u7 121 x1)) G (o10 c22) rfl q457 (Or.inl rfl) (cV_I (by decide) (by decide)) dJ4_init_2_48 ?_
      refine zv_if_eq (tgt := 79) G (hu7.i 121 _ (by decide)) (by decide) dJ4_init_2_51 (fun c23 => ?_) (fun c23 => ?_)
      · exact kf20 (fun q => (fun q => q c23) q.2)
      · exact kt19 ⟨c22, c23⟩
  · have h := h.2 c9
    refine zv_aload_n G rfl rfl dJ4_init_2_22 ?_
    refine zv_iconst (a := 0) G (by decide) dJ4_init_2_23 ?_
    have o25 := h.1
    have h := h.2
    refine zc_putI (f := 124) G M o25 rfl q541 (Or.inl rfl) (Or.inr ⟨rfl, rfl, rfl⟩) (zfty_124) (zn_B (by decide)) (zf_B (by decide)) (by decide) (by decide) (zr_k 0 (by decide) (by decide)) dJ4_init_2_24 (fun u24 eu24 => ?_)
    have h := h u24 eu24
    refine zc_wk G hp (fun hu24 tu24 => ?_)
    refine zv_aload_n G rfl rfl dJ4_init_2_27 ?_
    refine zv_aload_n G rfl rfl dJ4_init_2_28 ?_
    refine zv_iconst (a := 0) G (by decide) dJ4_init_2_29 ?_
    refine zv_iload G rfl dJ4_init_2_30 ?_
    refine zv_callR (as := [ar v4, ai 0, ai v6]) (st := [ar x0]) G M (zc_eS G q518 q519 q154 q520 md_J8_copyOfRange rfl dJ4_init_2_32) (S 234 _ rfl _ _ _ h (zoks_cons trivial (zoks_cons (zr_k 0 (by decide) (by decide)) (zoks_cons rv6 zoks_nil)))) (Or.inl ⟨rfl, rfl⟩) (zc_hk q520 q154) (by decide) (Nat.le_of_ble_eq_true rfl) (fun v27 u26 h => ?_) (fun _ _ h => h.elim)
    refine zc_wk G hp (fun hu26 tu26 => ?_)
    have o29 := h.1
    have h := h.2
    refine zc_putR (f := 123) G M o29 rfl q540 (Or.inl rfl) (Or.inr ⟨rfl, rfl, rfl⟩) (zfty_123) (Or.inr ⟨_, rfl⟩) rfl dJ4_init_2_35 (fun u28 eu28 => ?_)
    have h := h u28 eu28
    refine zc_wk G hp (fun hu28 tu28 => ?_)
    refine zv_goto (tgt := 97) G (by decide) dJ4_init_2_38 ?_
    exact zv_pick [] rfl (cpC_J4_init_2_97 hp G M S hl hk h)
set_option maxHeartbeats 4000000 in
set_option maxRecDepth 100000 in
theorem cpC_J4_contains_0 {Γ : ZG CW} {D : CD} {d p : Nat} (hp : D.K.1 = p) (G : ZOk Γ cJ4_contains RJ4 2 (KnC D) (ZC D)) (M : ZRm Γ (d + 1) D.lim (Option.some Jvm.ClassFile.FieldType.boolean) "contains" []) (S : SdC d D p Γ.l) (hl : Γ.l.stackTraces = false) (hk : 0 ≤ d) {x0 : Nat} {x1 : Nat} {w : CW} (h : pC_J4_contains_0 p (wpC p d) (fun v w => Γ.Q (.inl (some (ai v))) w) x0 x1 w) : ZV Γ w 0 [(0, ar x0), (1, ar x1)] [] := by
  refine zc_wk G hp (fun hw tw => ?_)
  refine zv_aload_n G rfl rfl dJ4_contains_0 ?_
  refine zv_aload_n G rfl rfl dJ4_contains_1 ?_
  have kj10 : ∀ (v2 : Nat) (u1 : CW), (
      (tg u1 x0 = 32 ∨ tg u1 x0 = 34) ∧
      (wpC p d) 229 [ar x0, ar v2] u1 (zqI (fun v4 u3 =>
        ∀ v5 : Int, v5 = (if ¬ (v4 < 0) then 1 else 0) →
        (fun v w => Γ.Q (.inl (some (ai v))) w) v5 u3) zno)) → ZV Γ u1 7 [(0, ar x0), (1, ar x1)] [ar v2, ar x0] := by
    intro v2 u1 h
    refine zc_wk G hp (fun hu1 tu1 => ?_)
    have o8 := h.1
    have h := h.2
    have en9 : ZEn Γ u1 7 [(0, ar x0), (1, ar x1)] yJ4_indexOf 3 [ar x0, ar v2] [] := by
      rcases o8 with z | z
      · exact (zc_eV (C := zcn 32) G q569 q570 q571 (Or.inl ⟨rfl, rfl⟩) q572 md_J4_indexOf (zc_rc G (zne tu1 z (by decide)) z (by decide) (by decide) rfl) rfl dJ4_contains_7)
      · exact (zc_eV (C := zcn 34) G q569 q570 q571 (Or.inl ⟨rfl, rfl⟩) q572 md_J4_indexOf (zc_rc G (zne tu1 z (by decide)) z (by decide) (by decide) rfl) rfl dJ4_contains_7)
    refine zv_callI (as := [ar x0, ar v2]) (st := []) G M en9 (S 229 _ rfl _ _ _ h (zoks_cons trivial (zoks_cons trivial zoks_nil))) (Or.inl ⟨rfl, rfl⟩) (zc_hk q572 q150) (by decide) (Nat.le_of_ble_eq_true rfl) (fun v4 u3 rv4 h => ?_) (fun _ _ h => h.elim)
    refine zc_wk G hp (fun hu3 tu3 => ?_)
    have kj6 : ∀ v5 : Int, v5 = (if ¬ (v4 < 0) then 1 else 0) → ZV Γ u3 18 [(0, ar x0), (1, ar x1)] (ai v5 :: []) := by
      intro v5 ev5
      have h := h v5 ev5
      have rv5 : zr v5 := by rw [ev5]; exact (zr_ite (zr_k 1 (by decide) (by decide)) (zr_k 0 (by decide) (by decide)))
      have bv5 : v5 = 0 ∨ v5 = 1 := by rw [ev5]; exact (zb_ite (Or.inr rfl) (Or.inl rfl))
      exact zv_iret (ty := .boolean) rv5 G M (zn_Z bv5) dJ4_contains_18 h
    refine zv_if_lt (tgt := 17) G rv4 (by decide) dJ4_contains_10 (fun c7 => ?_) (fun c7 => ?_)
    · refine zv_iconst (a := 0) G (by decide) dJ4_contains_17 ?_
      exact kj6 _ (if_neg (fun q => q c7)).symm
    · refine zv_iconst (a := 1) G (by decide) dJ4_contains_13 ?_
      refine zv_goto (tgt := 18) G (by decide) dJ4_contains_14 ?_
      exact kj6 _ (if_pos c7).symm
  have h : wpC p d (vm15 (tg w x1)) [ar x1] w _ := h
  by_cases c11 : tg w x1 = 31
  · have e : vm15 (tg w x1) = 219 := by rw [c11]; rfl
    rw [e] at h
    exact zv_callR (as := [ar x1]) (st := [ar x0]) G M (zen_F (C := zcn 31) G q556 q558 q557 q566 q492 q568 q567 q565 ⟨by decide, by decide⟩ rfl (Or.inl ⟨rfl, rfl⟩) (G.kn.2.1 _ q494 _) md_J3_toString (zc_rc G (zne tw c11 (by decide)) c11 (by decide) (by decide) rfl) rfl dJ4_contains_2) (S 219 _ rfl _ _ _ h (zoks_cons trivial zoks_nil)) (Or.inl ⟨rfl, rfl⟩) (zc_hk q494 q149) (by decide) (Nat.le_of_ble_eq_true rfl) kj10 (fun _ _ h => h.elim)
  by_cases c12 : tg w x1 = 32
  · have e : vm15 (tg w x1) = 228 := by rw [c12]; rfl
    rw [e] at h
    exact zv_callR (as := [ar x1]) (st := [ar x0]) G M (zen_F (C := zcn 32) G q556 q558 q557 q560 q562 q563 q561 q559 ⟨by decide, by decide⟩ rfl (Or.inl ⟨rfl, rfl⟩) (G.kn.2.1 _ q564 _) md_J4_toString (zc_rc G (zne tw c12 (by decide)) c12 (by decide) (by decide) rfl) rfl dJ4_contains_2) (S 228 _ rfl _ _ _ h (zoks_cons trivial zoks_nil)) (Or.inl ⟨rfl, rfl⟩) (zc_hk q564 q150) (by decide) (Nat.le_of_ble_eq_true rfl) kj10 (fun _ _ h => h.elim)
  by_cases c13 : tg w x1 = 34
  · have e : vm15 (tg w x1) = 228 := by rw [c13]; rfl
    rw [e] at h
    exact zv_callR (as := [ar x1]) (st := [ar x0]) G M (zen_F (C := zcn 34) G q556 q558 q557 q560 q562 q563 q561 q559 ⟨by decide, by decide⟩ rfl (Or.inl ⟨rfl, rfl⟩) (G.kn.2.1 _ q564 _) md_J4_toString (zc_rc G (zne tw c13 (by decide)) c13 (by decide) (by decide) rfl) rfl dJ4_contains_2) (S 228 _ rfl _ _ _ h (zoks_cons trivial zoks_nil)) (Or.inl ⟨rfl, rfl⟩) (zc_hk q564 q150) (by decide) (Nat.le_of_ble_eq_true rfl) kj10 (fun _ _ h => h.elim)
  have e : vm15 (tg w x1) = 9999 := by unfold vm15; rw [if_neg c11, if_neg c12, if_neg c13]
  rw [e] at h
  exact (wpC_none h).elim
set_option maxHeartbeats 4000000 in
set_option maxRecDepth 100000 in
theorem cpC_J4_toString_0 {Γ : ZG CW} {D : CD} {d p : Nat} (hp : D.K.1 = p) (G : ZOk Γ cJ4_toString RJ4 1 (KnC D) (ZC D)) (M : ZRm Γ (d + 1) D.lim (Option.some (Jvm.ClassFile.FieldType.object "java/lang/String")) "toString" []) (S : SdC d D p Γ.l) (hl : Γ.l.stackTraces = false) (hk : 0 ≤ d) {x0 : Nat} {w : CW} (h : pC_J4_toString_0 p (wpC p d) (fun v w => Γ.Q (.inl (some (ar v))) w) x0 w) : ZV Γ w 0 [(0, ar x0)] [] := by
  refine zc_wk G hp (fun hw tw => ?_)
  refine zv_aload_n G rfl rfl dJ4_toString_0 ?_
  exact zv_aret G M (Or.inl ⟨_, rfl⟩) dJ4_toString_1 h
set_option maxHeartbeats 4000000 in
set_option maxRecDepth 100000 in
theorem cpC_J4_indexOf_45 {Γ : ZG CW} {D : CD} {d p : Nat} (hp : D.K.1 = p) (G : ZOk Γ cJ4_indexOf RJ4 3 (KnC D) (ZC D)) (M : ZRm Γ (d + 1) D.lim (Option.some Jvm.ClassFile.FieldType.int) "indexOf" []) (S : SdC d D p Γ.l) (hl : Γ.l.stackTraces = false) (hk : 0 ≤ d) {s0 : Int} {w : CW} (rs0 : zr s0) (h : pC_J4_indexOf_45 p (wpC p d) (fun v w => Γ.Q (.inl (some (ai v))) w) s0 w) : ZV Γ w 45 [] [ai s0] := by
  refine zc_wk G hp (fun hw tw => ?_)
  exact zv_iret (ty := .int) rs0 G M rfl dJ4_indexOf_45 h
set_option maxHeartbeats 4000000 in
set_option maxRecDepth 100000 in
theorem cpC_J4_indexOf_0 {Γ : ZG CW} {D : CD} {d p : Nat} (hp : D.K.1 = p) (G : ZOk Γ cJ4_indexOf RJ4 3 (KnC D) (ZC D)) (M : ZRm Γ (d + 1) D.lim (Option.some Jvm.ClassFile.FieldType.int) "indexOf" []) (S : SdC d D p Γ.l) (hl : Γ.l.stackTraces = false) (hk : 0 ≤ d) {x0 : Nat} {x1 : Nat} {w : CW} (h : pC_J4_indexOf_0 p (wpC p d) (fun v w => Γ.Q (.inl (some (ai v))) w) x0 x1 w) : ZV Γ w 0 [(0, ar x0), (1, ar x1)] [] := by
  refine zc_wk G hp (fun hw tw => ?_)
  refine zv_aload_n G rfl rfl dJ4_indexOf_0 ?_
  have o26 := h.1
  have h := h.2
  have en27 : ZEn Γ w 1 [(0, ar x0), (1, ar x1)] yJ4_coder 3 [ar x0] [] := by
    rcases o26 with z | z
    · exact (zc_eV (C := zcn 32) G q323 q324 q325 (Or.inl ⟨rfl, rfl⟩) q326 md_J4_coder (zc_rc G (zne tw z (by decide)) z (by decide) (by decide) rfl) rfl dJ4_indexOf_1)
    · exact (zc_eV (C := zcn 34) G q323 q324 q325 (Or.inl ⟨rfl, rfl⟩) q326 md_J4_coder (zc_rc G (zne tw z (by decide)) z (by decide) (by decide) rfl) rfl dJ4_indexOf_1)
  refine zv_callI (as := [ar x0]) (st := []) G M en27 (S 222 _ rfl _ _ _ h (zoks_cons trivial zoks_nil)) (Or.inl ⟨rfl, rfl⟩) (zc_hk q326 q150) (by decide) (Nat.le_of_ble_eq_true rfl) (fun v2 u1 rv2 h => ?_) (fun _ _ h => h.elim)
  refine zc_wk G hp (fun hu1 tu1 => ?_)
  refine zv_istore_n G rfl (by decide) rfl dJ4_indexOf_4 ?_
  refine zv_iload_n G rfl rfl dJ4_indexOf_5 ?_
  refine zv_aload_n G rfl rfl dJ4_indexOf_6 ?_
  have o24 := h.1
  have h := h.2
  have en25 : ZEn Γ u1 7 [(2, ai v2), (0, ar x0), (1, ar x1)] yJ4_coder 3 [ar x1] [ai v2] := by
    rcases o24 with z | z
    · exact (zc_eV (C := zcn 32) G q323 q324 q325 (Or.inl ⟨rfl, rfl⟩) q326 md_J4_coder (zc_rc G (zne tu1 z (by decide)) z (by decide) (by decide) rfl) rfl dJ4_indexOf_7)
    · exact (zc_eV (C := zcn 34) G q323 q324 q325 (Or.inl ⟨rfl, rfl⟩) q326 md_J4_coder (zc_rc G (zne tu1 z (by decide)) z (by decide) (by decide) rfl) rfl dJ4_indexOf_7)
  refine zv_callI (as := [ar x1]) (st := [ai v2]) G M en25 (S 222 _ rfl _ _ _ h (zoks_cons trivial zoks_nil)) (Or.inl ⟨rfl, rfl⟩) (zc_hk q326 q150) (by decide) (Nat.le_of_ble_eq_true rfl) (fun v4 u3 rv4 h => ?_) (fun _ _ h => h.elim)
  refine zc_wk G hp (fun hu3 tu3 => ?_)
  refine zv_icmp_ne (tgt := 46) G rv2 rv4 (by decide) dJ4_indexOf_10 (fun c5 => ?_) (fun c5 => ?_)
  · have h := h.2 c5
    refine zv_iload_n G rfl rfl dJ4_indexOf_46 ?_
    refine zv_if_ne (tgt := 52) G rv2 (by decide) dJ4_indexOf_47 (fun c6 => ?_) (fun c6 => ?_)
    · have h := h.2 c6
      refine zv_aload_n G rfl rfl dJ4_indexOf_52 ?_
      have o7 := h.1
      have h := h.2
      refine zc_get (f := 123) (v := ar (fR u3 123 x0)) G o7 rfl q540 (Or.inl rfl) (cV_R rfl) dJ4_indexOf_53 ?_
      refine zv_aload_n G rfl rfl dJ4_indexOf_56 ?_
      have o8 := h.1
      have h := h.2
      refine zc_get (f := 123) (v := ar (fR u3 123 x1)) G o8 rfl q540 (Or.inl rfl) (cV_R rfl) dJ4_indexOf_57 ?_
      exact h.elim
    · have h := h.1 c6
      refine zv_iconst (a := (-1)) G (by decide) dJ4_indexOf_50 ?_
      exact zv_iret (ty := .int) (zr_k (-1) (by decide) (by decide)) G M rfl dJ4_indexOf_51 h
  · have h := h.1 c5
    refine zv_aload_n G rfl rfl dJ4_indexOf_13 ?_
    have o22 := h.1
    have h := h.2
    have en23 : ZEn Γ u3 14 [(2, ai v2), (0, ar x0), (1, ar x1)] yJ4_isLatin1 3 [ar x0] [] := by
      rcases o22 with z | z
      · exact (zc_eV (C := zcn 32) G q573 q574 q575 (Or.inl ⟨rfl, rfl⟩) q576 md_J4_isLatin1 (zc_rc G (zne tu3 z (by decide)) z (by decide) (by decide) rfl) rfl dJ4_indexOf_14)
      · exact (zc_eV (C := zcn 34) G q573 q574 q575 (Or.inl ⟨rfl, rfl⟩) q576 md_J4_isLatin1 (zc_rc G (zne tu3 z (by decide)) z (by decide) (by decide) rfl) rfl dJ4_indexOf_14)
    refine zv_callI (as := [ar x0]) (st := []) G M en23 (S 230 _ rfl _ _ _ h (zoks_cons trivial zoks_nil)) (Or.inl ⟨rfl, rfl⟩) (zc_hk q576 q150) (by decide) (Nat.le_of_ble_eq_true rfl) (fun v12 u11 rv12 h => ?_) (fun _ _ h => h.elim)
    refine zc_wk G hp (fun hu11 tu11 => ?_)
    refine zv_if_eq (tgt := 34) G rv12 (by decide) dJ4_indexOf_17 (fun c13 => ?_) (fun c13 => ?_)
    · have h := h.1 c13
      refine zv_aload_n G rfl rfl dJ4_indexOf_34 ?_
      have o14 := h.1
      have h := h.2
      refine zc_get (f := 123) (v := ar (fR u11 123 x0)) G o14 rfl q540 (Or.inl rfl) (cV_R rfl) dJ4_indexOf_35 ?_
      refine zv_aload_n G rfl rfl dJ4_indexOf_38 ?_
      have o15 := h.1
      have h := h.2
      refine zc_get (f := 123) (v := ar (fR u11 123 x1)) G o15 rfl q540 (Or.inl rfl) (cV_R rfl) dJ4_indexOf_39 ?_
      exact h.elim
    · have h := h.2 c13
      refine zv_aload_n G rfl rfl dJ4_indexOf_20 ?_
      have o18 := h.1
      have h := h.2
      refine zc_get (f := 123) (v := ar (fR u11 123 x0)) G o18 rfl q540 (Or.inl rfl) (cV_R rfl) dJ4_indexOf_21 ?_
      refine zv_aload_n G rfl rfl dJ4_indexOf_24 ?_
      have o19 := h.1
      have h := h.2
      refine zc_get (f := 123) (v := ar (fR u11 123 x1)) G o19 rfl q540 (Or.inl rfl) (cV_R rfl) dJ4_indexOf_25 ?_
      refine zv_callI (as := [ar (fR u11 123 x0), ar (fR u11 123 x1)]) (st := []) G M (zc_eS G q577 q578 q157 q579 md_J10_indexOf rfl dJ4_indexOf_28) (S 240 _ rfl _ _ _ h (zoks_cons trivial (zoks_cons trivial zoks_nil))) (Or.inl ⟨rfl, rfl⟩) (zc_hk q579 q157) (by decide) (Nat.le_of_ble_eq_true rfl) (fun v21 u20 rv21 h => ?_) (fun _ _ h => h.elim)
      refine zc_wk G hp (fun hu20 tu20 => ?_)
      refine zv_goto (tgt := 45) G (by decide) dJ4_indexOf_31 ?_
      exact zv_pick [] rfl (cpC_J4_indexOf_45 hp G M S hl hk rv21 h)
set_option maxHeartbeats 4000000 in
set_option maxRecDepth 100000 in
theorem cpC_J4_isLatin1_0 {Γ : ZG CW} {D : CD} {d p : Nat} (hp : D.K.1 = p) (G : ZOk Γ cJ4_isLatin1 RJ4 1 (KnC D) (ZC D)) (M : ZRm Γ (d + 1) D.lim (Option.some Jvm.ClassFile.FieldType.boolean) "isLatin1" []) (S : SdC d D p Γ.l) (hl : Γ.l.stackTraces = false) (hk : 0 ≤ d) {x0 : Nat} {w : CW} (h : pC_J4_isLatin1_0 p (wpC p d) (fun v w => Γ.Q (.inl (some (ai v))) w) x0 w) : ZV Γ w 0 [(0, ar x0)] [] := by
  refine zc_wk G hp (fun hw tw => ?_)
  refine zc_getsI (j := 2) G rfl q327 dJ4_isLatin1_0 ?_
  have o2 := h.1
  have h := h.2
  have kj3 : ∀ v1 : Int, v1 = (if ¬ ((1 : Int) = 0) ∧ ((fI w 124 x0) = 0) then 1 else 0) → ZV Γ w 18 [(0, ar x0)] (ai v1 :: []) := by
    intro v1 ev1
    have h := h v1 ev1
    have rv1 : zr v1 := by rw [ev1]; exact (zr_ite (zr_k 1 (by decide) (by decide)) (zr_k 0 (by decide) (by decide)))
    have bv1 : v1 = 0 ∨ v1 = 1 := by rw [ev1]; exact (zb_ite (Or.inr rfl) (Or.inl rfl))
    exact zv_iret (ty := .boolean) rv1 G M (zn_Z bv1) dJ4_isLatin1_18 h
  refine zv_if_eq (tgt := 17) G (zr_k 1 (by decide) (by decide)) (by decide) dJ4_isLatin1_3 (fun c4 => ?_) (fun c4 => ?_)
  · refine zv_iconst (a := 0) G (by decide) dJ4_isLatin1_17 ?_
    exact kj3 _ (if_neg (fun q => q.1 c4)).symm
  · refine zv_aload_n G rfl rfl dJ4_isLatin1_6 ?_
    refine zc_get (f := 124) (v := ai (fI w 124 x0)) G (o2 c4) rfl q541 (Or.inl rfl) (cV_I (by decide) (by decide)) dJ4_isLatin1_7 ?_
    refine zv_if_ne (tgt := 17) G (hw.i 124 _ (by decide)) (by decide) dJ4_isLatin1_10 (fun c5 => ?_) (fun c5 => ?_)
    · refine zv_iconst (a := 0) G (by decide) dJ4_isLatin1_17 ?_
      exact kj3 _ (if_neg (fun q => c5 q.2)).symm
    · refine zv_iconst (a := 1) G (by decide) dJ4_isLatin1_13 ?_
      refine zv_goto (tgt := 18) G (by decide) dJ4_isLatin1_14 ?_
      exact kj3 _ (if_pos ⟨c4, c5⟩).symm
set_option maxHeartbeats 4000000 in
set_option maxRecDepth 100000 in
theorem cpC_J4_indexOf_2_0 {Γ : ZG CW} {D : CD} {d p : Nat} (hp : D.K.1 = p) (G : ZOk Γ cJ4_indexOf_2 RJ4 2 (KnC D) (ZC D)) (M : ZRm Γ (d + 1) D.lim (Option.some Jvm.ClassFile.FieldType.int) "indexOf" []) (S : SdC d D p Γ.l) (hl : Γ.l.stackTraces = false) (hk : 0 ≤ d) {x0 : Nat} {x1 : Int} {w : CW} (rx1 : zr x1) (h : pC_J4_indexOf_2_0 p (wpC p d) (fun v w => Γ.Q (.inl (some (ai v))) w) x0 x1 w) : ZV Γ w 0 [(0, ar x0), (1, ai x1)] [] := by
  refine zc_wk G hp (fun hw tw => ?_)
  refine zv_aload_n G rfl rfl dJ4_indexOf_2_0 ?_
  refine zv_iload_n G rfl rfl dJ4_indexOf_2_1 ?_
  refine zv_iconst (a := 0) G (by decide) dJ4_indexOf_2_2 ?_
  have o3 := h.1
  have h := h.2
  have en4 : ZEn Γ w 3 [(0, ar x0), (1, ai x1)] yJ4_indexOf_3 3 [ar x0, ai x1, ai 0] [] := by
    rcases o3 with z | z
    · exact (zc_eV (C := zcn 32) G q604 q605 q606 (Or.inl ⟨rfl, rfl⟩) q607 md_J4_indexOf_3 (zc_rc G (zne tw z (by decide)) z (by decide) (by decide) rfl) rfl dJ4_indexOf_2_3)
    · exact (zc_eV (C := zcn 34) G q604 q605 q606 (Or.inl ⟨rfl, rfl⟩) q607 md_J4_indexOf_3 (zc_rc G (zne tw z (by decide)) z (by decide) (by decide) rfl) rfl dJ4_indexOf_2_3)
  refine zv_callI (as := [ar x0, ai x1, ai 0]) (st := []) G M en4 (S 232 _ rfl _ _ _ h (zoks_cons trivial (zoks_cons rx1 (zoks_cons (zr_k 0 (by decide) (by decide)) zoks_nil)))) (Or.inl ⟨rfl, rfl⟩) (zc_hk q607 q150) (by decide) (Nat.le_of_ble_eq_true rfl) (fun v2 u1 rv2 h => ?_) (fun _ _ h => h.elim)
  refine zc_wk G hp (fun hu1 tu1 => ?_)
  exact zv_iret (ty := .int) rv2 G M rfl dJ4_indexOf_2_6 h
set_option maxHeartbeats 4000000 in
set_option maxRecDepth 100000 in
theorem cpC_J4_indexOf_3_36 {Γ : ZG CW} {D : CD} {d p : Nat} (hp : D.K.1 = p) (G : ZOk Γ cJ4_indexOf_3 RJ4 3 (KnC D) (ZC D)) (M : ZRm Γ (d + 1) D.lim (Option.some Jvm.ClassFile.FieldType.int) "indexOf" []) (S : SdC d D p Γ.l) (hl : Γ.l.stackTraces = false) (hk : 0 ≤ d) {s0 : Int} {w : CW} (rs0 : zr s0) (h : pC_J4_indexOf_3_36 p (wpC p d) (fun v w => Γ.Q (.inl (some (ai v))) w) s0 w) : ZV Γ w 36 [] [ai s0] := by
  refine zc_wk G hp (fun hw tw => ?_)
  exact zv_iret (ty := .int) rs0 G M rfl dJ4_indexOf_3_36 h
set_option maxHeartbeats 4000000 in
set_option maxRecDepth 100000 in
theorem cpC_J4_indexOf_3_0 {Γ : ZG CW} {D : CD} {d p : Nat} (hp : D.K.1 = p) (G : ZOk Γ cJ4_indexOf_3 RJ4 3 (KnC D) (ZC D)) (M : ZRm Γ (d + 1) D.lim (Option.some Jvm.ClassFile.FieldType.int) "indexOf" []) (S : SdC d D p Γ.l) (hl : Γ.l.stackTraces = false) (hk : 0 ≤ d) {x0 : Nat} {x1 : Int} {x2 : Int} {w : CW} (rx1 : zr x1) (rx2 : zr x2) (h : pC_J4_indexOf_3_0 p (wpC p d) (fun v w => Γ.Q (.inl (some (ai v))) w) x0 x1 x2 w) : ZV Γ w 0 [(0, ar x0), (1, ai x1), (2, ai x2)] [] := by
  refine zc_wk G hp (fun hw tw => ?_)
  refine zv_aload_n G rfl rfl dJ4_indexOf_3_0 ?_
  have o18 := h.1
  have h := h.2
  have en19 : ZEn Γ w 1 [(0, ar x0), (1, ai x1), (2, ai x2)] yJ4_isLatin1 3 [ar x0] [] := by
    rcases o18 with z | z
    · exact (zc_eV (C := zcn 32) G q573 q574 q575 (Or.inl ⟨rfl, rfl⟩) q576 md_J4_isLatin1 (zc_rc G (zne tw z (by decide)) z (by decide) (by decide) rfl) rfl dJ4_indexOf_3_1)
    · exact (zc_eV (C := zcn 34) G q573 q574 q575 (Or.inl ⟨rfl, rfl⟩) q576 md_J4_isLatin1 (zc_rc G (zne tw z (by decide)) z (by decide) (by decide) rfl) rfl dJ4_indexOf_3_1)
  refine zv_callI (as := [ar x0]) (st := []) G M en19 (S 230 _ rfl _ _ _ h (zoks_cons trivial zoks_nil)) (Or.inl ⟨rfl, rfl⟩) (zc_hk q576 q150) (by decide) (Nat.le_of_ble_eq_true rfl) (fun v2 u1 rv2 h => ?_) (fun _ _ h => h.elim)
  refine zc_wk G hp (fun hu1 tu1 => ?_)
  refine zv_if_eq (tgt := 23) G rv2 (by decide) dJ4_indexOf_3_4 (fun c3 => ?_) (fun c3 => ?_)
  · have h := h.1 c3
    refine zv_aload_n G rfl rfl dJ4_indexOf_3_23 ?_
    have o4 := h.1
    have h := h.2
    refine zc_get (f := 123) (v := ar (fR u1 123 x0)) G o4 rfl q540 (Or.inl rfl) (cV_R rfl) dJ4_indexOf_3_24 ?_
    refine zv_iload_n G rfl rfl dJ4_indexOf_3_27 ?_
    refine zv_iload_n G rfl rfl dJ4_indexOf_3_28 ?_
    refine zv_aload_n G rfl rfl dJ4_indexOf_3_29 ?_
    have o9 := h.1
    have h := h.2
    have en10 : ZEn Γ u1 30 [(0, ar x0), (1, ai x1), (2, ai x2)] yJ4_length 3 [ar x0] [ai x2, ai x1, ar (fR u1 123 x0)] := by
      rcases o9 with z | z
      · exact (zc_eV (C := zcn 32) G q608 q320 q321 (Or.inl ⟨rfl, rfl⟩) q322 md_J4_length (zc_rc G (zne tu1 z (by decide)) z (by decide) (by decide) rfl) rfl dJ4_indexOf_3_30)
      · exact (zc_eV (C := zcn 34) G q608 q320 q321 (Or.inl ⟨rfl, rfl⟩) q322 md_J4_length (zc_rc G (zne tu1 z (by decide)) z (by decide) (by decide) rfl) rfl dJ4_indexOf_3_30)
    refine zv_callI (as := [ar x0]) (st := [ai x2, ai x1, ar (fR u1 123 x0)]) G M en10 (S 221 _ rfl _ _ _ h (zoks_cons trivial zoks_nil)) (Or.inl ⟨rfl, rfl⟩) (zc_hk q322 q150) (by decide) (Nat.le_of_ble_eq_true rfl) (fun v6 u5 rv6 h => ?_) (fun _ _ h => h.elim)
    refine zc_wk G hp (fun hu5 tu5 => ?_)
    exact h.elim
  · have h := h.2 c3
    refine zv_aload_n G rfl rfl dJ4_indexOf_3_7 ?_
    have o11 := h.1
    have h := h.2
    refine zc_get (f := 123) (v := ar (fR u1 123 x0)) G o11 rfl q540 (Or.inl rfl) (cV_R rfl) dJ4_indexOf_3_8 ?_
    refine zv_iload_n G rfl rfl dJ4_indexOf_3_11 ?_
    refine zv_iload_n G rfl rfl dJ4_indexOf_3_12 ?_
    refine zv_aload_n G rfl rfl dJ4_indexOf_3_13 ?_
    have o16 := h.1
    have h := h.2
    have en17 : ZEn Γ u1 14 [(0, ar x0), (1, ai x1), (2, ai x2)] yJ4_length 3 [ar x0] [ai x2, ai x1, ar (fR u1 123 x0)] := by
      rcases o16 with z | z
      · exact (zc_eV (C := zcn 32) G q608 q320 q321 (Or.inl ⟨rfl, rfl⟩) q322 md_J4_length (zc_rc G (zne tu1 z (by decide)) z (by decide) (by decide) rfl) rfl dJ4_indexOf_3_14)
      · exact (zc_eV (C := zcn 34) G q608 q320 q321 (Or.inl ⟨rfl, rfl⟩) q322 md_J4_length (zc_rc G (zne tu1 z (by decide)) z (by decide) (by decide) rfl) rfl dJ4_indexOf_3_14)
    refine zv_callI (as := [ar x0]) (st := [ai x2, ai x1, ar (fR u1 123 x0)]) G M en17 (S 221 _ rfl _ _ _ h (zoks_cons trivial zoks_nil)) (Or.inl ⟨rfl, rfl⟩) (zc_hk q322 q150) (by decide) (Nat.le_of_ble_eq_true rfl) (fun v13 u12 rv13 h => ?_) (fun _ _ h => h.elim)
    refine zc_wk G hp (fun hu12 tu12 => ?_)
    refine zv_callI (as := [ar (fR u1 123 x0), ai x1, ai x2, ai v13]) (st := []) G M (zc_eS G q609 q610 q157 q611 md_J10_indexOf_3 rfl dJ4_indexOf_3_17) (S 242 _ rfl _ _ _ h (zoks_cons trivial (zoks_cons rx1 (zoks_cons rx2 (zoks_cons rv13 zoks_nil))))) (Or.inl ⟨rfl, rfl⟩) (zc_hk q611 q157) (by decide) (Nat.le_of_ble_eq_true rfl) (fun v15 u14 rv15 h => ?_) (fun _ _ h => h.elim)
    refine zc_wk G hp (fun hu14 tu14 => ?_)
    refine zv_goto (tgt := 36) G (by decide) dJ4_indexOf_3_20 ?_
    exact zv_pick [] rfl (cpC_J4_indexOf_3_36 hp G M S hl hk rv15 h)
set_option maxHeartbeats 4000000 in
set_option maxRecDepth 100000 in
theorem cpC_J4_charAt_0 {Γ : ZG CW} {D : CD} {d p : Nat} (hp : D.K.1 = p) (G : ZOk Γ cJ4_charAt RJ4 2 (KnC D) (ZC D)) (M : ZRm Γ (d + 1) D.lim (Option.some Jvm.ClassFile.FieldType.char) "charAt" []) (S : SdC d D p Γ.l) (hl : Γ.l.stackTraces = false) (hk : 0 ≤ d) {x0 : Nat} {x1 : Int} {w : CW} (rx1 : zr x1) (h : pC_J4_charAt_0 p (wpC p d) (fun v w => Γ.Q (.inl (some (ai v))) w) x0 x1 w) : ZV Γ w 0 [(0, ar x0), (1, ai x1)] [] := by
  refine zc_wk G hp (fun hw tw => ?_)
  refine zv_aload_n G rfl rfl dJ4_charAt_0 ?_
  have o10 := h.1
  have h := h.2
  have en11 : ZEn Γ w 1 [(0, ar x0), (1, ai x1)] yJ4_isLatin1 3 [ar x0] [] := by
    rcases o10 with z | z
    · exact (zc_eV (C := zcn 32) G q573 q574 q575 (Or.inl ⟨rfl, rfl⟩) q576 md_J4_isLatin1 (zc_rc G (zne tw z (by decide)) z (by decide) (by decide) rfl) rfl dJ4_charAt_1)
    · exact (zc_eV (C := zcn 34) G q573 q574 q575 (Or.inl ⟨rfl, rfl⟩) q576 md_J4_isLatin1 (zc_rc G (zne tw z (by decide)) z (by decide) (by decide) rfl) rfl dJ4_charAt_1)
  refine zv_callI (as := [ar x0]) (st := []) G M en11 (S 230 _ rfl _ _ _ h (zoks_cons trivial zoks_nil)) (Or.inl ⟨rfl, rfl⟩) (zc_hk q576 q150) (by decide) (Nat.le_of_ble_eq_true rfl) (fun v2 u1 rv2 h => ?_) (fun _ _ h => h.elim)
  refine zc_wk G hp (fun hu1 tu1 => ?_)
  refine zv_if_eq (tgt := 16) G rv2 (by decide) dJ4_charAt_4 (fun c3 => ?_) (fun c3 => ?_)
  · have h := h.1 c3
    refine zv_aload_n G rfl rfl dJ4_charAt_16 ?_
    have o4 := h.1
    have h := h.2
    refine zc_get (f := 123) (v := ar (fR u1 123 x0)) G o4 rfl q540 (Or.inl rfl) (cV_R rfl) dJ4_charAt_17 ?_
    refine zv_iload_n G rfl rfl dJ4_charAt_20 ?_
    exact h.elim
  · have h := h.2 c3
    refine zv_aload_n G rfl rfl dJ4_charAt_7 ?_
    have o7 := h.1
    have h := h.2
    refine zc_get (f := 123) (v := ar (fR u1 123 x0)) G o7 rfl q540 (Or.inl rfl) (cV_R rfl) dJ4_charAt_8 ?_
    refine zv_iload_n G rfl rfl dJ4_charAt_11 ?_
    refine zv_callI (as := [ar (fR u1 123 x0), ai x1]) (st := []) G M (zc_eS G q656 q657 q157 q658 md_J10_charAt rfl dJ4_charAt_12) (S 245 _ rfl _ _ _ h (zoks_cons trivial (zoks_cons rx1 zoks_nil))) (Or.inl ⟨rfl, rfl⟩) (zc_hk q658 q157) (by decide) (Nat.le_of_ble_eq_true rfl) (fun v9 u8 rv9 h => ?_) (fun _ _ h => h.elim)
    refine zc_wk G hp (fun hu8 tu8 => ?_)
    exact zv_iret (ty := .char) rv9 G M (zn_C h.1) dJ4_charAt_15 h.2
set_option maxHeartbeats 4000000 in
set_option maxRecDepth 100000 in
theorem cpC_J8_copyOfRange_10 {Γ : ZG CW} {D : CD} {d p : Nat} (hp : D.K.1 = p) (G : ZOk Γ cJ8_copyOfRange RJ8 3 (KnC D) (ZC D)) (M : ZRm Γ (d + 1) D.lim (Option.some (Jvm.ClassFile.FieldType.array Jvm.ClassFile.FieldType.byte)) "copyOfRange" []) (S : SdC d D p Γ.l) (hl : Γ.l.stackTraces = false) (hk : 0 ≤ d) {x0 : Nat} {x1 : Int} {x2 : Int} {w : CW} (rx1 : zr x1) (rx2 : zr x2) (h : pC_J8_copyOfRange_10 p (wpC p d) (fun v w => Γ.Q (.inl (some (ar v))) w) x0 x1 x2 w) : ZV Γ w 10 [(0, ar x0), (1, ai x1), (2, ai x2)] [] := by
  refine zc_wk G hp (fun hw tw => ?_)
  refine zv_aload_n G rfl rfl dJ8_copyOfRange_10 ?_
  refine zv_iload_n G rfl rfl dJ8_copyOfRange_11 ?_
  refine zv_iload_n G rfl rfl dJ8_copyOfRange_12 ?_
  refine zv_callR (as := [ar x0, ai x1, ai x2]) (st := []) G M (zc_eS G q521 q522 q154 q523 md_J8_copyOfRangeByte rfl dJ8_copyOfRange_13) (S 235 _ rfl _ _ _ h (zoks_cons trivial (zoks_cons rx1 (zoks_cons rx2 zoks_nil)))) (Or.inl ⟨rfl, rfl⟩) (zc_hk q523 q154) (by decide) (Nat.le_of_ble_eq_true rfl) (fun v3 u2 h => ?_) (fun _ _ h => h.elim)
  refine zc_wk G hp (fun hu2 tu2 => ?_)
  exact zv_aret G M (Or.inr ⟨_, rfl⟩) dJ8_copyOfRange_16 h
set_option maxHeartbeats 4000000 in
set_option maxRecDepth 100000 in
theorem cpC_J8_copyOfRange_0 {Γ : ZG CW} {D : CD} {d p : Nat} (hp : D.K.1 = p) (G : ZOk Γ cJ8_copyOfRange RJ8 3 (KnC D) (ZC D)) (M : ZRm Γ (d + 1) D.lim (Option.some (Jvm.ClassFile.FieldType.array Jvm.ClassFile.FieldType.byte)) "copyOfRange" []) (S : SdC d D p Γ.l) (hl : Γ.l.stackTraces = false) (hk : 0 ≤ d) {x0 : Nat} {x1 : Int} {x2 : Int} {w : CW} (rx1 : zr x1) (rx2 : zr x2) (h : pC_J8_copyOfRange_0 p (wpC p d) (fun v w => Γ.Q (.inl (some (ar v))) w) x0 x1 x2 w) : ZV Γ w 0 [(0, ar x0), (1, ai x1), (2, ai x2)] [] := by
  refine zc_wk G hp (fun hw tw => ?_)
  refine zv_iload_n G rfl rfl dJ8_copyOfRange_0 ?_
  have o1 := h.1
  have h := h.2
  have kt6 : ¬ (x1 = 0) ∨ (¬ (x2 = ((ln w x0 : Nat) : Int))) → ZV Γ w 10 [(0, ar x0), (1, ai x1), (2, ai x2)] [] := by
    intro c8
    have h := h.1 c8
    exact zv_pick [0, 1, 2] rfl (cpC_J8_copyOfRange_10 hp G M S hl hk rx1 rx2 h)
  have kf7 : ¬ (¬ (x1 = 0) ∨ (¬ (x2 = ((ln w x0 : Nat) : Int)))) → ZV Γ w 17 [(0, ar x0), (1, ai x1), (2, ai x2)] [] := by
    intro c8
    have h := h.2 c8
    refine zv_aload_n G rfl rfl dJ8_copyOfRange_17 ?_
    exact h.elim
  refine zv_if_ne (tgt := 10) G rx1 (by decide) dJ8_copyOfRange_1 (fun c9 => ?_) (fun c9 => ?_)
  · exact kt6 (Or.inl c9)
  · refine zv_iload_n G rfl rfl dJ8_copyOfRange_4 ?_
    refine zv_aload_n G rfl rfl dJ8_copyOfRange_5 ?_
    refine zc_alen G (o1 c9) dJ8_copyOfRange_6 ?_
    refine zv_icmp_eq (tgt := 17) G rx2 (zc_lnr hw _) (by decide) dJ8_copyOfRange_7 (fun c10 => ?_) (fun c10 => ?_)
    · exact kf7 (fun q => q.elim (fun z => z c9) (fun q => q c10))
    · exact kt6 (Or.inr c10)
set_option maxHeartbeats 4000000 in
set_option maxRecDepth 100000 in
theorem cpC_J8_copyOfRangeByte_0 {Γ : ZG CW} {D : CD} {d p : Nat} (hp : D.K.1 = p) (G : ZOk Γ cJ8_copyOfRangeByte RJ8 5 (KnC D) (ZC D)) (M : ZRm Γ (d + 1) D.lim (Option.some (Jvm.ClassFile.FieldType.array Jvm.ClassFile.FieldType.byte)) "copyOfRangeByte" []) (S : SdC d D p Γ.l) (hl : Γ.l.stackTraces = false) (hk : 0 ≤ d) {x0 : Nat} {x1 : Int} {x2 : Int} {w : CW} (rx1 : zr x1) (rx2 : zr x2) (h : pC_J8_copyOfRangeByte_0 p (wpC p d) (fun v w => Γ.Q (.inl (some (ar v))) w) x0 x1 x2 w) : ZV Γ w 0 [(0, ar x0), (1, ai x1), (2, ai x2)] [] := by
  refine zc_wk G hp (fun hw tw => ?_)
  refine zv_iload_n G rfl rfl dJ8_copyOfRangeByte_0 ?_
  refine zv_iload_n G rfl rfl dJ8_copyOfRangeByte_1 ?_
  refine zv_callV (as := [ai x1, ai x2]) (st := []) G M (zc_eS G q524 q525 q154 q526 md_J8_checkLength rfl dJ8_copyOfRangeByte_2) (S 236 _ rfl _ _ _ h (zoks_cons rx1 (zoks_cons rx2 zoks_nil))) (Or.inl ⟨rfl, rfl⟩) (zc_hk q526 q154) (by decide) (Nat.le_of_ble_eq_true rfl) (fun u1 h => ?_) (fun _ _ h => h.elim)
  refine zc_wk G hp (fun hu1 tu1 => ?_)
  refine zv_iload_n G rfl rfl dJ8_copyOfRangeByte_5 ?_
  refine zv_iload_n G rfl rfl dJ8_copyOfRangeByte_6 ?_
  refine zv_isub G dJ8_copyOfRangeByte_7 ?_
  refine zv_istore_nN G rfl (by decide) dJ8_copyOfRangeByte_8 (fun x3_3 ex3_3 => ?_)
  have h := h x3_3 ex3_3
  have rx3_3 : zr x3_3 := by rw [ex3_3]; exact (w32_r _)
  refine zv_iload_n G rfl rfl dJ8_copyOfRangeByte_9 ?_
  have o5 := h.1
  have h := h.2
  refine zc_newa (t := 101) (ty := .byte) G M (by decide) rfl rfl (fun z => z) (by decide) rfl q467 o5.1 o5.2 dJ8_copyOfRangeByte_10 (fun u4 eu4 => ?_)
  have h := h u4 eu4
  refine zc_wk G hp (fun hu4 tu4 => ?_)
  refine zv_astore G (by decide) rfl dJ8_copyOfRangeByte_12 ?_
  refine zv_aload_n G rfl rfl dJ8_copyOfRangeByte_14 ?_
  refine zv_iload_n G rfl rfl dJ8_copyOfRangeByte_15 ?_
  refine zv_aload G rfl dJ8_copyOfRangeByte_16 ?_
  refine zv_iconst (a := 0) G (by decide) dJ8_copyOfRangeByte_18 ?_
  refine zv_aload_n G rfl rfl dJ8_copyOfRangeByte_19 ?_
  have o6 := h.1
  have h := h.2
  refine zc_alen G o6 dJ8_copyOfRangeByte_20 ?_
  refine zv_iload_n G rfl rfl dJ8_copyOfRangeByte_21 ?_
  refine zv_isub G dJ8_copyOfRangeByte_22 ?_
  refine zv_iload_n G rfl rfl dJ8_copyOfRangeByte_23 ?_
  refine zc_mmin G M q384 q385 q153 q386 (w32_r _) rx3_3 (Nat.le_of_ble_eq_true rfl) dJ8_copyOfRangeByte_24 ?_
  have o8 := h.1
  have h := h.2
  refine zc_copy G M q387 q389 q388 q155 o8.1 o8.2 (Nat.le_of_ble_eq_true rfl) dJ8_copyOfRangeByte_27 (fun u7 eu7 => ?_)
  have h := h u7 eu7
  refine zc_wk G hp (fun hu7 tu7 => ?_)
  refine zv_aload G rfl dJ8_copyOfRangeByte_30 ?_
  exact zv_aret G M (Or.inr ⟨_, rfl⟩) dJ8_copyOfRangeByte_32 h
set_option maxHeartbeats 4000000 in
set_option maxRecDepth 100000 in
theorem cpC_J8_checkLength_0 {Γ : ZG CW} {D : CD} {d p : Nat} (hp : D.K.1 = p) (G : ZOk Γ cJ8_checkLength RJ8 2 (KnC D) (ZC D)) (M : ZRm Γ (d + 1) D.lim (Option.none : Option Jvm.ClassFile.FieldType) "checkLength" []) (S : SdC d D p Γ.l) (hl : Γ.l.stackTraces = false) (hk : 0 ≤ d) {x0 : Int} {x1 : Int} {w : CW} (rx0 : zr x0) (rx1 : zr x1) (h : pC_J8_checkLength_0 p (wpC p d) (fun w => Γ.Q (.inl none) w) x0 x1 w) : ZV Γ w 0 [(0, ai x0), (1, ai x1)] [] := by
  refine zc_wk G hp (fun hw tw => ?_)
  refine zv_iload_n G rfl rfl dJ8_checkLength_0 ?_
  refine zv_iload_n G rfl rfl dJ8_checkLength_1 ?_
  refine zv_icmp_ge (tgt := 37) G rx1 rx0 (by decide) dJ8_checkLength_2 (fun c1 => ?_) (fun c1 => ?_)
  · have h := h.1 c1
    exact zv_vret G M dJ8_checkLength_37 h
  · have h := h.2 c1
    exact h.elim
set_option maxHeartbeats 4000000 in
set_option maxRecDepth 100000 in
theorem cpC_J8_fill_20 {Γ : ZG CW} {D : CD} {d p : Nat} (hp : D.K.1 = p) (G : ZOk Γ cJ8_fill RJ8 4 (KnC D) (ZC D)) (M : ZRm Γ (d + 1) D.lim (Option.none : Option Jvm.ClassFile.FieldType) "fill" []) (S : SdC d D p Γ.l) (hl : Γ.l.stackTraces = false) (hk : 0 ≤ d) {w : CW} (h : pC_J8_fill_20 p (wpC p d) (fun w => Γ.Q (.inl none) w) w) : ZV Γ w 20 [] [] := by
  refine zc_wk G hp (fun hw tw => ?_)
  exact zv_vret G M dJ8_fill_20 h
set_option maxHeartbeats 4000000 in
set_option maxRecDepth 100000 in
theorem cpC_J8_fill_5 {Γ : ZG CW} {D : CD} {d p : Nat} (hp : D.K.1 = p) (G : ZOk Γ cJ8_fill RJ8 4 (KnC D) (ZC D)) (M : ZRm Γ (d + 1) D.lim (Option.none : Option Jvm.ClassFile.FieldType) "fill" []) (S : SdC d D p Γ.l) (hl : Γ.l.stackTraces = false) (hk : 0 ≤ d) {x0 : Nat} {x1 : Nat} {x2 : Int} {x3 : Int} {w : CW} (rx2 : zr x2) (rx3 : zr x3) (h : pC_J8_fill_5 p (wpC p d) (fun w => Γ.Q (.inl none) w) x0 x1 x2 x3 w) : ZV Γ w 5 [(0, ar x0), (1, ar x1), (2, ai x2), (3, ai x3)] [] := by
  obtain ⟨I5, eI5⟩ : ∃ I : Int → CW → Prop, I = (fun x2 w => zr x2 → ZV Γ w 5 [(0, ar x0), (1, ar x1), (2, ai x2), (3, ai x3)] []) := ⟨_, rfl⟩
  have hI5 : ∀ (x2 : Int) (w : CW), I5 x2 w → zr x2 → ZV Γ w 5 [(0, ar x0), (1, ar x1), (2, ai x2), (3, ai x3)] [] := by subst eI5; exact fun _ _ z => z
  have hJ5 : ∀ (x2 : Int) (w : CW), (zr x2 → ZV Γ w 5 [(0, ar x0), (1, ar x1), (2, ai x2), (3, ai x3)] []) → I5 x2 w := by subst eI5; exact fun _ _ z => z
  refine hI5 x2 w (h I5 (fun x2 w h => hJ5 x2 w (fun rx2 => ?_))) rx2
  refine zc_wk G hp (fun hw tw => ?_)
  refine zv_iload_n G rfl rfl dJ8_fill_5 ?_
  refine zv_iload_n G rfl rfl dJ8_fill_6 ?_
  refine zv_icmp_ge (tgt := 20) G rx2 rx3 (by decide) dJ8_fill_7 (fun c3 => ?_) (fun c3 => ?_)
  · have h := h.1 c3
    exact zv_pick [] rfl (cpC_J8_fill_20 hp G M S hl hk h)
  · have h := h.2 c3
    refine zv_aload_n G rfl rfl dJ8_fill_10 ?_
    refine zv_iload_n G rfl rfl dJ8_fill_11 ?_
    refine zv_aload_n G rfl rfl dJ8_fill_12 ?_
    have o5 := h.1
    have h := h.2
    have o6 := h.1
    have h := h.2
    refine zc_aast G o5.1 o6 rx2 o5.2.1 o5.2.2 dJ8_fill_13 (fun u4 eu4 => ?_)
    have h := h u4 eu4
    refine zc_wk G hp (fun hu4 tu4 => ?_)
    refine zv_iincN G rfl (by decide) dJ8_fill_14 (fun x2_7 ex2_7 => ?_)
    have h := h x2_7 ex2_7
    have rx2_7 : zr x2_7 := by rw [ex2_7]; exact w32_r _
    refine zv_goto (tgt := 5) G (by decide) dJ8_fill_17 ?_
    exact zv_pick [0, 1, 2, 3] rfl (hI5 _ _ h rx2_7)
set_option maxHeartbeats 4000000 in
set_option maxRecDepth 100000 in
theorem cpC_J8_fill_0 {Γ : ZG CW} {D : CD} {d p : Nat} (hp : D.K.1 = p) (G : ZOk Γ cJ8_fill RJ8 4 (KnC D) (ZC D)) (M : ZRm Γ (d + 1) D.lim (Option.none : Option Jvm.ClassFile.FieldType) "fill" []) (S : SdC d D p Γ.l) (hl : Γ.l.stackTraces = false) (hk : 0 ≤ d) {x0 : Nat} {x1 : Nat} {w : CW} (h : pC_J8_fill_0 p (wpC p d) (fun w => Γ.Q (.inl none) w) x0 x1 w) : ZV Γ w 0 [(0, ar x0), (1, ar x1)] [] := by
  refine zc_wk G hp (fun hw tw => ?_)
  refine zv_iconst (a := 0) G (by decide) dJ8_fill_0 ?_
  refine zv_istore_n G rfl (by decide) rfl dJ8_fill_1 ?_
  refine zv_aload_n G rfl rfl dJ8_fill_2 ?_
  have o1 := h.1
  have h := h.2
  refine zc_alen G o1 dJ8_fill_3 ?_
  refine zv_istore_nN G rfl (by decide) dJ8_fill_4 (fun x3_2 ex3_2 => ?_)
  have h := h x3_2 ex3_2
  have rx3_2 : zr x3_2 := by rw [ex3_2]; exact (zc_lnr hw _)
  exact zv_pick [0, 1, 2, 3] rfl (cpC_J8_fill_5 hp G M S hl hk (zr_k 0 (by decide) (by decide)) rx3_2 h)
set_option maxHeartbeats 4000000 in
set_option maxRecDepth 100000 in
theorem cpC_J9_checkIndex_9 {Γ : ZG CW} {D : CD} {d p : Nat} (hp : D.K.1 = p) (G : ZOk Γ cJ9_checkIndex RJ9 3 (KnC D) (ZC D)) (M : ZRm Γ (d + 1) D.lim (Option.some Jvm.ClassFile.FieldType.int) "checkIndex" []) (S : SdC d D p Γ.l) (hl : Γ.l.stackTraces = false) (hk : 0 ≤ d) {x0 : Int} {x1 : Int} {x2 : Nat} {w : CW} (rx0 : zr x0) (rx1 : zr x1) (h : pC_J9_checkIndex_9 p (wpC p d) (fun v w => Γ.Q (.inl (some (ai v))) w) x0 x1 x2 w) : ZV Γ w 9 [(0, ai x0), (1, ai x1), (2, ar x2)] [] := by
  refine zc_wk G hp (fun hw tw => ?_)
  refine zv_aload_n G rfl rfl dJ9_checkIndex_9 ?_
  refine zv_iload_n G rfl rfl dJ9_checkIndex_10 ?_
  refine zv_iload_n G rfl rfl dJ9_checkIndex_11 ?_
  exact h.elim
set_option maxHeartbeats 4000000 in
set_option maxRecDepth 100000 in
theorem cpC_J9_checkIndex_0 {Γ : ZG CW} {D : CD} {d p : Nat} (hp : D.K.1 = p) (G : ZOk Γ cJ9_checkIndex RJ9 3 (KnC D) (ZC D)) (M : ZRm Γ (d + 1) D.lim (Option.some Jvm.ClassFile.FieldType.int) "checkIndex" []) (S : SdC d D p Γ.l) (hl : Γ.l.stackTraces = false) (hk : 0 ≤ d) {x0 : Int} {x1 : Int} {x2 : Nat} {w : CW} (rx0 : zr x0) (rx1 : zr x1) (h : pC_J9_checkIndex_0 p (wpC p d) (fun v w => Γ.Q (.inl (some (ai v))) w) x0 x1 x2 w) : ZV Γ w 0 [(0, ai x0), (1, ai x1), (2, ar x2)] [] := by
  refine zc_wk G hp (fun hw tw => ?_)
  refine zv_iload_n G rfl rfl dJ9_checkIndex_0 ?_
  have kt2 : (x0 < 0) ∨ (¬ (x0 < x1)) → ZV Γ w 9 [(0, ai x0), (1, ai x1), (2, ar x2)] [] := by
    intro c4
    have h := h.1 c4
    exact zv_pick [0, 1, 2] rfl (cpC_J9_checkIndex_9 hp G M S hl hk rx0 rx1 h)
  have kf3 : ¬ ((x0 < 0) ∨ (¬ (x0 < x1))) → ZV Γ w 16 [(0, ai x0), (1, ai x1), (2, ar x2)] [] := by
    intro c4
    have h := h.2 c4
    refine zv_iload_n G rfl rfl dJ9_checkIndex_16 ?_
    exact zv_iret (ty := .int) rx0 G M rfl dJ9_checkIndex_17 h
  refine zv_if_lt (tgt := 9) G rx0 (by decide) dJ9_checkIndex_1 (fun c5 => ?_) (fun c5 => ?_)
  · exact kt2 (Or.inl c5)
  · refine zv_iload_n G rfl rfl dJ9_checkIndex_4 ?_
    refine zv_iload_n G rfl rfl dJ9_checkIndex_5 ?_
    refine zv_icmp_lt (tgt := 16) G rx0 rx1 (by decide) dJ9_checkIndex_6 (fun c6 => ?_) (fun c6 => ?_)
    · exact kf3 (fun q => q.elim c5 (fun q => q c6))
    · exact kt2 (Or.inr c6)
set_option maxHeartbeats 4000000 in
set_option maxRecDepth 100000 in
theorem cpC_J10_canEncode_0 {Γ : ZG CW} {D : CD} {d p : Nat} (hp : D.K.1 = p) (G : ZOk Γ cJ10_canEncode RJ10 1 (KnC D) (ZC D)) (M : ZRm Γ (d + 1) D.lim (Option.some Jvm.ClassFile.FieldType.boolean) "canEncode" []) (S : SdC d D p Γ.l) (hl : Γ.l.stackTraces = false) (hk : 0 ≤ d) {x0 : Int} {w : CW} (rx0 : zr x0) (h : pC_J10_canEncode_0 p (wpC p d) (fun v w => Γ.Q (.inl (some (ai v))) w) x0 w) : ZV Γ w 0 [(0, ai x0)] [] := by
  refine zc_wk G hp (fun hw tw => ?_)
  refine zv_iload_n G rfl rfl dJ10_canEncode_0 ?_
  refine zv_sipush (a := 255) G (by decide) dJ10_canEncode_1 ?_
  have kj2 : ∀ v1 : Int, v1 = (if ¬ (255 < x0) then 1 else 0) → ZV Γ w 12 [(0, ai x0)] (ai v1 :: []) := by
    intro v1 ev1
    have h := h v1 ev1
    have rv1 : zr v1 := by rw [ev1]; exact (zr_ite (zr_k 1 (by decide) (by decide)) (zr_k 0 (by decide) (by decide)))
    have bv1 : v1 = 0 ∨ v1 = 1 := by rw [ev1]; exact (zb_ite (Or.inr rfl) (Or.inl rfl))
    exact zv_iret (ty := .boolean) rv1 G M (zn_Z bv1) dJ10_canEncode_12 h
  refine zv_icmp_gt (tgt := 11) G rx0 (zr_k 255 (by decide) (by decide)) (by decide) dJ10_canEncode_4 (fun c3 => ?_) (fun c3 => ?_)
  · refine zv_iconst (a := 0) G (by decide) dJ10_canEncode_11 ?_
    exact kj2 _ (if_neg (fun q => q c3)).symm
  · refine zv_iconst (a := 1) G (by decide) dJ10_canEncode_7 ?_
    refine zv_goto (tgt := 12) G (by decide) dJ10_canEncode_8 ?_
    exact kj2 _ (if_pos c3).symm
set_option maxHeartbeats 4000000 in
set_option maxRecDepth 100000 in
theorem cpC_J10_indexOf_0 {Γ : ZG CW} {D : CD} {d p : Nat} (hp : D.K.1 = p) (G : ZOk Γ cJ10_indexOf RJ10 2 (KnC D) (ZC D)) (M : ZRm Γ (d + 1) D.lim (Option.some Jvm.ClassFile.FieldType.int) "indexOf" []) (S : SdC d D p Γ.l) (hl : Γ.l.stackTraces = false) (hk : 0 ≤ d) {x0 : Nat} {x1 : Nat} {w : CW} (h : pC_J10_indexOf_0 p (wpC p d) (fun v w => Γ.Q (.inl (some (ai v))) w) x0 x1 w) : ZV Γ w 0 [(0, ar x0), (1, ar x1)] [] := by
  refine zc_wk G hp (fun hw tw => ?_)
  refine zv_aload_n G rfl rfl dJ10_indexOf_0 ?_
  have o1 := h.1
  have h := h.2
  refine zc_alen G o1 dJ10_indexOf_1 ?_
  refine zv_if_ne (tgt := 7) G (zc_lnr hw _) (by decide) dJ10_indexOf_2 (fun c2 => ?_) (fun c2 => ?_)
  · have h := h.2 c2
    refine zv_aload_n G rfl rfl dJ10_indexOf_7 ?_
    have o3 := h.1
    have h := h.2
    refine zc_alen G o3 dJ10_indexOf_8 ?_
    refine zv_if_ne (tgt := 14) G (zc_lnr hw _) (by decide) dJ10_indexOf_9 (fun c4 => ?_) (fun c4 => ?_)
    · have h := h.2 c4
      refine zv_aload_n G rfl rfl dJ10_indexOf_14 ?_
      refine zv_aload_n G rfl rfl dJ10_indexOf_15 ?_
      have o5 := h.1
      have h := h.2
      refine zc_alen G o5 dJ10_indexOf_16 ?_
      refine zv_aload_n G rfl rfl dJ10_indexOf_17 ?_
      refine zv_aload_n G rfl rfl dJ10_indexOf_18 ?_
      have o6 := h.1
      have h := h.2
      refine zc_alen G o6 dJ10_indexOf_19 ?_
      refine zv_iconst (a := 0) G (by decide) dJ10_indexOf_20 ?_
      refine zv_callI (as := [ar x0, ai ((ln w x0 : Nat) : Int), ar x1, ai ((ln w x1 : Nat) : Int), ai 0]) (st := []) G M (zc_eS G q580 q581 q157 q582 md_J10_indexOf_2 rfl dJ10_indexOf_21) (S 241 _ rfl _ _ _ h (zoks_cons trivial (zoks_cons (zc_lnr hw _) (zoks_cons trivial (zoks_cons (zc_lnr hw _) (zoks_cons (zr_k 0 (by decide) (by decide)) zoks_nil)))))) (Or.inl ⟨rfl, rfl⟩) (zc_hk q582 q157) (by decide) (Nat.le_of_ble_eq_true rfl) (fun v8 u7 rv8 h => ?_) (fun _ _ h => h.elim)
      refine zc_wk G hp (fun hu7 tu7 => ?_)
      exact zv_iret (ty := .int) rv8 G M rfl dJ10_indexOf_24 h
    · have h := h.1 c4
      refine zv_iconst (a := (-1)) G (by decide) dJ10_indexOf_12 ?_
      exact zv_iret (ty := .int) (zr_k (-1) (by decide) (by decide)) G M rfl dJ10_indexOf_13 h
  · have h := h.1 c2
    refine zv_iconst (a := 0) G (by decide) dJ10_indexOf_5 ?_
    exact zv_iret (ty := .int) (zr_k 0 (by decide) (by decide)) G M rfl dJ10_indexOf_6 h
set_option maxHeartbeats 4000000 in
set_option maxRecDepth 100000 in
theorem cpC_J10_indexOf_2_119 {Γ : ZG CW} {D : CD} {d p : Nat} (hp : D.K.1 = p) (G : ZOk Γ cJ10_indexOf_2 RJ10 11 (KnC D) (ZC D)) (M : ZRm Γ (d + 1) D.lim (Option.some Jvm.ClassFile.FieldType.int) "indexOf" []) (S : SdC d D p Γ.l) (hl : Γ.l.stackTraces = false) (hk : 0 ≤ d) {w : CW} (h : pC_J10_indexOf_2_119 p (wpC p d) (fun v w => Γ.Q (.inl (some (ai v))) w) w) : ZV Γ w 119 [] [] := by
  refine zc_wk G hp (fun hw tw => ?_)
  refine zv_iconst (a := (-1)) G (by decide) dJ10_indexOf_2_119 ?_
  exact zv_iret (ty := .int) (zr_k (-1) (by decide) (by decide)) G M rfl dJ10_indexOf_2_120 h
set_option maxHeartbeats 4000000 in
set_option maxRecDepth 100000 in
theorem cpC_J10_indexOf_2_113 {Γ : ZG CW} {D : CD} {d p : Nat} (hp : D.K.1 = p) (G : ZOk Γ cJ10_indexOf_2 RJ10 11 (KnC D) (ZC D)) (M : ZRm Γ (d + 1) D.lim (Option.some Jvm.ClassFile.FieldType.int) "indexOf" []) (S : SdC d D p Γ.l) (hl : Γ.l.stackTraces = false) (hk : 0 ≤ d) {I14 : Int → CW → Prop} {x0 : Nat} {x2 : Nat} {x3 : Int} {x5 : Int} {x6 : Int} {x7 : Int} {w : CW} (hI14 : ∀ (x7 : Int) (w : CW), I14 x7 w → zr x7 → ZV Γ w 14 [(0, ar x0), (2, ar x2), (3, ai x3), (5, ai x5), (6, ai x6), (7, ai x7)] []) (rx3 : zr x3) (rx5 : zr x5) (rx6 : zr x6) (rx7 : zr x7) (h : pC_J10_indexOf_2_113 p (wpC p d) (fun v w => Γ.Q (.inl (some (ai v))) w) I14 x0 x2 x3 x5 x6 x7 w) : ZV Γ w 113 [(0, ar x0), (2, ar x2), (3, ai x3), (5, ai x5), (6, ai x6), (7, ai x7)] [] := by
  refine zc_wk G hp (fun hw tw => ?_)
  refine zv_iincN G rfl (by decide) dJ10_indexOf_2_113 (fun x7_8 ex7_8 => ?_)
  have h := h x7_8 ex7_8
  have rx7_8 : zr x7_8 := by rw [ex7_8]; exact w32_r _
  refine zv_goto (tgt := 14) G (by decide) dJ10_indexOf_2_116 ?_
  exact zv_pick [0, 2, 3, 5, 6, 7] rfl (hI14 _ _ h rx7_8)
set_option maxHeartbeats 4000000 in
set_option maxRecDepth 100000 in
theorem cpC_J10_indexOf_2_110 {Γ : ZG CW} {D : CD} {d p : Nat} (hp : D.K.1 = p) (G : ZOk Γ cJ10_indexOf_2 RJ10 11 (KnC D) (ZC D)) (M : ZRm Γ (d + 1) D.lim (Option.some Jvm.ClassFile.FieldType.int) "indexOf" []) (S : SdC d D p Γ.l) (hl : Γ.l.stackTraces = false) (hk : 0 ≤ d) {x7 : Int} {w : CW} (rx7 : zr x7) (h : pC_J10_indexOf_2_110 p (wpC p d) (fun v w => Γ.Q (.inl (some (ai v))) w) x7 w) : ZV Γ w 110 [(7, ai x7)] [] := by
  refine zc_wk G hp (fun hw tw => ?_)
  refine zv_iload G rfl dJ10_indexOf_2_110 ?_
  exact zv_iret (ty := .int) rx7 G M rfl dJ10_indexOf_2_112 h
set_option maxHeartbeats 4000000 in
set_option maxRecDepth 100000 in
theorem cpC_J10_indexOf_2_103 {Γ : ZG CW} {D : CD} {d p : Nat} (hp : D.K.1 = p) (G : ZOk Γ cJ10_indexOf_2 RJ10 11 (KnC D) (ZC D)) (M : ZRm Γ (d + 1) D.lim (Option.some Jvm.ClassFile.FieldType.int) "indexOf" []) (S : SdC d D p Γ.l) (hl : Γ.l.stackTraces = false) (hk : 0 ≤ d) {I14 : Int → CW → Prop} {x0 : Nat} {x2 : Nat} {x3 : Int} {x5 : Int} {x6 : Int} {x7 : Int} {x8 : Int} {x9 : Int} {w : CW} (hI14 : ∀ (x7 : Int) (w : CW), I14 x7 w → zr x7 → ZV Γ w 14 [(0, ar x0), (2, ar x2), (3, ai x3), (5, ai x5), (6, ai x6), (7, ai x7)] []) (rx3 : zr x3) (rx5 : zr x5) (rx6 : zr x6) (rx7 : zr x7) (rx8 : zr x8) (rx9 : zr x9) (h : pC_J10_indexOf_2_103 p (wpC p d) (fun v w => Γ.Q (.inl (some (ai v))) w) I14 x0 x2 x3 x5 x6 x7 x8 x9 w) : ZV Γ w 103 [(0, ar x0), (2, ar x2), (3, ai x3), (5, ai x5), (6, ai x6), (7, ai x7), (8, ai x8), (9, ai x9)] [] := by
  refine zc_wk G hp (fun hw tw => ?_)
  refine zv_iload G rfl dJ10_indexOf_2_103 ?_
  refine zv_iload G rfl dJ10_indexOf_2_105 ?_
  refine zv_icmp_ne (tgt := 113) G rx8 rx9 (by decide) dJ10_indexOf_2_107 (fun c14 => ?_) (fun c14 => ?_)
  · have h := h.2 c14
    exact zv_pick [0, 2, 3, 5, 6, 7] rfl (cpC_J10_indexOf_2_113 hp G M S hl hk hI14 rx3 rx5 rx6 rx7 h)
  · have h := h.1 c14
    exact zv_pick [7] rfl (cpC_J10_indexOf_2_110 hp G M S hl hk rx7 h)
set_option maxHeartbeats 4000000 in
set_option maxRecDepth 100000 in
theorem cpC_J10_indexOf_2_76 {Γ : ZG CW} {D : CD} {d p : Nat} (hp : D.K.1 = p) (G : ZOk Γ cJ10_indexOf_2 RJ10 11 (KnC D) (ZC D)) (M : ZRm Γ (d + 1) D.lim (Option.some Jvm.ClassFile.FieldType.int) "indexOf" []) (S : SdC d D p Γ.l) (hl : Γ.l.stackTraces = false) (hk : 0 ≤ d) {I14 : Int → CW → Prop} {x0 : Nat} {x2 : Nat} {x3 : Int} {x5 : Int} {x6 : Int} {x7 : Int} {x8 : Int} {x9 : Int} {x10 : Int} {w : CW} (hI14 : ∀ (x7 : Int) (w : CW), I14 x7 w → zr x7 → ZV Γ w 14 [(0, ar x0), (2, ar x2), (3, ai x3), (5, ai x5), (6, ai x6), (7, ai x7)] []) (rx3 : zr x3) (rx5 : zr x5) (rx6 : zr x6) (rx7 : zr x7) (rx8 : zr x8) (rx9 : zr x9) (rx10 : zr x10) (h : pC_J10_indexOf_2_76 p (wpC p d) (fun v w => Γ.Q (.inl (some (ai v))) w) I14 x0 x2 x3 x5 x6 x7 x8 x9 x10 w) : ZV Γ w 76 [(0, ar x0), (2, ar x2), (3, ai x3), (5, ai x5), (6, ai x6), (7, ai x7), (8, ai x8), (9, ai x9), (10, ai x10)] [] := by
  obtain ⟨I76, eI76⟩ : ∃ I : Int → Int → CW → Prop, I = (fun x8 x10 w => zr x8 → zr x10 → ZV Γ w 76 [(0, ar x0), (2, ar x2), (3, ai x3), (5, ai x5), (6, ai x6), (7, ai x7), (8, ai x8), (9, ai x9), (10, ai x10)] []) := ⟨_, rfl⟩
  have hI76 : ∀ (x8 : Int) (x10 : Int) (w : CW), I76 x8 x10 w → zr x8 → zr x10 → ZV Γ w 76 [(0, ar x0), (2, ar x2), (3, ai x3), (5, ai x5), (6, ai x6), (7, ai x7), (8, ai x8), (9, ai x9), (10, ai x10)] [] := by subst eI76; exact fun _ _ _ z => z
  have hJ76 : ∀ (x8 : Int) (x10 : Int) (w : CW), (zr x8 → zr x10 → ZV Γ w 76 [(0, ar x0), (2, ar x2), (3, ai x3), (5, ai x5), (6, ai x6), (7, ai x7), (8, ai x8), (9, ai x9), (10, ai x10)] []) → I76 x8 x10 w := by subst eI76; exact fun _ _ _ z => z
  refine hI76 x8 x10 w (h I76 (fun x8 x10 w h => hJ76 x8 x10 w (fun rx8 rx10 => ?_))) rx8 rx10
  refine zc_wk G hp (fun hw tw => ?_)
  refine zv_iload G rfl dJ10_indexOf_2_76 ?_
  refine zv_iload G rfl dJ10_indexOf_2_78 ?_
  have o11 := h.1
  have h := h.2
  have kt15 : ¬ (x9 ≤ x8) ∧ ((aN w x0 x8) = (aN w x2 x10)) → ZV Γ w 94 [(0, ar x0), (2, ar x2), (3, ai x3), (5, ai x5), (6, ai x6), (7, ai x7), (8, ai x8), (9, ai x9), (10, ai x10)] [] := by
    intro c17
    have h := h.1 c17
    refine zv_iincN G rfl (by decide) dJ10_indexOf_2_94 (fun x8_12 ex8_12 => ?_)
    have h := h x8_12 ex8_12
    have rx8_12 : zr x8_12 := by rw [ex8_12]; exact w32_r _
    refine zv_iincN G rfl (by decide) dJ10_indexOf_2_97 (fun x10_13 ex10_13 => ?_)
    have h := h x10_13 ex10_13
    have rx10_13 : zr x10_13 := by rw [ex10_13]; exact w32_r _
    refine zv_goto (tgt := 76) G (by decide) dJ10_indexOf_2_100 ?_
    exact zv_pick [0, 2, 3, 5, 6, 7, 8, 9, 10] rfl (hI76 _ _ _ h rx8_12 rx10_13)
  have kf16 : ¬ (¬ (x9 ≤ x8) ∧ ((aN w x0 x8) = (aN w x2 x10))) → ZV Γ w 103 [(0, ar x0), (2, ar x2), (3, ai x3), (5, ai x5), (6, ai x6), (7, ai x7), (8, ai x8), (9, ai x9), (10, ai x10)] [] := by
    intro c17
    have h := h.2 c17
    exact zv_pick [0, 2, 3, 5, 6, 7, 8, 9] rfl (cpC_J10_indexOf_2_103 hp G M S hl hk hI14 rx3 rx5 rx6 rx7 rx8 rx9 h)
  refine zv_icmp_ge (tgt := 103) G rx8 rx9 (by decide) dJ10_indexOf_2_80 (fun c18 => ?_) (fun c18 => ?_)
  · exact kf16 (fun q => q.1 c18)
  · refine zv_aload_n G rfl rfl dJ10_indexOf_2_83 ?_
    refine zv_iload G rfl dJ10_indexOf_2_84 ?_
    refine zc_baldN G (o11 c18).1.1 rx8 (o11 c18).1.2.1 (o11 c18).1.2.2 dJ10_indexOf_2_86 ?_
    refine zv_aload_n G rfl rfl dJ10_indexOf_2_87 ?_
    refine zv_iload G rfl dJ10_indexOf_2_88 ?_
    refine zc_baldN G (o11 c18).2.1 rx10 (o11 c18).2.2.1 (o11 c18).2.2.2 dJ10_indexOf_2_90 ?_
    refine zv_icmp_ne (tgt := 103) G (aN_r hw _ _) (aN_r hw _ _) (by decide) dJ10_indexOf_2_91 (fun c19 => ?_) (fun c19 => ?_)
    · exact kf16 (fun q => c19 q.2)
    · exact kt15 ⟨c18, c19⟩
set_option maxHeartbeats 4000000 in
set_option maxRecDepth 100000 in
theorem cpC_J10_indexOf_2_52 {Γ : ZG CW} {D : CD} {d p : Nat} (hp : D.K.1 = p) (G : ZOk Γ cJ10_indexOf_2 RJ10 11 (KnC D) (ZC D)) (M : ZRm Γ (d + 1) D.lim (Option.some Jvm.ClassFile.FieldType.int) "indexOf" []) (S : SdC d D p Γ.l) (hl : Γ.l.stackTraces = false) (hk : 0 ≤ d) {I14 : Int → CW → Prop} {x0 : Nat} {x2 : Nat} {x3 : Int} {x5 : Int} {x6 : Int} {x7 : Int} {w : CW} (hI14 : ∀ (x7 : Int) (w : CW), I14 x7 w → zr x7 → ZV Γ w 14 [(0, ar x0), (2, ar x2), (3, ai x3), (5, ai x5), (6, ai x6), (7, ai x7)] []) (rx3 : zr x3) (rx5 : zr x5) (rx6 : zr x6) (rx7 : zr x7) (h : pC_J10_indexOf_2_52 p (wpC p d) (fun v w => Γ.Q (.inl (some (ai v))) w) I14 x0 x2 x3 x5 x6 x7 w) : ZV Γ w 52 [(0, ar x0), (2, ar x2), (3, ai x3), (5, ai x5), (6, ai x6), (7, ai x7)] [] := by
  refine zc_wk G hp (fun hw tw => ?_)
  refine zv_iload G rfl dJ10_indexOf_2_52 ?_
  refine zv_iload G rfl dJ10_indexOf_2_54 ?_
  refine zv_icmp_gt (tgt := 113) G rx7 rx6 (by decide) dJ10_indexOf_2_56 (fun c7 => ?_) (fun c7 => ?_)
  · have h := h.1 c7
    exact zv_pick [0, 2, 3, 5, 6, 7] rfl (cpC_J10_indexOf_2_113 hp G M S hl hk hI14 rx3 rx5 rx6 rx7 h)
  · have h := h.2 c7
    refine zv_iload G rfl dJ10_indexOf_2_59 ?_
    refine zv_iconst (a := 1) G (by decide) dJ10_indexOf_2_61 ?_
    refine zv_iadd G dJ10_indexOf_2_62 ?_
    refine zv_istoreN G (by decide) dJ10_indexOf_2_63 (fun x8_9 ex8_9 => ?_)
    have h := h x8_9 ex8_9
    have rx8_9 : zr x8_9 := by rw [ex8_9]; exact (w32_r _)
    refine zv_iload G rfl dJ10_indexOf_2_65 ?_
    refine zv_iload_n G rfl rfl dJ10_indexOf_2_67 ?_
    refine zv_iadd G dJ10_indexOf_2_68 ?_
    refine zv_iconst (a := 1) G (by decide) dJ10_indexOf_2_69 ?_
    refine zv_isub G dJ10_indexOf_2_70 ?_
    refine zv_istoreN G (by decide) dJ10_indexOf_2_71 (fun x9_10 ex9_10 => ?_)
    have h := h x9_10 ex9_10
    have rx9_10 : zr x9_10 := by rw [ex9_10]; exact (w32_r _)
    refine zv_iconst (a := 1) G (by decide) dJ10_indexOf_2_73 ?_
    refine zv_istore G (by decide) rfl dJ10_indexOf_2_74 ?_
    exact zv_pick [0, 2, 3, 5, 6, 7, 8, 9, 10] rfl (cpC_J10_indexOf_2_76 hp G M S hl hk hI14 rx3 rx5 rx6 rx7 rx8_9 rx9_10 (zr_k 1 (by decide) (by decide)) h)
set_option maxHeartbeats 4000000 in
set_option maxRecDepth 100000 in
theorem cpC_J10_indexOf_2_30 {Γ : ZG CW} {D : CD} {d p : Nat} (hp : D.K.1 = p) (G : ZOk Γ cJ10_indexOf_2 RJ10 11 (KnC D) (ZC D)) (M : ZRm Γ (d + 1) D.lim (Option.some Jvm.ClassFile.FieldType.int) "indexOf" []) (S : SdC d D p Γ.l) (hl : Γ.l.stackTraces = false) (hk : 0 ≤ d) {I14 : Int → CW → Prop} {x0 : Nat} {x2 : Nat} {x3 : Int} {x5 : Int} {x6 : Int} {x7 : Int} {w : CW} (hI14 : ∀ (x7 : Int) (w : CW), I14 x7 w → zr x7 → ZV Γ w 14 [(0, ar x0), (2, ar x2), (3, ai x3), (5, ai x5), (6, ai x6), (7, ai x7)] []) (rx3 : zr x3) (rx5 : zr x5) (rx6 : zr x6) (rx7 : zr x7) (h : pC_J10_indexOf_2_30 p (wpC p d) (fun v w => Γ.Q (.inl (some (ai v))) w) I14 x0 x2 x3 x5 x6 x7 w) : ZV Γ w 30 [(0, ar x0), (2, ar x2), (3, ai x3), (5, ai x5), (6, ai x6), (7, ai x7)] [] := by
  obtain ⟨I30, eI30⟩ : ∃ I : Int → CW → Prop, I = (fun x7 w => zr x7 → ZV Γ w 30 [(0, ar x0), (2, ar x2), (3, ai x3), (5, ai x5), (6, ai x6), (7, ai x7)] []) := ⟨_, rfl⟩
  have hI30 : ∀ (x7 : Int) (w : CW), I30 x7 w → zr x7 → ZV Γ w 30 [(0, ar x0), (2, ar x2), (3, ai x3), (5, ai x5), (6, ai x6), (7, ai x7)] [] := by subst eI30; exact fun _ _ z => z
  have hJ30 : ∀ (x7 : Int) (w : CW), (zr x7 → ZV Γ w 30 [(0, ar x0), (2, ar x2), (3, ai x3), (5, ai x5), (6, ai x6), (7, ai x7)] []) → I30 x7 w := by subst eI30; exact fun _ _ z => z
  refine hI30 x7 w (h I30 (fun x7 w h => hJ30 x7 w (fun rx7 => ?_))) rx7
  refine zc_wk G hp (fun hw tw => ?_)
  refine zv_iincN G rfl (by decide) dJ10_indexOf_2_30 (fun x7_20 ex7_20 => ?_)
  have h := h x7_20 ex7_20
  have rx7_20 : zr x7_20 := by rw [ex7_20]; exact w32_r _
  refine zv_iload G rfl dJ10_indexOf_2_33 ?_
  refine zv_iload G rfl dJ10_indexOf_2_35 ?_
  have o21 := h.1
  have h := h.2
  have kt22 : ¬ (x6 < x7_20) ∧ (¬ ((aN w x0 x7_20) = x5)) → ZV Γ w 49 [(7, ai x7_20), (0, ar x0), (2, ar x2), (3, ai x3), (5, ai x5), (6, ai x6)] [] := by
    intro c24
    have h := h.1 c24
    refine zv_goto (tgt := 30) G (by decide) dJ10_indexOf_2_49 ?_
    exact zv_pick [0, 2, 3, 5, 6, 7] rfl (hI30 _ _ h rx7_20)
  have kf23 : ¬ (¬ (x6 < x7_20) ∧ (¬ ((aN w x0 x7_20) = x5))) → ZV Γ w 52 [(7, ai x7_20), (0, ar x0), (2, ar x2), (3, ai x3), (5, ai x5), (6, ai x6)] [] := by
    intro c24
    have h := h.2 c24
    exact zv_pick [0, 2, 3, 5, 6, 7] rfl (cpC_J10_indexOf_2_52 hp G M S hl hk hI14 rx3 rx5 rx6 rx7_20 h)
  refine zv_icmp_gt (tgt := 52) G rx7_20 rx6 (by decide) dJ10_indexOf_2_37 (fun c25 => ?_) (fun c25 => ?_)
  · exact kf23 (fun q => q.1 c25)
  · refine zv_aload_n G rfl rfl dJ10_indexOf_2_40 ?_
    refine zv_iload G rfl dJ10_indexOf_2_41 ?_
    refine zc_baldN G (o21 c25).1 rx7_20 (o21 c25).2.1 (o21 c25).2.2 dJ10_indexOf_2_43 ?_
    refine zv_iload G rfl dJ10_indexOf_2_44 ?_
    refine zv_icmp_eq (tgt := 52) G (aN_r hw _ _) rx5 (by decide) dJ10_indexOf_2_46 (fun c26 => ?_) (fun c26 => ?_)
    · exact kf23 (fun q => (fun q => q c26) q.2)
    · exact kt22 ⟨c25, c26⟩
set_option maxHeartbeats 4000000 in
set_option maxRecDepth 100000 in
theorem cpC_J10_indexOf_2_14 {Γ : ZG CW} {D : CD} {d p : Nat} (hp : D.K.1 = p) (G : ZOk Γ cJ10_indexOf_2 RJ10 11 (KnC D) (ZC D)) (M : ZRm Γ (d + 1) D.lim (Option.some Jvm.ClassFile.FieldType.int) "indexOf" []) (S : SdC d D p Γ.l) (hl : Γ.l.stackTraces = false) (hk : 0 ≤ d) {x0 : Nat} {x2 : Nat} {x3 : Int} {x5 : Int} {x6 : Int} {x7 : Int} {w : CW} (rx3 : zr x3) (rx5 : zr x5) (rx6 : zr x6) (rx7 : zr x7) (h : pC_J10_indexOf_2_14 p (wpC p d) (fun v w => Γ.Q (.inl (some (ai v))) w) x0 x2 x3 x5 x6 x7 w) : ZV Γ w 14 [(0, ar x0), (2, ar x2), (3, ai x3), (5, ai x5), (6, ai x6), (7, ai x7)] [] := by
  obtain ⟨I14, eI14⟩ : ∃ I : Int → CW → Prop, I = (fun x7 w => zr x7 → ZV Γ w 14 [(0, ar x0), (2, ar x2), (3, ai x3), (5, ai x5), (6, ai x6), (7, ai x7)] []) := ⟨_, rfl⟩
  have hI14 : ∀ (x7 : Int) (w : CW), I14 x7 w → zr x7 → ZV Γ w 14 [(0, ar x0), (2, ar x2), (3, ai x3), (5, ai x5), (6, ai x6), (7, ai x7)] [] := by subst eI14; exact fun _ _ z => z
  have hJ14 : ∀ (x7 : Int) (w : CW), (zr x7 → ZV Γ w 14 [(0, ar x0), (2, ar x2), (3, ai x3), (5, ai x5), (6, ai x6), (7, ai x7)] []) → I14 x7 w := by subst eI14; exact fun _ _ z => z
  refine hI14 x7 w (h I14 (fun x7 w h => hJ14 x7 w (fun rx7 => ?_))) rx7
  refine zc_wk G hp (fun hw tw => ?_)
  refine zv_iload G rfl dJ10_indexOf_2_14 ?_
  refine zv_iload G rfl dJ10_indexOf_2_16 ?_
  refine zv_icmp_gt (tgt := 119) G rx7 rx6 (by decide) dJ10_indexOf_2_18 (fun c4 => ?_) (fun c4 => ?_)
  · have h := h.1 c4
    exact zv_pick [] rfl (cpC_J10_indexOf_2_119 hp G M S hl hk h)
  · have h := h.2 c4
    refine zv_aload_n G rfl rfl dJ10_indexOf_2_21 ?_
    refine zv_iload G rfl dJ10_indexOf_2_22 ?_
    have o5 := h.1
    have h := h.2
    refine zc_baldN G o5.1 rx7 o5.2.1 o5.2.2 dJ10_indexOf_2_24 ?_
    refine zv_iload G rfl dJ10_indexOf_2_25 ?_
    refine zv_icmp_eq (tgt := 52) G (aN_r hw _ _) rx5 (by decide) dJ10_indexOf_2_27 (fun c6 => ?_) (fun c6 => ?_)
    · have h := h.1 c6
      exact zv_pick [0, 2, 3, 5, 6, 7] rfl (cpC_J10_indexOf_2_52 hp G M S hl hk hI14 rx3 rx5 rx6 rx7 h)
    · have h := h.2 c6
      exact zv_pick [0, 2, 3, 5, 6, 7] rfl (cpC_J10_indexOf_2_30 hp G M S hl hk hI14 rx3 rx5 rx6 rx7 h)
set_option maxHeartbeats 4000000 in
set_option maxRecDepth 100000 in
theorem cpC_J10_indexOf_2_0 {Γ : ZG CW} {D : CD} {d p : Nat} (hp : D.K.1 = p) (G : ZOk Γ cJ10_indexOf_2 RJ10 11 (KnC D) (ZC D)) (M : ZRm Γ (d + 1) D.lim (Option.some Jvm.ClassFile.FieldType.int) "indexOf" []) (S : SdC d D p Γ.l) (hl : Γ.l.stackTraces = false) (hk : 0 ≤ d) {x0 : Nat} {x1 : Int} {x2 : Nat} {x3 : Int} {x4 : Int} {w : CW} (rx1 : zr x1) (rx3 : zr x3) (rx4 : zr x4) (h : pC_J10_indexOf_2_0 p (wpC p d) (fun v w => Γ.Q (.inl (some (ai v))) w) x0 x1 x2 x3 x4 w) : ZV Γ w 0 [(0, ar x0), (1, ai x1), (2, ar x2), (3, ai x3), (4, ai x4)] [] := by
  refine zc_wk G hp (fun hw tw => ?_)
  refine zv_aload_n G rfl rfl dJ10_indexOf_2_0 ?_
  refine zv_iconst (a := 0) G (by decide) dJ10_indexOf_2_1 ?_
  have o1 := h.1
  have h := h.2
  refine zc_baldN G o1.1 (zr_k 0 (by decide) (by decide)) o1.2.1 o1.2.2 dJ10_indexOf_2_2 ?_
  refine zv_istoreN G (by decide) dJ10_indexOf_2_3 (fun x5_2 ex5_2 => ?_)
  have h := h x5_2 ex5_2
  have rx5_2 : zr x5_2 := by rw [ex5_2]; exact (aN_r hw _ _)
  refine zv_iload_n G rfl rfl dJ10_indexOf_2_5 ?_
  refine zv_iload_n G rfl rfl dJ10_indexOf_2_6 ?_
  refine zv_isub G dJ10_indexOf_2_7 ?_
  refine zv_istoreN G (by decide) dJ10_indexOf_2_8 (fun x6_3 ex6_3 => ?_)
  have h := h x6_3 ex6_3
  have rx6_3 : zr x6_3 := by rw [ex6_3]; exact (w32_r _)
  refine zv_iload G rfl dJ10_indexOf_2_10 ?_
  refine zv_istore G (by decide) rfl dJ10_indexOf_2_12 ?_
  exact zv_pick [0, 2, 3, 5, 6, 7] rfl (cpC_J10_indexOf_2_14 hp G M S hl hk rx3 rx5_2 rx6_3 rx4 h)
set_option maxHeartbeats 4000000 in
set_option maxRecDepth 100000 in
theorem cpC_J10_indexOf_3_0 {Γ : ZG CW} {D : CD} {d p : Nat} (hp : D.K.1 = p) (G : ZOk Γ cJ10_indexOf_3 RJ10 4 (KnC D) (ZC D)) (M : ZRm Γ (d + 1) D.lim (Option.some Jvm.ClassFile.FieldType.int) "indexOf" []) (S : SdC d D p Γ.l) (hl : Γ.l.stackTraces = false) (hk : 0 ≤ d) {x0 : Nat} {x1 : Int} {x2 : Int} {x3 : Int} {w : CW} (rx1 : zr x1) (rx2 : zr x2) (rx3 : zr x3) (h : pC_J10_indexOf_3_0 p (wpC p d) (fun v w => Γ.Q (.inl (some (ai v))) w) x0 x1 x2 x3 w) : ZV Γ w 0 [(0, ar x0), (1, ai x1), (2, ai x2), (3, ai x3)] [] := by
  refine zc_wk G hp (fun hw tw => ?_)
  refine zv_iload_n G rfl rfl dJ10_indexOf_3_0 ?_
  refine zv_callI (as := [ai x1]) (st := []) G M (zc_eS G q612 q613 q157 q614 md_J10_canEncode_2 rfl dJ10_indexOf_3_1) (S 243 _ rfl _ _ _ h (zoks_cons rx1 zoks_nil)) (Or.inl ⟨rfl, rfl⟩) (zc_hk q614 q157) (by decide) (Nat.le_of_ble_eq_true rfl) (fun v2 u1 rv2 h => ?_) (fun _ _ h => h.elim)
  refine zc_wk G hp (fun hu1 tu1 => ?_)
  refine zv_if_ne (tgt := 9) G rv2 (by decide) dJ10_indexOf_3_4 (fun c3 => ?_) (fun c3 => ?_)
  · have h := h.2 c3
    refine zv_iload_n G rfl rfl dJ10_indexOf_3_9 ?_
    refine zv_iconst (a := 0) G (by decide) dJ10_indexOf_3_10 ?_
    refine zc_mmax G M q615 q368 q153 q369 rx2 (zr_k 0 (by decide) (by decide)) (Nat.le_of_ble_eq_true rfl) dJ10_indexOf_3_11 ?_
    refine zv_istore_nN G rfl (by decide) dJ10_indexOf_3_14 (fun x2_4 ex2_4 => ?_)
    have h := h x2_4 ex2_4
    have rx2_4 : zr x2_4 := by rw [ex2_4]; exact (zr_ite (zr_k 0 (by decide) (by decide)) rx2)
    refine zv_iload_n G rfl rfl dJ10_indexOf_3_15 ?_
    refine zv_aload_n G rfl rfl dJ10_indexOf_3_16 ?_
    have o5 := h.1
    have h := h.2
    refine zc_alen G o5 dJ10_indexOf_3_17 ?_
    refine zc_mmin G M q616 q385 q153 q386 rx3 (zc_lnr hu1 _) (Nat.le_of_ble_eq_true rfl) dJ10_indexOf_3_18 ?_
    refine zv_istore_nN G rfl (by decide) dJ10_indexOf_3_21 (fun x3_6 ex3_6 => ?_)
    have h := h x3_6 ex3_6
    have rx3_6 : zr x3_6 := by rw [ex3_6]; exact (zr_ite (zc_lnr hu1 _) rx3)
    refine zv_iload_n G rfl rfl dJ10_indexOf_3_22 ?_
    refine zv_iload_n G rfl rfl dJ10_indexOf_3_23 ?_
    refine zv_icmp_lt (tgt := 29) G rx2_4 rx3_6 (by decide) dJ10_indexOf_3_24 (fun c7 => ?_) (fun c7 => ?_)
    · have h := h.1 c7
      refine zv_aload_n G rfl rfl dJ10_indexOf_3_29 ?_
      refine zv_iload_n G rfl rfl dJ10_indexOf_3_30 ?_
      refine zv_iload_n G rfl rfl dJ10_indexOf_3_31 ?_
      refine zv_iload_n G rfl rfl dJ10_indexOf_3_32 ?_
      refine zv_callI (as := [ar x0, ai x1, ai x2_4, ai x3_6]) (st := []) G M (zc_eS G q617 q618 q157 q619 md_J10_indexOfChar rfl dJ10_indexOf_3_33) (S 244 _ rfl _ _ _ h (zoks_cons trivial (zoks_cons rx1 (zoks_cons rx2_4 (zoks_cons rx3_6 zoks_nil))))) (Or.inl ⟨rfl, rfl⟩) (zc_hk q619 q157) (by decide) (Nat.le_of_ble_eq_true rfl) (fun v9 u8 rv9 h => ?_) (fun _ _ h => h.elim)
      refine zc_wk G hp (fun hu8 tu8 => ?_)
      exact zv_iret (ty := .int) rv9 G M rfl dJ10_indexOf_3_36 h
    · have h := h.2 c7
      refine zv_iconst (a := (-1)) G (by decide) dJ10_indexOf_3_27 ?_
      exact zv_iret (ty := .int) (zr_k (-1) (by decide) (by decide)) G M rfl dJ10_indexOf_3_28 h
  · have h := h.1 c3
    refine zv_iconst (a := (-1)) G (by decide) dJ10_indexOf_3_7 ?_
    exact zv_iret (ty := .int) (zr_k (-1) (by decide) (by decide)) G M rfl dJ10_indexOf_3_8 h
set_option maxHeartbeats 4000000 in
set_option maxRecDepth 100000 in
theorem cpC_J10_canEncode_2_0 {Γ : ZG CW} {D : CD} {d p : Nat} (hp : D.K.1 = p) (G : ZOk Γ cJ10_canEncode_2 RJ10 1 (KnC D) (ZC D)) (M : ZRm Γ (d + 1) D.lim (Option.some Jvm.ClassFile.FieldType.boolean) "canEncode" []) (S : SdC d D p Γ.l) (hl : Γ.l.stackTraces = false) (hk : 0 ≤ d) {x0 : Int} {w : CW} (rx0 : zr x0) (h : pC_J10_canEncode_2_0 p (wpC p d) (fun v w => Γ.Q (.inl (some (ai v))) w) x0 w) : ZV Γ w 0 [(0, ai x0)] [] := by
  refine zc_wk G hp (fun hw tw => ?_)
  refine zv_iload_n G rfl rfl dJ10_canEncode_2_0 ?_
  have kj2 : ∀ v1 : Int, v1 = (if ¬ (x0 < 0) ∧ (¬ (255 < x0)) then 1 else 0) → ZV Γ w 16 [(0, ai x0)] (ai v1 :: []) := by
    intro v1 ev1
    have h := h v1 ev1
    have rv1 : zr v1 := by rw [ev1]; exact (zr_ite (zr_k 1 (by decide) (by decide)) (zr_k 0 (by decide) (by decide)))
    have bv1 : v1 = 0 ∨ v1 = 1 := by rw [ev1]; exact (zb_ite (Or.inr rfl) (Or.inl rfl))
    exact zv_iret (ty := .boolean) rv1 G M (zn_Z bv1) dJ10_canEncode_2_16 h
  refine zv_if_lt (tgt := 15) G rx0 (by decide) dJ10_canEncode_2_1 (fun c3 => ?_) (fun c3 => ?_)
  · refine zv_iconst (a := 0) G (by decide) dJ10_canEncode_2_15 ?_
    exact kj2 _ (if_neg (fun q => q.1 c3)).symm
  · refine zv_iload_n G rfl rfl dJ10_canEncode_2_4 ?_
    refine zv_sipush (a := 255) G (by decide) dJ10_canEncode_2_5 ?_
    refine zv_icmp_gt (tgt := 15) G rx0 (zr_k 255 (by decide) (by decide)) (by decide) dJ10_canEncode_2_8 (fun c4 => ?_) (fun c4 => ?_)
    · refine zv_iconst (a := 0) G (by decide) dJ10_canEncode_2_15 ?_
      exact kj2 _ (if_neg (fun q => (fun q => q c4) q.2)).symm
    · refine zv_iconst (a := 1) G (by decide) dJ10_canEncode_2_11 ?_
      refine zv_goto (tgt := 16) G (by decide) dJ10_canEncode_2_12 ?_
      exact kj2 _ (if_pos ⟨c3, c4⟩).symm
set_option maxHeartbeats 4000000 in
set_option maxRecDepth 100000 in
theorem cpC_J10_indexOfChar_31 {Γ : ZG CW} {D : CD} {d p : Nat} (hp : D.K.1 = p) (G : ZOk Γ cJ10_indexOfChar RJ10 6 (KnC D) (ZC D)) (M : ZRm Γ (d + 1) D.lim (Option.some Jvm.ClassFile.FieldType.int) "indexOfChar" []) (S : SdC d D p Γ.l) (hl : Γ.l.stackTraces = false) (hk : 0 ≤ d) {w : CW} (h : pC_J10_indexOfChar_31 p (wpC p d) (fun v w => Γ.Q (.inl (some (ai v))) w) w) : ZV Γ w 31 [] [] := by
  refine zc_wk G hp (fun hw tw => ?_)
  refine zv_iconst (a := (-1)) G (by decide) dJ10_indexOfChar_31 ?_
  exact zv_iret (ty := .int) (zr_k (-1) (by decide) (by decide)) G M rfl dJ10_indexOfChar_32 h
set_option maxHeartbeats 4000000 in
set_option maxRecDepth 100000 in
theorem cpC_J10_indexOfChar_22 {Γ : ZG CW} {D : CD} {d p : Nat} (hp : D.K.1 = p) (G : ZOk Γ cJ10_indexOfChar RJ10 6 (KnC D) (ZC D)) (M : ZRm Γ (d + 1) D.lim (Option.some Jvm.ClassFile.FieldType.int) "indexOfChar" []) (S : SdC d D p Γ.l) (hl : Γ.l.stackTraces = false) (hk : 0 ≤ d) {x5 : Int} {w : CW} (rx5 : zr x5) (h : pC_J10_indexOfChar_22 p (wpC p d) (fun v w => Γ.Q (.inl (some (ai v))) w) x5 w) : ZV Γ w 22 [(5, ai x5)] [] := by
  refine zc_wk G hp (fun hw tw => ?_)
  refine zv_iload G rfl dJ10_indexOfChar_22 ?_
  exact zv_iret (ty := .int) rx5 G M rfl dJ10_indexOfChar_24 h
set_option maxHeartbeats 4000000 in
set_option maxRecDepth 100000 in
theorem cpC_J10_indexOfChar_7 {Γ : ZG CW} {D : CD} {d p : Nat} (hp : D.K.1 = p) (G : ZOk Γ cJ10_indexOfChar RJ10 6 (KnC D) (ZC D)) (M : ZRm Γ (d + 1) D.lim (Option.some Jvm.ClassFile.FieldType.int) "indexOfChar" []) (S : SdC d D p Γ.l) (hl : Γ.l.stackTraces = false) (hk : 0 ≤ d) {x0 : Nat} {x3 : Int} {x4 : Int} {x5 : Int} {w : CW} (rx3 : zr x3) (rx4 : zr x4) (rx5 : zr x5) (h : pC_J10_indexOfChar_7 p (wpC p d) (fun v w => Γ.Q (.inl (some (ai v))) w) x0 x3 x4 x5 w) : ZV Γ w 7 [(0, ar x0), (3, ai x3), (4, ai x4), (5, ai x5)] [] := by
  obtain ⟨I7, eI7⟩ : ∃ I : Int → CW → Prop, I = (fun x5 w => zr x5 → ZV Γ w 7 [(0, ar x0), (3, ai x3), (4, ai x4), (5, ai x5)] []) := ⟨_, rfl⟩
  have hI7 : ∀ (x5 : Int) (w : CW), I7 x5 w → zr x5 → ZV Γ w 7 [(0, ar x0), (3, ai x3), (4, ai x4), (5, ai x5)] [] := by subst eI7; exact fun _ _ z => z
  have hJ7 : ∀ (x5 : Int) (w : CW), (zr x5 → ZV Γ w 7 [(0, ar x0), (3, ai x3), (4, ai x4), (5, ai x5)] []) → I7 x5 w := by subst eI7; exact fun _ _ z => z
  refine hI7 x5 w (h I7 (fun x5 w h => hJ7 x5 w (fun rx5 => ?_))) rx5
  refine zc_wk G hp (fun hw tw => ?_)
  refine zv_iload G rfl dJ10_indexOfChar_7 ?_
  refine zv_iload_n G rfl rfl dJ10_indexOfChar_9 ?_
  refine zv_icmp_ge (tgt := 31) G rx5 rx3 (by decide) dJ10_indexOfChar_10 (fun c2 => ?_) (fun c2 => ?_)
  · have h := h.1 c2
    exact zv_pick [] rfl (cpC_J10_indexOfChar_31 hp G M S hl hk h)
  · have h := h.2 c2
    refine zv_aload_n G rfl rfl dJ10_indexOfChar_13 ?_
    refine zv_iload G rfl dJ10_indexOfChar_14 ?_
    have o3 := h.1
    have h := h.2
    refine zc_baldN G o3.1 rx5 o3.2.1 o3.2.2 dJ10_indexOfChar_16 ?_
    refine zv_iload G rfl dJ10_indexOfChar_17 ?_
    refine zv_icmp_ne (tgt := 25) G (aN_r hw _ _) rx4 (by decide) dJ10_indexOfChar_19 (fun c4 => ?_) (fun c4 => ?_)
    · have h := h.2 c4
      refine zv_iincN G rfl (by decide) dJ10_indexOfChar_25 (fun x5_5 ex5_5 => ?_)
      have h := h x5_5 ex5_5
      have rx5_5 : zr x5_5 := by rw [ex5_5]; exact w32_r _
      refine zv_goto (tgt := 7) G (by decide) dJ10_indexOfChar_28 ?_
      exact zv_pick [0, 3, 4, 5] rfl (hI7 _ _ h rx5_5)
    · have h := h.1 c4
      exact zv_pick [5] rfl (cpC_J10_indexOfChar_22 hp G M S hl hk rx5 h)
set_option maxHeartbeats 4000000 in
set_option maxRecDepth 100000 in
theorem cpC_J10_indexOfChar_0 {Γ : ZG CW} {D : CD} {d p : Nat} (hp : D.K.1 = p) (G : ZOk Γ cJ10_indexOfChar RJ10 6 (KnC D) (ZC D)) (M : ZRm Γ (d + 1) D.lim (Option.some Jvm.ClassFile.FieldType.int) "indexOfChar" []) (S : SdC d D p Γ.l) (hl : Γ.l.stackTraces = false) (hk : 0 ≤ d) {x0 : Nat} {x1 : Int} {x2 : Int} {x3 : Int} {w : CW} (rx1 : zr x1) (rx2 : zr x2) (rx3 : zr x3) (h : pC_J10_indexOfChar_0 p (wpC p d) (fun v w => Γ.Q (.inl (some (ai v))) w) x0 x1 x2 x3 w) : ZV Γ w 0 [(0, ar x0), (1, ai x1), (2, ai x2), (3, ai x3)] [] := by
  refine zc_wk G hp (fun hw tw => ?_)
  refine zv_iload_n G rfl rfl dJ10_indexOfChar_0 ?_
  refine zv_i2b G dJ10_indexOfChar_1 ?_
  refine zv_istoreN G (by decide) dJ10_indexOfChar_2 (fun x4_1 ex4_1 => ?_)
  have h := h x4_1 ex4_1
  have rx4_1 : zr x4_1 := by rw [ex4_1]; exact (show zr _ from by first | with_reducible exact i_and_r _ _ | with_reducible exact i_or_r _ _ | with_reducible exact i_shl_r _ _ | with_reducible exact i_shr_r _ _ | with_reducible exact i_ushr_r _ _ | with_reducible exact i_b_r _ | with_reducible exact i_c_r _ | with_reducible exact i_xor_r _ _ | with_reducible exact i_div_r _ _ | with_reducible exact i_rem_r _ _ | exact zr_of _)
  refine zv_iload_n G rfl rfl dJ10_indexOfChar_4 ?_
  refine zv_istore G (by decide) rfl dJ10_indexOfChar_5 ?_
  exact zv_pick [0, 3, 4, 5] rfl (cpC_J10_indexOfChar_7 hp G M S hl hk rx3 rx4_1 rx2 h)
set_option maxHeartbeats 4000000 in
set_option maxRecDepth 100000 in
theorem cpC_J10_charAt_0 {Γ : ZG CW} {D : CD} {d p : Nat} (hp : D.K.1 = p) (G : ZOk Γ cJ10_charAt RJ10 2 (KnC D) (ZC D)) (M : ZRm Γ (d + 1) D.lim (Option.some Jvm.ClassFile.FieldType.char) "charAt" []) (S : SdC d D p Γ.l) (hl : Γ.l.stackTraces = false) (hk : 0 ≤ d) {x0 : Nat} {x1 : Int} {w : CW} (rx1 : zr x1) (h : pC_J10_charAt_0 p (wpC p d) (fun v w => Γ.Q (.inl (some (ai v))) w) x0 x1 w) : ZV Γ w 0 [(0, ar x0), (1, ai x1)] [] := by
  refine zc_wk G hp (fun hw tw => ?_)
  refine zv_iload_n G rfl rfl dJ10_charAt_0 ?_
  refine zv_aload_n G rfl rfl dJ10_charAt_1 ?_
  have o1 := h.1
  have h := h.2
  refine zc_alen G o1 dJ10_charAt_2 ?_
  refine zv_callV (as := [ai x1, ai ((ln w x0 : Nat) : Int)]) (st := []) G M (zc_eS G q659 q485 q150 q486 md_J4_checkIndex rfl dJ10_charAt_3) (S 224 _ rfl _ _ _ h (zoks_cons rx1 (zoks_cons (zc_lnr hw _) zoks_nil))) (Or.inl ⟨rfl, rfl⟩) (zc_hk q486 q150) (by decide) (Nat.le_of_ble_eq_true rfl) (fun u2 h => ?_) (fun _ _ h => h.elim)
  refine zc_wk G hp (fun hu2 tu2 => ?_)
  refine zv_aload_n G rfl rfl dJ10_charAt_6 ?_
  refine zv_iload_n G rfl rfl dJ10_charAt_7 ?_
  have o4 := h.1
  have h := h.2
  refine zc_baldN G o4.1 rx1 o4.2.1 o4.2.2 dJ10_charAt_8 ?_
  refine zv_sipush (a := 255) G (by decide) dJ10_charAt_9 ?_
  refine zv_iand G dJ10_charAt_12 ?_
  refine zv_i2c G dJ10_charAt_13 ?_
  exact zv_iret (ty := .char) (show zr _ from by first | with_reducible exact i_and_r _ _ | with_reducible exact i_or_r _ _ | with_reducible exact i_shl_r _ _ | with_reducible exact i_shr_r _ _ | with_reducible exact i_ushr_r _ _ | with_reducible exact i_b_r _ | with_reducible exact i_c_r _ | with_reducible exact i_xor_r _ _ | with_reducible exact i_div_r _ _ | with_reducible exact i_rem_r _ _ | exact zr_of _) G M (zn_C h.1) dJ10_charAt_14 h.2
end ZCC5
