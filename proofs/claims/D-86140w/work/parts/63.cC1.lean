/-! walks of the component's methods, printed by tools/comp.py -/
section ZCC1
set_option maxHeartbeats 4000000 in
set_option maxRecDepth 100000 in
theorem cpC_X0_nameAt_30 {Γ : ZG CW} {D : CD} {d p : Nat} (hp : D.K.1 = p) (G : ZOk Γ cX0_nameAt RX0 3 (KnC D) (ZC D)) (M : ZRm Γ (d + 1) D.lim (Option.some Jvm.ClassFile.FieldType.int) "nameAt" []) (S : SdC d D p Γ.l) (hl : Γ.l.stackTraces = false) (hk : 0 ≤ d) {x2 : Int} {w : CW} (rx2 : zr x2) (h : pC_X0_nameAt_30 p (wpC p d) (fun v w => Γ.Q (.inl (some (ai v))) w) (fun x w => Γ.Q (.inr x) w) x2 w) : ZV Γ w 30 [(0, ar p), (2, ai x2)] [] := by
  refine zc_wk G hp (fun hw tw => ?_)
  refine zv_aload_n G rfl rfl dX0_nameAt_30 ?_
  refine zv_iload_n G rfl rfl dX0_nameAt_31 ?_
  refine zv_aload_n G rfl rfl dX0_nameAt_32 ?_
  refine zc_get (f := 17) (v := ai (fI w 17 p)) G (hFp tw rfl) rfl q2073 (Or.inl rfl) (cV_I (by decide) (by decide)) dX0_nameAt_33 ?_
  have kj8 : ∀ v3 : Int, v3 = (if (x2 = (fI w 17 p)) ∨ ((i_and (i_shr (fI w 18 p) x2) 1) = 0) then 1 else 0) → ZV Γ w 55 [(0, ar p), (2, ai x2)] (ai v3 :: ar p :: []) := by
    intro v3 ev3
    have h := h v3 ev3
    have rv3 : zr v3 := by rw [ev3]; exact (zr_ite (zr_k 1 (by decide) (by decide)) (zr_k 0 (by decide) (by decide)))
    have bv3 : v3 = 0 ∨ v3 = 1 := by rw [ev3]; exact (zb_ite (Or.inr rfl) (Or.inl rfl))
    refine zv_iconst (a := 3) G (by decide) dX0_nameAt_55 ?_
    refine zv_aload_n G rfl rfl dX0_nameAt_56 ?_
    refine zc_get (f := 11) (v := ai (fI w 11 p)) G (hFp tw rfl) rfl q2067 (Or.inl rfl) (cV_I (by decide) (by decide)) dX0_nameAt_57 ?_
    refine zv_callV (as := [ar p, ai v3, ai 3, ai (fI w 11 p)]) (st := []) G M (zc_eV (C := zcn 1) G q235 q237 qs5 (Or.inl ⟨rfl, rfl⟩) q238 md_X0_need (zc_rc G (zne tw tw.1 (by decide)) tw.1 (by decide) (by decide) rfl) rfl dX0_nameAt_60) (S 10 _ rfl _ _ _ h (zoks_cons trivial (zoks_cons rv3 (zoks_cons (zr_k 3 (by decide) (by decide)) (zoks_cons (hw.i 11 _ (by decide)) zoks_nil))))) (Or.inl ⟨rfl, rfl⟩) (zc_hk q238 q143) (by decide) (Nat.le_of_ble_eq_true rfl) (fun u4 h => ?_) (fun x6 u7 h => ?_)
    rotate_left
    · exact zx_leave G M rfl h
    refine zc_wk G hp (fun hu4 tu4 => ?_)
    refine zv_iload_n G rfl rfl dX0_nameAt_63 ?_
    exact zv_iret (ty := .int) rx2 G M rfl dX0_nameAt_64 h
  refine zv_icmp_eq (tgt := 50) G rx2 (hw.i 17 _ (by decide)) (by decide) dX0_nameAt_36 (fun c9 => ?_) (fun c9 => ?_)
  · refine zv_iconst (a := 1) G (by decide) dX0_nameAt_50 ?_
    refine zv_goto (tgt := 55) G (by decide) dX0_nameAt_51 ?_
    exact kj8 _ (if_pos (Or.inl c9)).symm
  · refine zv_aload_n G rfl rfl dX0_nameAt_39 ?_
    refine zc_get (f := 18) (v := ai (fI w 18 p)) G (hFp tw rfl) rfl q2074 (Or.inl rfl) (cV_I (by decide) (by decide)) dX0_nameAt_40 ?_
    refine zv_iload_n G rfl rfl dX0_nameAt_43 ?_
    refine zv_ishr G dX0_nameAt_44 ?_
    refine zv_iconst (a := 1) G (by decide) dX0_nameAt_45 ?_
    refine zv_iand G dX0_nameAt_46 ?_
    refine zv_if_ne (tgt := 54) G (by first | exact i_and_r _ _ | exact i_or_r _ _ | exact i_shl_r _ _ | exact i_shr_r _ _ | exact i_ushr_r _ _ | exact i_b_r _ | exact i_c_r _ | exact i_xor_r _ _ | exact i_div_r _ _ | exact i_rem_r _ _ | exact zr_of _) (by decide) dX0_nameAt_47 (fun c10 => ?_) (fun c10 => ?_)
    · refine zv_iconst (a := 0) G (by decide) dX0_nameAt_54 ?_
      exact kj8 _ (if_neg (fun q => q.elim c9 c10)).symm
    · refine zv_iconst (a := 1) G (by decide) dX0_nameAt_50 ?_
      refine zv_goto (tgt := 55) G (by decide) dX0_nameAt_51 ?_
      exact kj8 _ (if_pos (Or.inr c10)).symm
set_option maxHeartbeats 4000000 in
set_option maxRecDepth 100000 in
theorem cpC_X0_nameAt_2 {Γ : ZG CW} {D : CD} {d p : Nat} (hp : D.K.1 = p) (G : ZOk Γ cX0_nameAt RX0 3 (KnC D) (ZC D)) (M : ZRm Γ (d + 1) D.lim (Option.some Jvm.ClassFile.FieldType.int) "nameAt" []) (S : SdC d D p Γ.l) (hl : Γ.l.stackTraces = false) (hk : 0 ≤ d) {x2 : Int} {w : CW} (rx2 : zr x2) (h : pC_X0_nameAt_2 p (wpC p d) (fun v w => Γ.Q (.inl (some (ai v))) w) (fun x w => Γ.Q (.inr x) w) x2 w) : ZV Γ w 2 [(0, ar p), (2, ai x2)] [] := by
  obtain ⟨I2, eI2⟩ : ∃ I : Int → CW → Prop, I = (fun x2 w => zr x2 → ZV Γ w 2 [(0, ar p), (2, ai x2)] []) := ⟨_, rfl⟩
  have hI2 : ∀ (x2 : Int) (w : CW), I2 x2 w → zr x2 → ZV Γ w 2 [(0, ar p), (2, ai x2)] [] := by subst eI2; exact fun _ _ z => z
  have hJ2 : ∀ (x2 : Int) (w : CW), (zr x2 → ZV Γ w 2 [(0, ar p), (2, ai x2)] []) → I2 x2 w := by subst eI2; exact fun _ _ z => z
  refine hI2 x2 w (h I2 (fun x2 w h => hJ2 x2 w (fun rx2 => ?_))) rx2
  refine zc_wk G hp (fun hw tw => ?_)
  refine zv_iload_n G rfl rfl dX0_nameAt_2 ?_
  refine zv_aload_n G rfl rfl dX0_nameAt_3 ?_
  refine zc_get (f := 17) (v := ai (fI w 17 p)) G (hFp tw rfl) rfl q2073 (Or.inl rfl) (cV_I (by decide) (by decide)) dX0_nameAt_4 ?_
  have o1 := h.1
  have h := h.2
  have kt11 : ¬ ((fI w 17 p) ≤ x2) ∧ (¬ ((aW w (fR w 15 p) x2) = (fI w 12 p))) → ZV Γ w 24 [(0, ar p), (2, ai x2)] [] := by
    intro c13
    have h := h.1 c13
    refine zv_iincN G rfl (by decide) dX0_nameAt_24 (fun x2_2 ex2_2 => ?_)
    have h := h x2_2 ex2_2
    have rx2_2 : zr x2_2 := by rw [ex2_2]; exact w32_r _
    refine zv_goto (tgt := 2) G (by decide) dX0_nameAt_27 ?_
    exact zv_pick [0, 2] rfl (hI2 _ _ h rx2_2)
  have kf12 : ¬ (¬ ((fI w 17 p) ≤ x2) ∧ (¬ ((aW w (fR w 15 p) x2) = (fI w 12 p)))) → ZV Γ w 30 [(0, ar p), (2, ai x2)] [] := by
    intro c13
    have h := h.2 c13
    exact zv_pick [0, 2] rfl (cpC_X0_nameAt_30 hp G M S hl hk rx2 h)
  refine zv_icmp_ge (tgt := 30) G rx2 (hw.i 17 _ (by decide)) (by decide) dX0_nameAt_7 (fun c14 => ?_) (fun c14 => ?_)
  · exact kf12 (fun q => q.1 c14)
  · refine zv_aload_n G rfl rfl dX0_nameAt_10 ?_
    refine zc_get (f := 15) (v := ar (fR w 15 p)) G (hFp tw rfl) rfl q2071 (Or.inl rfl) (cV_R rfl) dX0_nameAt_11 ?_
    refine zv_iload_n G rfl rfl dX0_nameAt_14 ?_
    refine zc_laldN G (o1 c14).1 rx2 (o1 c14).2.1 (o1 c14).2.2 dX0_nameAt_15 ?_
    refine zv_aload_n G rfl rfl dX0_nameAt_16 ?_
    refine zc_get (f := 12) (v := al (fI w 12 p)) G (hFp tw rfl) rfl q2068 (Or.inl rfl) (cV_L rfl) dX0_nameAt_17 ?_
    refine zv_lcmp G (aW_r hw _ _) (hw.l 12 _ (by decide)) dX0_nameAt_20 ?_
    refine zv_lif_eq (tgt := 30) G (by decide) dX0_nameAt_21 (fun c15 => ?_) (fun c15 => ?_)
    · exact kf12 (fun q => (fun q => q c15) q.2)
    · exact kt11 ⟨c14, c15⟩
set_option maxHeartbeats 4000000 in
set_option maxRecDepth 100000 in
theorem cpC_X0_nameAt_0 {Γ : ZG CW} {D : CD} {d p : Nat} (hp : D.K.1 = p) (G : ZOk Γ cX0_nameAt RX0 3 (KnC D) (ZC D)) (M : ZRm Γ (d + 1) D.lim (Option.some Jvm.ClassFile.FieldType.int) "nameAt" []) (S : SdC d D p Γ.l) (hl : Γ.l.stackTraces = false) (hk : 0 ≤ d) {w : CW} (h : pC_X0_nameAt_0 p (wpC p d) (fun v w => Γ.Q (.inl (some (ai v))) w) (fun x w => Γ.Q (.inr x) w) w) : ZV Γ w 0 [(0, ar p)] [] := by
  refine zc_wk G hp (fun hw tw => ?_)
  refine zv_iconst (a := 0) G (by decide) dX0_nameAt_0 ?_
  refine zv_istore_n G rfl (by decide) rfl dX0_nameAt_1 ?_
  exact zv_pick [0, 2] rfl (cpC_X0_nameAt_2 hp G M S hl hk (zr_k 0 (by decide) (by decide)) h)
set_option maxHeartbeats 4000000 in
set_option maxRecDepth 100000 in
theorem cpC_X0_bind_0 {Γ : ZG CW} {D : CD} {d p : Nat} (hp : D.K.1 = p) (G : ZOk Γ cX0_bind RX0 3 (KnC D) (ZC D)) (M : ZRm Γ (d + 1) D.lim (Option.some Jvm.ClassFile.FieldType.int) "bind" []) (S : SdC d D p Γ.l) (hl : Γ.l.stackTraces = false) (hk : 0 ≤ d) {x1 : Int} {x2 : Int} {w : CW} (rx1 : zr x1) (rx2 : zr x2) (h : pC_X0_bind_0 p (wpC p d) (fun v w => Γ.Q (.inl (some (ai v))) w) (fun x w => Γ.Q (.inr x) w) x1 x2 w) : ZV Γ w 0 [(0, ar p), (1, ai x1), (2, ai x2)] [] := by
  refine zc_wk G hp (fun hw tw => ?_)
  refine zv_aload_n G rfl rfl dX0_bind_0 ?_
  refine zv_iload_n G rfl rfl dX0_bind_1 ?_
  refine zv_bipush (a := 8) G (by decide) dX0_bind_2 ?_
  have kj12 : ∀ v1 : Int, v1 = (if ¬ (8 ≤ x1) then 1 else 0) → ZV Γ w 12 [(0, ar p), (1, ai x1), (2, ai x2)] (ai v1 :: ar p :: []) := by
    intro v1 ev1
    have h := h v1 ev1
    have rv1 : zr v1 := by rw [ev1]; exact (zr_ite (zr_k 1 (by decide) (by decide)) (zr_k 0 (by decide) (by decide)))
    have bv1 : v1 = 0 ∨ v1 = 1 := by rw [ev1]; exact (zb_ite (Or.inr rfl) (Or.inl rfl))
    refine zv_bipush (a := 9) G (by decide) dX0_bind_12 ?_
    refine zv_aload_n G rfl rfl dX0_bind_14 ?_
    refine zc_get (f := 11) (v := ai (fI w 11 p)) G (hFp tw rfl) rfl q2067 (Or.inl rfl) (cV_I (by decide) (by decide)) dX0_bind_15 ?_
    refine zv_callV (as := [ar p, ai v1, ai 9, ai (fI w 11 p)]) (st := []) G M (zc_eV (C := zcn 1) G q235 q237 qs5 (Or.inl ⟨rfl, rfl⟩) q238 md_X0_need (zc_rc G (zne tw tw.1 (by decide)) tw.1 (by decide) (by decide) rfl) rfl dX0_bind_18) (S 10 _ rfl _ _ _ h (zoks_cons trivial (zoks_cons rv1 (zoks_cons (zr_k 9 (by decide) (by decide)) (zoks_cons (hw.i 11 _ (by decide)) zoks_nil))))) (Or.inl ⟨rfl, rfl⟩) (zc_hk q238 q143) (by decide) (Nat.le_of_ble_eq_true rfl) (fun u2 h => ?_) (fun x10 u11 h => ?_)
    rotate_left
    · exact zx_leave G M rfl h
    refine zc_wk G hp (fun hu2 tu2 => ?_)
    refine zv_aload_n G rfl rfl dX0_bind_21 ?_
    refine zc_get (f := 15) (v := ar (fR u2 15 p)) G (hFp tu2 rfl) rfl q2071 (Or.inl rfl) (cV_R rfl) dX0_bind_22 ?_
    refine zv_iload_n G rfl rfl dX0_bind_25 ?_
    refine zv_aload_n G rfl rfl dX0_bind_26 ?_
    refine zc_get (f := 12) (v := al (fI u2 12 p)) G (hFp tu2 rfl) rfl q2068 (Or.inl rfl) (cV_L rfl) dX0_bind_27 ?_
    have o5 := h.1
    have h := h.2
    refine zc_last G o5.1 rx1 (hu2.l 12 _ (by decide)) o5.2.1 o5.2.2 dX0_bind_30 (fun u4 eu4 => ?_)
    have h := h u4 eu4
    refine zc_wk G hp (fun hu4 tu4 => ?_)
    refine zv_aload_n G rfl rfl dX0_bind_31 ?_
    refine zv_aload_n G rfl rfl dX0_bind_32 ?_
    refine zc_get (f := 17) (v := ai (fI u4 17 p)) G (hFp tu4 rfl) rfl q2073 (Or.inl rfl) (cV_I (by decide) (by decide)) dX0_bind_33 ?_
    refine zv_iload_n G rfl rfl dX0_bind_36 ?_
    refine zv_iconst (a := 1) G (by decide) dX0_bind_37 ?_
    refine zv_iadd G dX0_bind_38 ?_
    refine zc_mmax G M q884 q368 q153 q369 (hu4.i 17 _ (by decide)) (w32_r _) (Nat.le_of_ble_eq_true rfl) dX0_bind_39 ?_
    refine zc_putI (f := 17) G M (hPp tu4 rfl) rfl q2073 (Or.inl rfl) (Or.inl rfl) (zfty_17) rfl rfl (by decide) (by decide) (zr_ite (w32_r _) (hu4.i 17 _ (by decide))) dX0_bind_42 (fun u6 eu6 => ?_)
    have h := h u6 eu6
    refine zc_wk G hp (fun hu6 tu6 => ?_)
    refine zv_aload_n G rfl rfl dX0_bind_45 ?_
    refine zc_get (f := 16) (v := ar (fR u6 16 p)) G (hFp tu6 rfl) rfl q2072 (Or.inl rfl) (cV_R rfl) dX0_bind_46 ?_
    refine zv_iload_n G rfl rfl dX0_bind_49 ?_
    refine zv_iload_n G rfl rfl dX0_bind_50 ?_
    have o8 := h.1
    have h := h.2
    refine zc_iast G o8.1 rx1 rx2 o8.2.1 o8.2.2 dX0_bind_51 (fun u7 eu7 => ?_)
    have h := h u7 eu7
    refine zc_wk G hp (fun hu7 tu7 => ?_)
    refine zv_aload_n G rfl rfl dX0_bind_52 ?_
    refine zv_dup G rfl dX0_bind_53 ?_
    refine zc_get (f := 18) (v := ai (fI u7 18 p)) G (hFp tu7 rfl) rfl q2074 (Or.inl rfl) (cV_I (by decide) (by decide)) dX0_bind_54 ?_
    refine zv_iconst (a := 1) G (by decide) dX0_bind_57 ?_
    refine zv_iload_n G rfl rfl dX0_bind_58 ?_
    refine zv_ishl G dX0_bind_59 ?_
    refine zv_ior G dX0_bind_60 ?_
    refine zc_putI (f := 18) G M (hPp tu7 rfl) rfl q2074 (Or.inl rfl) (Or.inl rfl) (zfty_18) rfl rfl (by decide) (by decide) (by first | exact i_and_r _ _ | exact i_or_r _ _ | exact i_shl_r _ _ | exact i_shr_r _ _ | exact i_ushr_r _ _ | exact i_b_r _ | exact i_c_r _ | exact i_xor_r _ _ | exact i_div_r _ _ | exact i_rem_r _ _ | exact zr_of _) dX0_bind_61 (fun u9 eu9 => ?_)
    have h := h u9 eu9
    refine zc_wk G hp (fun hu9 tu9 => ?_)
    refine zv_iload_n G rfl rfl dX0_bind_64 ?_
    exact zv_iret (ty := .int) rx1 G M rfl dX0_bind_65 h
  refine zv_icmp_ge (tgt := 11) G rx1 (zr_k 8 (by decide) (by decide)) (by decide) dX0_bind_4 (fun c13 => ?_) (fun c13 => ?_)
  · refine zv_iconst (a := 0) G (by decide) dX0_bind_11 ?_
    exact kj12 _ (if_neg (fun q => q c13)).symm
  · refine zv_iconst (a := 1) G (by decide) dX0_bind_7 ?_
    refine zv_goto (tgt := 12) G (by decide) dX0_bind_8 ?_
    exact kj12 _ (if_pos c13).symm
set_option maxHeartbeats 4000000 in
set_option maxRecDepth 100000 in
theorem cpC_X0_range_46 {Γ : ZG CW} {D : CD} {d p : Nat} (hp : D.K.1 = p) (G : ZOk Γ cX0_range RX0 4 (KnC D) (ZC D)) (M : ZRm Γ (d + 1) D.lim (Option.some (Jvm.ClassFile.FieldType.object "LetterPost$Pattern")) "range" []) (S : SdC d D p Γ.l) (hl : Γ.l.stackTraces = false) (hk : 0 ≤ d) {x2 : Int} {x3 : Int} {w : CW} (rx2 : zr x2) (rx3 : zr x3) (h : pC_X0_range_46 p (wpC p d) (fun v w => Γ.Q (.inl (some (ar v))) w) (fun x w => Γ.Q (.inr x) w) x2 x3 w) : ZV Γ w 46 [(2, ai x2), (3, ai x3)] [] := by
  refine zc_wk G hp (fun hw tw => ?_)
  have o7 := h.1
  have h := h.2
  refine zc_new (ci := 6) (t := 7) (n := 3) G M rfl rfl (by decide) rfl q897 q898 q165 o7 dX0_range_46 (fun u6 eu6 => ?_)
  have h := h u6 eu6
  refine zc_wk G hp (fun hu6 tu6 => ?_)
  refine zv_dup G rfl dX0_range_49 ?_
  refine zv_iload_n G rfl rfl dX0_range_50 ?_
  refine zv_iload_n G rfl rfl dX0_range_51 ?_
  refine zv_callV (as := [ar (cz w + 1), ai x2, ai x3]) (st := [ar (cz w + 1)]) G M (zc_eI G rfl q899 q900 q901 md_X9_init (Nat.succ_ne_zero _) rfl dX0_range_52) (S 99 _ rfl _ _ _ h (zoks_cons trivial (zoks_cons rx2 (zoks_cons rx3 zoks_nil)))) (Or.inl ⟨rfl, rfl⟩) (zc_hk q901 q165) (by decide) (Nat.le_of_ble_eq_true rfl) (fun u8 h => ?_) (fun _ _ h => h.elim)
  refine zc_wk G hp (fun hu8 tu8 => ?_)
  exact zv_aret G M (Or.inl ⟨_, rfl⟩) dX0_range_55 h
set_option maxHeartbeats 4000000 in
set_option maxRecDepth 100000 in
theorem cpC_X0_range_0 {Γ : ZG CW} {D : CD} {d p : Nat} (hp : D.K.1 = p) (G : ZOk Γ cX0_range RX0 4 (KnC D) (ZC D)) (M : ZRm Γ (d + 1) D.lim (Option.some (Jvm.ClassFile.FieldType.object "LetterPost$Pattern")) "range" []) (S : SdC d D p Γ.l) (hl : Γ.l.stackTraces = false) (hk : 0 ≤ d) {x1 : Int} {w : CW} (rx1 : zr x1) (h : pC_X0_range_0 p (wpC p d) (fun v w => Γ.Q (.inl (some (ar v))) w) (fun x w => Γ.Q (.inr x) w) x1 w) : ZV Γ w 0 [(0, ar p), (1, ai x1)] [] := by
  refine zc_wk G hp (fun hw tw => ?_)
  refine zv_aload_n G rfl rfl dX0_range_0 ?_
  refine zv_callI (as := [ar p]) (st := []) G M (zc_eV (C := zcn 1) G q889 q891 qs23 (Or.inl ⟨rfl, rfl⟩) q892 md_X0_readWhole (zc_rc G (zne tw tw.1 (by decide)) tw.1 (by decide) (by decide) rfl) rfl dX0_range_1) (S 27 _ rfl _ _ _ h (zoks_cons trivial zoks_nil)) (Or.inl ⟨rfl, rfl⟩) (zc_hk q892 q143) (by decide) (Nat.le_of_ble_eq_true rfl) (fun v2 u1 rv2 h => ?_) (fun x29 u30 h => ?_)
  rotate_left
  · exact zx_leave G M rfl h
  refine zc_wk G hp (fun hu1 tu1 => ?_)
  refine zv_istore_n G rfl (by decide) rfl dX0_range_4 ?_
  refine zv_iload_n G rfl rfl dX0_range_5 ?_
  refine zv_istore_n G rfl (by decide) rfl dX0_range_6 ?_
  refine zv_aload_n G rfl rfl dX0_range_7 ?_
  refine zv_bipush (a := 46) G (by decide) dX0_range_8 ?_
  refine zv_callI (as := [ar p, ai 46]) (st := []) G M (zc_eV (C := zcn 1) G q709 q711 qs12 (Or.inl ⟨rfl, rfl⟩) q712 md_X0_isSign (zc_rc G (zne tu1 tu1.1 (by decide)) tu1.1 (by decide) (by decide) rfl) rfl dX0_range_10) (S 16 _ rfl _ _ _ h (zoks_cons trivial (zoks_cons (zr_k 46 (by decide) (by decide)) zoks_nil))) (Or.inl ⟨rfl, rfl⟩) (zc_hk q712 q143) (by decide) (Nat.le_of_ble_eq_true rfl) (fun v4 u3 rv4 h => ?_) (fun _ _ h => h.elim)
  refine zc_wk G hp (fun hu3 tu3 => ?_)
  refine zv_if_eq (tgt := 46) G rv4 (by decide) dX0_range_13 (fun c5 => ?_) (fun c5 => ?_)
  · have h := h.1 c5
    exact zv_pick [2, 3] rfl (cpC_X0_range_46 hp G M S hl hk rv2 rv2 h)
  · have h := h.2 c5
    refine zv_aload_n G rfl rfl dX0_range_16 ?_
    refine zv_callV (as := [ar p]) (st := []) G M (zc_eV (C := zcn 1) G q213 q215 qs1 (Or.inl ⟨rfl, rfl⟩) q216 md_X0_next (zc_rc G (zne tu3 tu3.1 (by decide)) tu3.1 (by decide) (by decide) rfl) rfl dX0_range_17) (S 4 _ rfl _ _ _ h (zoks_cons trivial zoks_nil)) (Or.inl ⟨rfl, rfl⟩) (zc_hk q216 q143) (by decide) (Nat.le_of_ble_eq_true rfl) (fun u10 h => ?_) (fun x27 u28 h => ?_)
    rotate_left
    · exact zx_leave G M rfl h
    refine zc_wk G hp (fun hu10 tu10 => ?_)
    refine zv_aload_n G rfl rfl dX0_range_20 ?_
    refine zv_callI (as := [ar p]) (st := []) G M (zc_eV (C := zcn 1) G q893 q895 qs24 (Or.inl ⟨rfl, rfl⟩) q896 md_X0_signed (zc_rc G (zne tu10 tu10.1 (by decide)) tu10.1 (by decide) (by decide) rfl) rfl dX0_range_21) (S 28 _ rfl _ _ _ h (zoks_cons trivial zoks_nil)) (Or.inl ⟨rfl, rfl⟩) (zc_hk q896 q143) (by decide) (Nat.le_of_ble_eq_true rfl) (fun v13 u12 rv13 h => ?_) (fun x25 u26 h => ?_)
    rotate_left
    · exact zx_leave G M rfl h
    refine zc_wk G hp (fun hu12 tu12 => ?_)
    refine zv_istore_n G rfl (by decide) rfl dX0_range_24 ?_
    refine zv_aload_n G rfl rfl dX0_range_25 ?_
    refine zv_iload_n G rfl rfl dX0_range_26 ?_
    refine zv_iload_n G rfl rfl dX0_range_27 ?_
    have kj23 : ∀ v14 : Int, v14 = (if ¬ (v13 < v2) then 1 else 0) → ZV Γ u12 36 [(3, ai v13), (2, ai v2), (0, ar p), (1, ai x1)] (ai v14 :: ar p :: []) := by
      intro v14 ev14
      have h := h v14 ev14
      have rv14 : zr v14 := by rw [ev14]; exact (zr_ite (zr_k 1 (by decide) (by decide)) (zr_k 0 (by decide) (by decide)))
      have bv14 : v14 = 0 ∨ v14 = 1 := by rw [ev14]; exact (zb_ite (Or.inr rfl) (Or.inl rfl))
      refine zv_bipush (a := 7) G (by decide) dX0_range_36 ?_
      refine zv_iload_n G rfl rfl dX0_range_38 ?_
      refine zv_callV (as := [ar p, ai v14, ai 7, ai x1]) (st := []) G M (zc_eV (C := zcn 1) G q235 q237 qs5 (Or.inl ⟨rfl, rfl⟩) q238 md_X0_need (zc_rc G (zne tu12 tu12.1 (by decide)) tu12.1 (by decide) (by decide) rfl) rfl dX0_range_39) (S 10 _ rfl _ _ _ h (zoks_cons trivial (zoks_cons rv14 (zoks_cons (zr_k 7 (by decide) (by decide)) (zoks_cons rx1 zoks_nil))))) (Or.inl ⟨rfl, rfl⟩) (zc_hk q238 q143) (by decide) (Nat.le_of_ble_eq_true rfl) (fun u15 h => ?_) (fun x21 u22 h => ?_)
      rotate_left
      · exact zx_leave G M rfl h
      refine zc_wk G hp (fun hu15 tu15 => ?_)
      refine zv_aload_n G rfl rfl dX0_range_42 ?_
      refine zv_callV (as := [ar p]) (st := []) G M (zc_eV (C := zcn 1) G q213 q215 qs1 (Or.inl ⟨rfl, rfl⟩) q216 md_X0_next (zc_rc G (zne tu15 tu15.1 (by decide)) tu15.1 (by decide) (by decide) rfl) rfl dX0_range_43) (S 4 _ rfl _ _ _ h (zoks_cons trivial zoks_nil)) (Or.inl ⟨rfl, rfl⟩) (zc_hk q216 q143) (by decide) (Nat.le_of_ble_eq_true rfl) (fun u17 h => ?_) (fun x19 u20 h => ?_)
      rotate_left
      · exact zx_leave G M rfl h
      refine zc_wk G hp (fun hu17 tu17 => ?_)
      exact zv_pick [2, 3] rfl (cpC_X0_range_46 hp G M S hl hk rv2 rv13 h)
    refine zv_icmp_gt (tgt := 35) G rv2 rv13 (by decide) dX0_range_28 (fun c24 => ?_) (fun c24 => ?_)
    · refine zv_iconst (a := 0) G (by decide) dX0_range_35 ?_
      exact kj23 _ (if_neg (fun q => q c24)).symm
    · refine zv_iconst (a := 1) G (by decide) dX0_range_31 ?_
      refine zv_goto (tgt := 36) G (by decide) dX0_range_32 ?_
      exact kj23 _ (if_pos c24).symm
set_option maxHeartbeats 4000000 in
set_option maxRecDepth 100000 in
theorem cpC_X0_readWhole_0 {Γ : ZG CW} {D : CD} {d p : Nat} (hp : D.K.1 = p) (G : ZOk Γ cX0_readWhole RX0 2 (KnC D) (ZC D)) (M : ZRm Γ (d + 1) D.lim (Option.some Jvm.ClassFile.FieldType.int) "readWhole" []) (S : SdC d D p Γ.l) (hl : Γ.l.stackTraces = false) (hk : 0 ≤ d) {w : CW} (h : pC_X0_readWhole_0 p (wpC p d) (fun v w => Γ.Q (.inl (some (ai v))) w) (fun x w => Γ.Q (.inr x) w) w) : ZV Γ w 0 [(0, ar p)] [] := by
  refine zc_wk G hp (fun hw tw => ?_)
  refine zv_aload_n G rfl rfl dX0_readWhole_0 ?_
  refine zv_callI (as := [ar p]) (st := []) G M (zc_eV (C := zcn 1) G q893 q895 qs24 (Or.inl ⟨rfl, rfl⟩) q896 md_X0_signed (zc_rc G (zne tw tw.1 (by decide)) tw.1 (by decide) (by decide) rfl) rfl dX0_readWhole_1) (S 28 _ rfl _ _ _ h (zoks_cons trivial zoks_nil)) (Or.inl ⟨rfl, rfl⟩) (zc_hk q896 q143) (by decide) (Nat.le_of_ble_eq_true rfl) (fun v2 u1 rv2 h => ?_) (fun x7 u8 h => ?_)
  rotate_left
  · exact zx_leave G M rfl h
  refine zc_wk G hp (fun hu1 tu1 => ?_)
  refine zv_istore_n G rfl (by decide) rfl dX0_readWhole_4 ?_
  refine zv_aload_n G rfl rfl dX0_readWhole_5 ?_
  refine zv_callV (as := [ar p]) (st := []) G M (zc_eV (C := zcn 1) G q213 q215 qs1 (Or.inl ⟨rfl, rfl⟩) q216 md_X0_next (zc_rc G (zne tu1 tu1.1 (by decide)) tu1.1 (by decide) (by decide) rfl) rfl dX0_readWhole_6) (S 4 _ rfl _ _ _ h (zoks_cons trivial zoks_nil)) (Or.inl ⟨rfl, rfl⟩) (zc_hk q216 q143) (by decide) (Nat.le_of_ble_eq_true rfl) (fun u3 h => ?_) (fun x5 u6 h => ?_)
  rotate_left
  · exact zx_leave G M rfl h
  refine zc_wk G hp (fun hu3 tu3 => ?_)
  refine zv_iload_n G rfl rfl dX0_readWhole_9 ?_
  exact zv_iret (ty := .int) rv2 G M rfl dX0_readWhole_10 h
set_option maxHeartbeats 4000000 in
set_option maxRecDepth 100000 in
theorem cpC_X0_signed_15 {Γ : ZG CW} {D : CD} {d p : Nat} (hp : D.K.1 = p) (G : ZOk Γ cX0_signed RX0 2 (KnC D) (ZC D)) (M : ZRm Γ (d + 1) D.lim (Option.some Jvm.ClassFile.FieldType.int) "signed" []) (S : SdC d D p Γ.l) (hl : Γ.l.stackTraces = false) (hk : 0 ≤ d) {x1 : Int} {w : CW} (rx1 : zr x1) (h : pC_X0_signed_15 p (wpC p d) (fun v w => Γ.Q (.inl (some (ai v))) w) (fun x w => Γ.Q (.inr x) w) x1 w) : ZV Γ w 15 [(0, ar p), (1, ai x1)] [] := by
  refine zc_wk G hp (fun hw tw => ?_)
  refine zv_aload_n G rfl rfl dX0_signed_15 ?_
  refine zv_aload_n G rfl rfl dX0_signed_16 ?_
  refine zc_get (f := 10) (v := ai (fI w 10 p)) G (hFp tw rfl) rfl q2066 (Or.inl rfl) (cV_I (by decide) (by decide)) dX0_signed_17 ?_
  refine zv_iconst (a := 3) G (by decide) dX0_signed_20 ?_
  have kj12 : ∀ v4 : Int, v4 = (if (fI w 10 p) = 3 then 1 else 0) → ZV Γ w 29 [(0, ar p), (1, ai x1)] (ai v4 :: ar p :: []) := by
    intro v4 ev4
    have h := h v4 ev4
    have rv4 : zr v4 := by rw [ev4]; exact (zr_ite (zr_k 1 (by decide) (by decide)) (zr_k 0 (by decide) (by decide)))
    have bv4 : v4 = 0 ∨ v4 = 1 := by rw [ev4]; exact (zb_ite (Or.inr rfl) (Or.inl rfl))
    refine zv_callV (as := [ar p, ai v4]) (st := []) G M (zc_eV (C := zcn 1) G q667 q669 qs10 (Or.inl ⟨rfl, rfl⟩) q670 md_X0_want (zc_rc G (zne tw tw.1 (by decide)) tw.1 (by decide) (by decide) rfl) rfl dX0_signed_29) (S 14 _ rfl _ _ _ h (zoks_cons trivial (zoks_cons rv4 zoks_nil))) (Or.inl ⟨rfl, rfl⟩) (zc_hk q670 q143) (by decide) (Nat.le_of_ble_eq_true rfl) (fun u5 h => ?_) (fun x10 u11 h => ?_)
    rotate_left
    · exact zx_leave G M rfl h
    refine zc_wk G hp (fun hu5 tu5 => ?_)
    refine zv_iload_n G rfl rfl dX0_signed_32 ?_
    have kj8 : ∀ v7 : Int, v7 = (if ¬ (x1 = 0) then w32 (-(fI u5 13 p)) else fI u5 13 p) → ZV Γ u5 48 [(0, ar p), (1, ai x1)] (ai v7 :: []) := by
      intro v7 ev7
      have h := h v7 ev7
      have rv7 : zr v7 := by rw [ev7]; exact (zr_ite (w32_r _) (hu5.i 13 _ (by decide)))
      exact zv_iret (ty := .int) rv7 G M rfl dX0_signed_48 h
    refine zv_if_eq (tgt := 44) G rx1 (by decide) dX0_signed_33 (fun c9 => ?_) (fun c9 => ?_)
    · refine zv_aload_n G rfl rfl dX0_signed_44 ?_
      refine zc_get (f := 13) (v := ai (fI u5 13 p)) G (hFp tu5 rfl) rfl q2069 (Or.inl rfl) (cV_I (by decide) (by decide)) dX0_signed_45 ?_
      exact kj8 _ (if_neg (fun q => q c9)).symm
    · refine zv_aload_n G rfl rfl dX0_signed_36 ?_
      refine zc_get (f := 13) (v := ai (fI u5 13 p)) G (hFp tu5 rfl) rfl q2069 (Or.inl rfl) (cV_I (by decide) (by decide)) dX0_signed_37 ?_
      refine zv_ineg G dX0_signed_40 ?_
      refine zv_goto (tgt := 48) G (by decide) dX0_signed_41 ?_
      exact kj8 _ (if_pos c9).symm
  refine zv_icmp_ne (tgt := 28) G (hw.i 10 _ (by decide)) (zr_k 3 (by decide) (by decide)) (by decide) dX0_signed_21 (fun c13 => ?_) (fun c13 => ?_)
  · refine zv_iconst (a := 0) G (by decide) dX0_signed_28 ?_
    exact kj12 _ (if_neg c13).symm
  · refine zv_iconst (a := 1) G (by decide) dX0_signed_24 ?_
    refine zv_goto (tgt := 29) G (by decide) dX0_signed_25 ?_
    exact kj12 _ (if_pos c13).symm
set_option maxHeartbeats 4000000 in
set_option maxRecDepth 100000 in
theorem cpC_X0_signed_0 {Γ : ZG CW} {D : CD} {d p : Nat} (hp : D.K.1 = p) (G : ZOk Γ cX0_signed RX0 2 (KnC D) (ZC D)) (M : ZRm Γ (d + 1) D.lim (Option.some Jvm.ClassFile.FieldType.int) "signed" []) (S : SdC d D p Γ.l) (hl : Γ.l.stackTraces = false) (hk : 0 ≤ d) {w : CW} (h : pC_X0_signed_0 p (wpC p d) (fun v w => Γ.Q (.inl (some (ai v))) w) (fun x w => Γ.Q (.inr x) w) w) : ZV Γ w 0 [(0, ar p)] [] := by
  refine zc_wk G hp (fun hw tw => ?_)
  refine zv_aload_n G rfl rfl dX0_signed_0 ?_
  refine zv_bipush (a := 45) G (by decide) dX0_signed_1 ?_
  refine zv_callI (as := [ar p, ai 45]) (st := []) G M (zc_eV (C := zcn 1) G q709 q711 qs12 (Or.inl ⟨rfl, rfl⟩) q712 md_X0_isSign (zc_rc G (zne tw tw.1 (by decide)) tw.1 (by decide) (by decide) rfl) rfl dX0_signed_3) (S 16 _ rfl _ _ _ h (zoks_cons trivial (zoks_cons (zr_k 45 (by decide) (by decide)) zoks_nil))) (Or.inl ⟨rfl, rfl⟩) (zc_hk q712 q143) (by decide) (Nat.le_of_ble_eq_true rfl) (fun v2 u1 rv2 h => ?_) (fun _ _ h => h.elim)
  refine zc_wk G hp (fun hu1 tu1 => ?_)
  refine zv_istore_n G rfl (by decide) rfl dX0_signed_6 ?_
  refine zv_iload_n G rfl rfl dX0_signed_7 ?_
  refine zv_if_eq (tgt := 15) G rv2 (by decide) dX0_signed_8 (fun c3 => ?_) (fun c3 => ?_)
  · have h := h.1 c3
    exact zv_pick [0, 1] rfl (cpC_X0_signed_15 hp G M S hl hk rv2 h)
  · have h := h.2 c3
    refine zv_aload_n G rfl rfl dX0_signed_11 ?_
    refine zv_callV (as := [ar p]) (st := []) G M (zc_eV (C := zcn 1) G q213 q215 qs1 (Or.inl ⟨rfl, rfl⟩) q216 md_X0_next (zc_rc G (zne tu1 tu1.1 (by decide)) tu1.1 (by decide) (by decide) rfl) rfl dX0_signed_12) (S 4 _ rfl _ _ _ h (zoks_cons trivial zoks_nil)) (Or.inl ⟨rfl, rfl⟩) (zc_hk q216 q143) (by decide) (Nat.le_of_ble_eq_true rfl) (fun u14 h => ?_) (fun x16 u17 h => ?_)
    rotate_left
    · exact zx_leave G M rfl h
    refine zc_wk G hp (fun hu14 tu14 => ?_)
    exact zv_pick [0, 1] rfl (cpC_X0_signed_15 hp G M S hl hk rv2 h)
set_option maxHeartbeats 4000000 in
set_option maxRecDepth 100000 in
theorem cpC_X0_kinded_225 {Γ : ZG CW} {D : CD} {d p : Nat} (hp : D.K.1 = p) (G : ZOk Γ cX0_kinded RX0 6 (KnC D) (ZC D)) (M : ZRm Γ (d + 1) D.lim (Option.some (Jvm.ClassFile.FieldType.object "LetterPost$Pattern")) "kinded" []) (S : SdC d D p Γ.l) (hl : Γ.l.stackTraces = false) (hk : 0 ≤ d) {x3 : Nat} {x4 : Nat} {w : CW} (h : pC_X0_kinded_225 p (wpC p d) (fun v w => Γ.Q (.inl (some (ar v))) w) (fun x w => Γ.Q (.inr x) w) x3 x4 w) : ZV Γ w 225 [(0, ar p), (3, ar x3), (4, ar x4)] [] := by
  refine zc_wk G hp (fun hw tw => ?_)
  refine zv_aload_n G rfl rfl dX0_kinded_225 ?_
  refine zv_aload_n G rfl rfl dX0_kinded_226 ?_
  refine zv_bipush (a := 44) G (by decide) dX0_kinded_227 ?_
  refine zv_callI (as := [ar p, ai 44]) (st := [ar p]) G M (zc_eV (C := zcn 1) G q709 q711 qs12 (Or.inl ⟨rfl, rfl⟩) q712 md_X0_isSign (zc_rc G (zne tw tw.1 (by decide)) tw.1 (by decide) (by decide) rfl) rfl dX0_kinded_229) (S 16 _ rfl _ _ _ h (zoks_cons trivial (zoks_cons (zr_k 44 (by decide) (by decide)) zoks_nil))) (Or.inl ⟨rfl, rfl⟩) (zc_hk q712 q143) (by decide) (Nat.le_of_ble_eq_true rfl) (fun v30 u29 rv30 h => ?_) (fun _ _ h => h.elim)
  refine zc_wk G hp (fun hu29 tu29 => ?_)
  have kj45 : ∀ v31 : Int, v31 = (if v30 = 0 then 1 else 0) → ZV Γ u29 240 [(0, ar p), (3, ar x3), (4, ar x4)] (ai v31 :: ar p :: []) := by
    intro v31 ev31
    have h := h v31 ev31
    have rv31 : zr v31 := by rw [ev31]; exact (zr_ite (zr_k 1 (by decide) (by decide)) (zr_k 0 (by decide) (by decide)))
    have bv31 : v31 = 0 ∨ v31 = 1 := by rw [ev31]; exact (zb_ite (Or.inr rfl) (Or.inl rfl))
    refine zv_bipush (a := 6) G (by decide) dX0_kinded_240 ?_
    refine zv_aload_n G rfl rfl dX0_kinded_242 ?_
    refine zc_get (f := 11) (v := ai (fI u29 11 p)) G (hFp tu29 rfl) rfl q2067 (Or.inl rfl) (cV_I (by decide) (by decide)) dX0_kinded_243 ?_
    refine zv_callV (as := [ar p, ai v31, ai 6, ai (fI u29 11 p)]) (st := []) G M (zc_eV (C := zcn 1) G q235 q237 qs5 (Or.inl ⟨rfl, rfl⟩) q238 md_X0_need (zc_rc G (zne tu29 tu29.1 (by decide)) tu29.1 (by decide) (by decide) rfl) rfl dX0_kinded_246) (S 10 _ rfl _ _ _ h (zoks_cons trivial (zoks_cons rv31 (zoks_cons (zr_k 6 (by decide) (by decide)) (zoks_cons (hu29.i 11 _ (by decide)) zoks_nil))))) (Or.inl ⟨rfl, rfl⟩) (zc_hk q238 q143) (by decide) (Nat.le_of_ble_eq_true rfl) (fun u32 h => ?_) (fun x43 u44 h => ?_)
    rotate_left
    · exact zx_leave G M rfl h
    refine zc_wk G hp (fun hu32 tu32 => ?_)
    refine zv_aload_n G rfl rfl dX0_kinded_249 ?_
    refine zv_bipush (a := 41) G (by decide) dX0_kinded_250 ?_
    refine zv_callV (as := [ar p, ai 41]) (st := []) G M (zc_eV (C := zcn 1) G q720 q722 qs14 (Or.inl ⟨rfl, rfl⟩) q723 md_X0_skip (zc_rc G (zne tu32 tu32.1 (by decide)) tu32.1 (by decide) (by decide) rfl) rfl dX0_kinded_252) (S 18 _ rfl _ _ _ h (zoks_cons trivial (zoks_cons (zr_k 41 (by decide) (by decide)) zoks_nil))) (Or.inl ⟨rfl, rfl⟩) (zc_hk q723 q143) (by decide) (Nat.le_of_ble_eq_true rfl) (fun u34 h => ?_) (fun x41 u42 h => ?_)
    rotate_left
    · exact zx_leave G M rfl h
    refine zc_wk G hp (fun hu34 tu34 => ?_)
    refine zv_aload_n G rfl rfl dX0_kinded_255 ?_
    refine zv_dup G rfl dX0_kinded_256 ?_
    refine zc_get (f := 19) (v := ai (fI u34 19 p)) G (hFp tu34 rfl) rfl q2075 (Or.inl rfl) (cV_I (by decide) (by decide)) dX0_kinded_257 ?_
    refine zv_iconst (a := 1) G (by decide) dX0_kinded_260 ?_
    refine zv_isub G dX0_kinded_261 ?_
    refine zc_putI (f := 19) G M (hPp tu34 rfl) rfl q2075 (Or.inl rfl) (Or.inl rfl) (zfty_19) rfl rfl (by decide) (by decide) (w32_r _) dX0_kinded_262 (fun u36 eu36 => ?_)
    have h := h u36 eu36
    refine zc_wk G hp (fun hu36 tu36 => ?_)
    have o38 := h.1
    have h := h.2
    refine zc_new (ci := 7) (t := 8) (n := 3) G M rfl rfl (by decide) rfl q931 q932 q166 o38 dX0_kinded_265 (fun u37 eu37 => ?_)
    have h := h u37 eu37
    refine zc_wk G hp (fun hu37 tu37 => ?_)
    refine zv_dup G rfl dX0_kinded_268 ?_
    refine zv_aload_n G rfl rfl dX0_kinded_269 ?_
    refine zv_aload G rfl dX0_kinded_270 ?_
    refine zv_callV (as := [ar (cz u36 + 1), ar x3, ar x4]) (st := [ar (cz u36 + 1)]) G M (zc_eI G rfl q933 q934 q935 md_X10_init (Nat.succ_ne_zero _) rfl dX0_kinded_272) (S 102 _ rfl _ _ _ h (zoks_cons trivial (zoks_cons trivial (zoks_cons trivial zoks_nil)))) (Or.inl ⟨rfl, rfl⟩) (zc_hk q935 q166) (by decide) (Nat.le_of_ble_eq_true rfl) (fun u39 h => ?_) (fun _ _ h => h.elim)
    refine zc_wk G hp (fun hu39 tu39 => ?_)
    exact zv_aret G M (Or.inl ⟨_, rfl⟩) dX0_kinded_275 h
  refine zv_if_ne (tgt := 239) G rv30 (by decide) dX0_kinded_232 (fun c46 => ?_) (fun c46 => ?_)
  · refine zv_iconst (a := 0) G (by decide) dX0_kinded_239 ?_
    exact kj45 _ (if_neg c46).symm
  · refine zv_iconst (a := 1) G (by decide) dX0_kinded_235 ?_
    refine zv_goto (tgt := 240) G (by decide) dX0_kinded_236 ?_
    exact kj45 _ (if_pos c46).symm
set_option maxHeartbeats 4000000 in
set_option maxRecDepth 100000 in
theorem cpC_X0_kinded_190 {Γ : ZG CW} {D : CD} {d p : Nat} (hp : D.K.1 = p) (G : ZOk Γ cX0_kinded RX0 6 (KnC D) (ZC D)) (M : ZRm Γ (d + 1) D.lim (Option.some (Jvm.ClassFile.FieldType.object "LetterPost$Pattern")) "kinded" []) (S : SdC d D p Γ.l) (hl : Γ.l.stackTraces = false) (hk : 0 ≤ d) {I161 : Int → CW → Prop} {x3 : Nat} {x4 : Nat} {x5 : Int} {s0 : Int} {s1 : Nat} {w : CW} (hI161 : ∀ (x5 : Int) (w : CW), I161 x5 w → zr x5 → ZV Γ w 161 [(0, ar p), (3, ar x3), (4, ar x4), (5, ai x5)] []) (rx5 : zr x5) (rs0 : zr s0) (h : pC_X0_kinded_190 p (wpC p d) (fun v w => Γ.Q (.inl (some (ar v))) w) (fun x w => Γ.Q (.inr x) w) I161 x3 x4 x5 s0 s1 w) : ZV Γ w 190 [(0, ar p), (3, ar x3), (4, ar x4), (5, ai x5)] [ai s0, ar s1] := by
  refine zc_wk G hp (fun hw tw => ?_)
  refine zv_bipush (a := 6) G (by decide) dX0_kinded_190 ?_
  refine zv_aload_n G rfl rfl dX0_kinded_192 ?_
  refine zc_get (f := 11) (v := ai (fI w 11 p)) G (hFp tw rfl) rfl q2067 (Or.inl rfl) (cV_I (by decide) (by decide)) dX0_kinded_193 ?_
  have o66 := h.1
  have h := h.2
  refine zv_callV (as := [ar s1, ai s0, ai 6, ai (fI w 11 p)]) (st := []) G M (zc_eV (C := zcn 1) G q235 q237 qs5 (Or.inl ⟨rfl, rfl⟩) q238 md_X0_need (zc_rc G (zne tw o66 (by decide)) o66 (by decide) (by decide) rfl) rfl dX0_kinded_196) (S 10 _ rfl _ _ _ h (zoks_cons trivial (zoks_cons rs0 (zoks_cons (zr_k 6 (by decide) (by decide)) (zoks_cons (hw.i 11 _ (by decide)) zoks_nil))))) (Or.inl ⟨rfl, rfl⟩) (zc_hk q238 q143) (by decide) (Nat.le_of_ble_eq_true rfl) (fun u48 h => ?_) (fun x64 u65 h => ?_)
  rotate_left
  · exact zx_leave G M rfl h
  refine zc_wk G hp (fun hu48 tu48 => ?_)
  refine zv_aload_n G rfl rfl dX0_kinded_199 ?_
  refine zv_callV (as := [ar p]) (st := []) G M (zc_eV (C := zcn 1) G q213 q215 qs1 (Or.inl ⟨rfl, rfl⟩) q216 md_X0_next (zc_rc G (zne tu48 tu48.1 (by decide)) tu48.1 (by decide) (by decide) rfl) rfl dX0_kinded_200) (S 4 _ rfl _ _ _ h (zoks_cons trivial zoks_nil)) (Or.inl ⟨rfl, rfl⟩) (zc_hk q216 q143) (by decide) (Nat.le_of_ble_eq_true rfl) (fun u50 h => ?_) (fun x62 u63 h => ?_)
  rotate_left
  · exact zx_leave G M rfl h
  refine zc_wk G hp (fun hu50 tu50 => ?_)
  refine zv_aload G rfl dX0_kinded_203 ?_
  refine zv_iload G rfl dX0_kinded_205 ?_
  refine zv_aload_n G rfl rfl dX0_kinded_207 ?_
  refine zv_aload_n G rfl rfl dX0_kinded_208 ?_
  have o52 := h.1
  have h := h.2
  refine zc_get (f := 41) (v := ar (fR u50 41 x3)) G o52 rfl q693 (Or.inl rfl) (cV_R rfl) dX0_kinded_209 ?_
  refine zv_iload G rfl dX0_kinded_212 ?_
  have o53 := h.1
  have h := h.2
  refine zc_ialdN G o53.1 rx5 o53.2.1 o53.2.2 dX0_kinded_214 ?_
  refine zv_callR (as := [ar p, ai (aN u50 (fR u50 41 x3) x5)]) (st := [ai x5, ar x4]) G M (zc_eV (C := zcn 1) G q850 q852 qs18 (Or.inl ⟨rfl, rfl⟩) q853 md_X0_pattern (zc_rc G (zne tu50 tu50.1 (by decide)) tu50.1 (by decide) (by decide) rfl) rfl dX0_kinded_215) (S 22 _ rfl _ _ _ h (zoks_cons trivial (zoks_cons (aN_r hu50 _ _) zoks_nil))) (Or.inl ⟨rfl, rfl⟩) (zc_hk q853 q143) (by decide) (Nat.le_of_ble_eq_true rfl) (fun v55 u54 h => ?_) (fun x60 u61 h => ?_)
  rotate_left
  · exact zx_leave G M rfl h
  refine zc_wk G hp (fun hu54 tu54 => ?_)
  have o57 := h.1
  have h := h.2
  have o58 := h.1
  have h := h.2
  refine zc_aast G o57.1 o58 rx5 o57.2.1 o57.2.2 dX0_kinded_218 (fun u56 eu56 => ?_)
  have h := h u56 eu56
  refine zc_wk G hp (fun hu56 tu56 => ?_)
  refine zv_iincN G rfl (by decide) dX0_kinded_219 (fun x5_59 ex5_59 => ?_)
  have h := h x5_59 ex5_59
  have rx5_59 : zr x5_59 := by rw [ex5_59]; exact w32_r _
  refine zv_goto (tgt := 161) G (by decide) dX0_kinded_222 ?_
  exact zv_pick [0, 3, 4, 5] rfl (hI161 _ _ h rx5_59)
set_option maxHeartbeats 4000000 in
set_option maxRecDepth 100000 in
theorem cpC_X0_kinded_185 {Γ : ZG CW} {D : CD} {d p : Nat} (hp : D.K.1 = p) (G : ZOk Γ cX0_kinded RX0 6 (KnC D) (ZC D)) (M : ZRm Γ (d + 1) D.lim (Option.some (Jvm.ClassFile.FieldType.object "LetterPost$Pattern")) "kinded" []) (S : SdC d D p Γ.l) (hl : Γ.l.stackTraces = false) (hk : 0 ≤ d) {I161 : Int → CW → Prop} {x3 : Nat} {x4 : Nat} {x5 : Int} {s0 : Nat} {w : CW} (hI161 : ∀ (x5 : Int) (w : CW), I161 x5 w → zr x5 → ZV Γ w 161 [(0, ar p), (3, ar x3), (4, ar x4), (5, ai x5)] []) (rx5 : zr x5) (h : pC_X0_kinded_185 p (wpC p d) (fun v w => Γ.Q (.inl (some (ar v))) w) (fun x w => Γ.Q (.inr x) w) I161 x3 x4 x5 s0 w) : ZV Γ w 185 [(0, ar p), (3, ar x3), (4, ar x4), (5, ai x5)] [ar s0] := by
  refine zc_wk G hp (fun hw tw => ?_)
  refine zv_iconst (a := 1) G (by decide) dX0_kinded_185 ?_
  refine zv_goto (tgt := 190) G (by decide) dX0_kinded_186 ?_
  exact zv_pick [0, 3, 4, 5] rfl (cpC_X0_kinded_190 hp G M S hl hk hI161 rx5 (zr_k 1 (by decide) (by decide)) h)
set_option maxHeartbeats 4000000 in
set_option maxRecDepth 100000 in
theorem cpC_X0_kinded_161 {Γ : ZG CW} {D : CD} {d p : Nat} (hp : D.K.1 = p) (G : ZOk Γ cX0_kinded RX0 6 (KnC D) (ZC D)) (M : ZRm Γ (d + 1) D.lim (Option.some (Jvm.ClassFile.FieldType.object "LetterPost$Pattern")) "kinded" []) (S : SdC d D p Γ.l) (hl : Γ.l.stackTraces = false) (hk : 0 ≤ d) {x3 : Nat} {x4 : Nat} {x5 : Int} {w : CW} (rx5 : zr x5) (h : pC_X0_kinded_161 p (wpC p d) (fun v w => Γ.Q (.inl (some (ar v))) w) (fun x w => Γ.Q (.inr x) w) x3 x4 x5 w) : ZV Γ w 161 [(0, ar p), (3, ar x3), (4, ar x4), (5, ai x5)] [] := by
  obtain ⟨I161, eI161⟩ : ∃ I : Int → CW → Prop, I = (fun x5 w => zr x5 → ZV Γ w 161 [(0, ar p), (3, ar x3), (4, ar x4), (5, ai x5)] []) := ⟨_, rfl⟩
  have hI161 : ∀ (x5 : Int) (w : CW), I161 x5 w → zr x5 → ZV Γ w 161 [(0, ar p), (3, ar x3), (4, ar x4), (5, ai x5)] [] := by subst eI161; exact fun _ _ z => z
  have hJ161 : ∀ (x5 : Int) (w : CW), (zr x5 → ZV Γ w 161 [(0, ar p), (3, ar x3), (4, ar x4), (5, ai x5)] []) → I161 x5 w := by subst eI161; exact fun _ _ z => z
  refine hI161 x5 w (h I161 (fun x5 w h => hJ161 x5 w (fun rx5 => ?_))) rx5
  refine zc_wk G hp (fun hw tw => ?_)
  refine zv_iload G rfl dX0_kinded_161 ?_
  refine zv_aload_n G rfl rfl dX0_kinded_163 ?_
  have o27 := h.1
  have h := h.2
  refine zc_get (f := 42) (v := ai (fI w 42 x3)) G o27 rfl q694 (Or.inl rfl) (cV_I (by decide) (by decide)) dX0_kinded_164 ?_
  refine zv_icmp_ge (tgt := 225) G rx5 (hw.i 42 _ (by decide)) (by decide) dX0_kinded_167 (fun c28 => ?_) (fun c28 => ?_)
  · have h := h.1 c28
    exact zv_pick [0, 3, 4] rfl (cpC_X0_kinded_225 hp G M S hl hk h)
  · have h := h.2 c28
    refine zv_aload_n G rfl rfl dX0_kinded_170 ?_
    refine zv_iload G rfl dX0_kinded_171 ?_
    refine zv_if_eq (tgt := 185) G rx5 (by decide) dX0_kinded_173 (fun c47 => ?_) (fun c47 => ?_)
    · have h := h.1 c47
      exact zv_pick [0, 3, 4, 5] rfl (cpC_X0_kinded_185 hp G M S hl hk hI161 rx5 h)
    · have h := h.2 c47
      refine zv_aload_n G rfl rfl dX0_kinded_176 ?_
      refine zv_bipush (a := 44) G (by decide) dX0_kinded_177 ?_
      refine zv_callI (as := [ar p, ai 44]) (st := [ar p]) G M (zc_eV (C := zcn 1) G q709 q711 qs12 (Or.inl ⟨rfl, rfl⟩) q712 md_X0_isSign (zc_rc G (zne tw tw.1 (by decide)) tw.1 (by decide) (by decide) rfl) rfl dX0_kinded_179) (S 16 _ rfl _ _ _ h (zoks_cons trivial (zoks_cons (zr_k 44 (by decide) (by decide)) zoks_nil))) (Or.inl ⟨rfl, rfl⟩) (zc_hk q712 q143) (by decide) (Nat.le_of_ble_eq_true rfl) (fun v68 u67 rv68 h => ?_) (fun _ _ h => h.elim)
      refine zc_wk G hp (fun hu67 tu67 => ?_)
      refine zv_if_eq (tgt := 189) G rv68 (by decide) dX0_kinded_182 (fun c69 => ?_) (fun c69 => ?_)
      · have h := h.1 c69
        refine zv_iconst (a := 0) G (by decide) dX0_kinded_189 ?_
        exact zv_pick [0, 3, 4, 5] rfl (cpC_X0_kinded_190 hp G M S hl hk hI161 rx5 (zr_k 0 (by decide) (by decide)) h)
      · have h := h.2 c69
        exact zv_pick [0, 3, 4, 5] rfl (cpC_X0_kinded_185 hp G M S hl hk hI161 rx5 h)
set_option maxHeartbeats 4000000 in
set_option maxRecDepth 100000 in
theorem cpC_X0_kinded_64 {Γ : ZG CW} {D : CD} {d p : Nat} (hp : D.K.1 = p) (G : ZOk Γ cX0_kinded RX0 6 (KnC D) (ZC D)) (M : ZRm Γ (d + 1) D.lim (Option.some (Jvm.ClassFile.FieldType.object "LetterPost$Pattern")) "kinded" []) (S : SdC d D p Γ.l) (hl : Γ.l.stackTraces = false) (hk : 0 ≤ d) {x2 : Int} {x3 : Nat} {s0 : Int} {s1 : Nat} {w : CW} (rx2 : zr x2) (rs0 : zr s0) (h : pC_X0_kinded_64 p (wpC p d) (fun v w => Γ.Q (.inl (some (ar v))) w) (fun x w => Γ.Q (.inr x) w) x2 x3 s0 s1 w) : ZV Γ w 64 [(0, ar p), (2, ai x2), (3, ar x3)] [ai s0, ar s1] := by
  refine zc_wk G hp (fun hw tw => ?_)
  refine zv_iconst (a := 5) G (by decide) dX0_kinded_64 ?_
  refine zv_aload_n G rfl rfl dX0_kinded_65 ?_
  refine zc_get (f := 11) (v := ai (fI w 11 p)) G (hFp tw rfl) rfl q2067 (Or.inl rfl) (cV_I (by decide) (by decide)) dX0_kinded_66 ?_
  have o88 := h.1
  have h := h.2
  refine zv_callV (as := [ar s1, ai s0, ai 5, ai (fI w 11 p)]) (st := []) G M (zc_eV (C := zcn 1) G q235 q237 qs5 (Or.inl ⟨rfl, rfl⟩) q238 md_X0_need (zc_rc G (zne tw o88 (by decide)) o88 (by decide) (by decide) rfl) rfl dX0_kinded_69) (S 10 _ rfl _ _ _ h (zoks_cons trivial (zoks_cons rs0 (zoks_cons (zr_k 5 (by decide) (by decide)) (zoks_cons (hw.i 11 _ (by decide)) zoks_nil))))) (Or.inl ⟨rfl, rfl⟩) (zc_hk q238 q143) (by decide) (Nat.le_of_ble_eq_true rfl) (fun u9 h => ?_) (fun x86 u87 h => ?_)
  rotate_left
  · exact zx_leave G M rfl h
  refine zc_wk G hp (fun hu9 tu9 => ?_)
  refine zv_aload_n G rfl rfl dX0_kinded_72 ?_
  refine zv_iload_n G rfl rfl dX0_kinded_73 ?_
  have kj84 : ∀ v11 : Int, v11 = (if x2 = 0 then 1 else 0) → ZV Γ u9 82 [(0, ar p), (2, ai x2), (3, ar x3)] (ai v11 :: ar p :: []) := by
    intro v11 ev11
    have h := h v11 ev11
    have rv11 : zr v11 := by rw [ev11]; exact (zr_ite (zr_k 1 (by decide) (by decide)) (zr_k 0 (by decide) (by decide)))
    have bv11 : v11 = 0 ∨ v11 = 1 := by rw [ev11]; exact (zb_ite (Or.inr rfl) (Or.inl rfl))
    refine zv_bipush (a := 9) G (by decide) dX0_kinded_82 ?_
    refine zv_aload_n G rfl rfl dX0_kinded_84 ?_
    refine zc_get (f := 11) (v := ai (fI u9 11 p)) G (hFp tu9 rfl) rfl q2067 (Or.inl rfl) (cV_I (by decide) (by decide)) dX0_kinded_85 ?_
    refine zv_callV (as := [ar p, ai v11, ai 9, ai (fI u9 11 p)]) (st := []) G M (zc_eV (C := zcn 1) G q235 q237 qs5 (Or.inl ⟨rfl, rfl⟩) q238 md_X0_need (zc_rc G (zne tu9 tu9.1 (by decide)) tu9.1 (by decide) (by decide) rfl) rfl dX0_kinded_88) (S 10 _ rfl _ _ _ h (zoks_cons trivial (zoks_cons rv11 (zoks_cons (zr_k 9 (by decide) (by decide)) (zoks_cons (hu9.i 11 _ (by decide)) zoks_nil))))) (Or.inl ⟨rfl, rfl⟩) (zc_hk q238 q143) (by decide) (Nat.le_of_ble_eq_true rfl) (fun u12 h => ?_) (fun x82 u83 h => ?_)
    rotate_left
    · exact zx_leave G M rfl h
    refine zc_wk G hp (fun hu12 tu12 => ?_)
    refine zv_aload_n G rfl rfl dX0_kinded_91 ?_
    refine zv_callV (as := [ar p]) (st := []) G M (zc_eV (C := zcn 1) G q213 q215 qs1 (Or.inl ⟨rfl, rfl⟩) q216 md_X0_next (zc_rc G (zne tu12 tu12.1 (by decide)) tu12.1 (by decide) (by decide) rfl) rfl dX0_kinded_92) (S 4 _ rfl _ _ _ h (zoks_cons trivial zoks_nil)) (Or.inl ⟨rfl, rfl⟩) (zc_hk q216 q143) (by decide) (Nat.le_of_ble_eq_true rfl) (fun u14 h => ?_) (fun x80 u81 h => ?_)
    rotate_left
    · exact zx_leave G M rfl h
    refine zc_wk G hp (fun hu14 tu14 => ?_)
    refine zv_aload_n G rfl rfl dX0_kinded_95 ?_
    refine zv_bipush (a := 40) G (by decide) dX0_kinded_96 ?_
    refine zv_callI (as := [ar p, ai 40]) (st := []) G M (zc_eV (C := zcn 1) G q709 q711 qs12 (Or.inl ⟨rfl, rfl⟩) q712 md_X0_isSign (zc_rc G (zne tu14 tu14.1 (by decide)) tu14.1 (by decide) (by decide) rfl) rfl dX0_kinded_98) (S 16 _ rfl _ _ _ h (zoks_cons trivial (zoks_cons (zr_k 40 (by decide) (by decide)) zoks_nil))) (Or.inl ⟨rfl, rfl⟩) (zc_hk q712 q143) (by decide) (Nat.le_of_ble_eq_true rfl) (fun v17 u16 rv17 h => ?_) (fun _ _ h => h.elim)
    refine zc_wk G hp (fun hu16 tu16 => ?_)
    refine zv_if_ne (tgt := 117) G rv17 (by decide) dX0_kinded_101 (fun c18 => ?_) (fun c18 => ?_)
    · have h := h.2 c18
      refine zv_aload_n G rfl rfl dX0_kinded_117 ?_
      refine zv_aload_n G rfl rfl dX0_kinded_118 ?_
      have o19 := h.1
      have h := h.2
      refine zc_get (f := 42) (v := ai (fI u16 42 x3)) G o19 rfl q694 (Or.inl rfl) (cV_I (by decide) (by decide)) dX0_kinded_119 ?_
      have kj72 : ∀ v20 : Int, v20 = (if ¬ ((fI u16 42 x3) ≤ 0) then 1 else 0) → ZV Γ u16 130 [(0, ar p), (2, ai x2), (3, ar x3)] (ai v20 :: ar p :: []) := by
        intro v20 ev20
        have h := h v20 ev20
        have rv20 : zr v20 := by rw [ev20]; exact (zr_ite (zr_k 1 (by decide) (by decide)) (zr_k 0 (by decide) (by decide)))
        have bv20 : v20 = 0 ∨ v20 = 1 := by rw [ev20]; exact (zb_ite (Or.inr rfl) (Or.inl rfl))
        refine zv_bipush (a := 6) G (by decide) dX0_kinded_130 ?_
        refine zv_aload_n G rfl rfl dX0_kinded_132 ?_
        refine zc_get (f := 11) (v := ai (fI u16 11 p)) G (hFp tu16 rfl) rfl q2067 (Or.inl rfl) (cV_I (by decide) (by decide)) dX0_kinded_133 ?_
        refine zv_callV (as := [ar p, ai v20, ai 6, ai (fI u16 11 p)]) (st := []) G M (zc_eV (C := zcn 1) G q235 q237 qs5 (Or.inl ⟨rfl, rfl⟩) q238 md_X0_need (zc_rc G (zne tu16 tu16.1 (by decide)) tu16.1 (by decide) (by decide) rfl) rfl dX0_kinded_136) (S 10 _ rfl _ _ _ h (zoks_cons trivial (zoks_cons rv20 (zoks_cons (zr_k 6 (by decide) (by decide)) (zoks_cons (hu16.i 11 _ (by decide)) zoks_nil))))) (Or.inl ⟨rfl, rfl⟩) (zc_hk q238 q143) (by decide) (Nat.le_of_ble_eq_true rfl) (fun u21 h => ?_) (fun x70 u71 h => ?_)
        rotate_left
        · exact zx_leave G M rfl h
        refine zc_wk G hp (fun hu21 tu21 => ?_)
        refine zv_aload_n G rfl rfl dX0_kinded_139 ?_
        have o23 := h.1
        have h := h.2
        refine zc_get (f := 42) (v := ai (fI u21 42 x3)) G o23 rfl q694 (Or.inl rfl) (cV_I (by decide) (by decide)) dX0_kinded_140 ?_
        have o25 := h.1
        have h := h.2
        refine zc_anew (t := 114) G M (by decide) q848 o25.1 o25.2 dX0_kinded_143 (fun u24 eu24 => ?_)
        have h := h u24 eu24
        refine zc_wk G hp (fun hu24 tu24 => ?_)
        refine zv_astore G (by decide) rfl dX0_kinded_146 ?_
        refine zv_aload_n G rfl rfl dX0_kinded_148 ?_
        refine zv_dup G rfl dX0_kinded_149 ?_
        refine zc_get (f := 19) (v := ai (fI u24 19 p)) G (hFp tu24 rfl) rfl q2075 (Or.inl rfl) (cV_I (by decide) (by decide)) dX0_kinded_150 ?_
        refine zv_iconst (a := 1) G (by decide) dX0_kinded_153 ?_
        refine zv_iadd G dX0_kinded_154 ?_
        refine zc_putI (f := 19) G M (hPp tu24 rfl) rfl q2075 (Or.inl rfl) (Or.inl rfl) (zfty_19) rfl rfl (by decide) (by decide) (w32_r _) dX0_kinded_155 (fun u26 eu26 => ?_)
        have h := h u26 eu26
        refine zc_wk G hp (fun hu26 tu26 => ?_)
        refine zv_iconst (a := 0) G (by decide) dX0_kinded_158 ?_
        refine zv_istore G (by decide) rfl dX0_kinded_159 ?_
        exact zv_pick [0, 3, 4, 5] rfl (cpC_X0_kinded_161 hp G M S hl hk (zr_k 0 (by decide) (by decide)) h)
      refine zv_if_le (tgt := 129) G (hu16.i 42 _ (by decide)) (by decide) dX0_kinded_122 (fun c73 => ?_) (fun c73 => ?_)
      · refine zv_iconst (a := 0) G (by decide) dX0_kinded_129 ?_
        exact kj72 _ (if_neg (fun q => q c73)).symm
      · refine zv_iconst (a := 1) G (by decide) dX0_kinded_125 ?_
        refine zv_goto (tgt := 130) G (by decide) dX0_kinded_126 ?_
        exact kj72 _ (if_pos c73).symm
    · have h := h.1 c18
      have o75 := h.1
      have h := h.2
      refine zc_new (ci := 7) (t := 8) (n := 3) G M rfl rfl (by decide) rfl q931 q932 q166 o75 dX0_kinded_104 (fun u74 eu74 => ?_)
      have h := h u74 eu74
      refine zc_wk G hp (fun hu74 tu74 => ?_)
      refine zv_dup G rfl dX0_kinded_107 ?_
      refine zv_aload_n G rfl rfl dX0_kinded_108 ?_
      refine zv_iconst (a := 0) G (by decide) dX0_kinded_109 ?_
      have o77 := h.1
      have h := h.2
      refine zc_anew (t := 114) G M (by decide) q848 o77.1 o77.2 dX0_kinded_110 (fun u76 eu76 => ?_)
      have h := h u76 eu76
      refine zc_wk G hp (fun hu76 tu76 => ?_)
      refine zv_callV (as := [ar (cz u16 + 1), ar x3, ar (cz u74 + 1)]) (st := [ar (cz u16 + 1)]) G M (zc_eI G rfl q933 q934 q935 md_X10_init (Nat.succ_ne_zero _) rfl dX0_kinded_113) (S 102 _ rfl _ _ _ h (zoks_cons trivial (zoks_cons trivial (zoks_cons trivial zoks_nil)))) (Or.inl ⟨rfl, rfl⟩) (zc_hk q935 q166) (by decide) (Nat.le_of_ble_eq_true rfl) (fun u78 h => ?_) (fun _ _ h => h.elim)
      refine zc_wk G hp (fun hu78 tu78 => ?_)
      exact zv_aret G M (Or.inl ⟨_, rfl⟩) dX0_kinded_116 h
  refine zv_if_ne (tgt := 81) G rx2 (by decide) dX0_kinded_74 (fun c85 => ?_) (fun c85 => ?_)
  · refine zv_iconst (a := 0) G (by decide) dX0_kinded_81 ?_
    exact kj84 _ (if_neg c85).symm
  · refine zv_iconst (a := 1) G (by decide) dX0_kinded_77 ?_
    refine zv_goto (tgt := 82) G (by decide) dX0_kinded_78 ?_
    exact kj84 _ (if_pos c85).symm
set_option maxHeartbeats 4000000 in
set_option maxRecDepth 100000 in
theorem cpC_X0_kinded_63 {Γ : ZG CW} {D : CD} {d p : Nat} (hp : D.K.1 = p) (G : ZOk Γ cX0_kinded RX0 6 (KnC D) (ZC D)) (M : ZRm Γ (d + 1) D.lim (Option.some (Jvm.ClassFile.FieldType.object "LetterPost$Pattern")) "kinded" []) (S : SdC d D p Γ.l) (hl : Γ.l.stackTraces = false) (hk : 0 ≤ d) {x2 : Int} {x3 : Nat} {s0 : Nat} {w : CW} (rx2 : zr x2) (h : pC_X0_kinded_63 p (wpC p d) (fun v w => Γ.Q (.inl (some (ar v))) w) (fun x w => Γ.Q (.inr x) w) x2 x3 s0 w) : ZV Γ w 63 [(0, ar p), (2, ai x2), (3, ar x3)] [ar s0] := by
  refine zc_wk G hp (fun hw tw => ?_)
  refine zv_iconst (a := 0) G (by decide) dX0_kinded_63 ?_
  exact zv_pick [0, 2, 3] rfl (cpC_X0_kinded_64 hp G M S hl hk rx2 (zr_k 0 (by decide) (by decide)) h)
set_option maxHeartbeats 4000000 in
set_option maxRecDepth 100000 in
theorem cpC_X0_kinded_59 {Γ : ZG CW} {D : CD} {d p : Nat} (hp : D.K.1 = p) (G : ZOk Γ cX0_kinded RX0 6 (KnC D) (ZC D)) (M : ZRm Γ (d + 1) D.lim (Option.some (Jvm.ClassFile.FieldType.object "LetterPost$Pattern")) "kinded" []) (S : SdC d D p Γ.l) (hl : Γ.l.stackTraces = false) (hk : 0 ≤ d) {x2 : Int} {x3 : Nat} {s0 : Nat} {w : CW} (rx2 : zr x2) (h : pC_X0_kinded_59 p (wpC p d) (fun v w => Γ.Q (.inl (some (ar v))) w) (fun x w => Γ.Q (.inr x) w) x2 x3 s0 w) : ZV Γ w 59 [(0, ar p), (2, ai x2), (3, ar x3)] [ar s0] := by
  refine zc_wk G hp (fun hw tw => ?_)
  refine zv_iconst (a := 1) G (by decide) dX0_kinded_59 ?_
  refine zv_goto (tgt := 64) G (by decide) dX0_kinded_60 ?_
  exact zv_pick [0, 2, 3] rfl (cpC_X0_kinded_64 hp G M S hl hk rx2 (zr_k 1 (by decide) (by decide)) h)
set_option maxHeartbeats 4000000 in
set_option maxRecDepth 100000 in
theorem cpC_X0_kinded_0 {Γ : ZG CW} {D : CD} {d p : Nat} (hp : D.K.1 = p) (G : ZOk Γ cX0_kinded RX0 6 (KnC D) (ZC D)) (M : ZRm Γ (d + 1) D.lim (Option.some (Jvm.ClassFile.FieldType.object "LetterPost$Pattern")) "kinded" []) (S : SdC d D p Γ.l) (hl : Γ.l.stackTraces = false) (hk : 0 ≤ d) {x1 : Int} {x2 : Int} {w : CW} (rx1 : zr x1) (rx2 : zr x2) (h : pC_X0_kinded_0 p (wpC p d) (fun v w => Γ.Q (.inl (some (ar v))) w) (fun x w => Γ.Q (.inr x) w) x1 x2 w) : ZV Γ w 0 [(0, ar p), (1, ai x1), (2, ai x2)] [] := by
  refine zc_wk G hp (fun hw tw => ?_)
  refine zv_aload_n G rfl rfl dX0_kinded_0 ?_
  refine zv_aload_n G rfl rfl dX0_kinded_1 ?_
  refine zc_get (f := 12) (v := al (fI w 12 p)) G (hFp tw rfl) rfl q2068 (Or.inl rfl) (cV_L rfl) dX0_kinded_2 ?_
  refine zv_callR (as := [ar p, al (fI w 12 p)]) (st := []) G M (zc_eV (C := zcn 1) G q671 q673 qs11 (Or.inl ⟨rfl, rfl⟩) q674 md_X0_named (zc_rc G (zne tw tw.1 (by decide)) tw.1 (by decide) (by decide) rfl) rfl dX0_kinded_5) (S 15 _ rfl _ _ _ h (zoks_cons trivial (zoks_cons (hw.l 12 _ (by decide)) zoks_nil))) (Or.inl ⟨rfl, rfl⟩) (zc_hk q674 q143) (by decide) (Nat.le_of_ble_eq_true rfl) (fun v2 u1 h => ?_) (fun _ _ h => h.elim)
  refine zc_wk G hp (fun hu1 tu1 => ?_)
  refine zv_astore_n G rfl (by decide) rfl dX0_kinded_8 ?_
  refine zv_aload_n G rfl rfl dX0_kinded_9 ?_
  refine zv_aload_n G rfl rfl dX0_kinded_10 ?_
  have kj103 : ∀ v3 : Int, v3 = (if ¬ (v2 = 0) then 1 else 0) → ZV Γ u1 19 [(3, ar v2), (0, ar p), (1, ai x1), (2, ai x2)] (ai v3 :: ar p :: []) := by
    intro v3 ev3
    have h := h v3 ev3
    have rv3 : zr v3 := by rw [ev3]; exact (zr_ite (zr_k 1 (by decide) (by decide)) (zr_k 0 (by decide) (by decide)))
    have bv3 : v3 = 0 ∨ v3 = 1 := by rw [ev3]; exact (zb_ite (Or.inr rfl) (Or.inl rfl))
    refine zv_iconst (a := 4) G (by decide) dX0_kinded_19 ?_
    refine zv_aload_n G rfl rfl dX0_kinded_20 ?_
    refine zc_get (f := 11) (v := ai (fI u1 11 p)) G (hFp tu1 rfl) rfl q2067 (Or.inl rfl) (cV_I (by decide) (by decide)) dX0_kinded_21 ?_
    refine zv_callV (as := [ar p, ai v3, ai 4, ai (fI u1 11 p)]) (st := []) G M (zc_eV (C := zcn 1) G q235 q237 qs5 (Or.inl ⟨rfl, rfl⟩) q238 md_X0_need (zc_rc G (zne tu1 tu1.1 (by decide)) tu1.1 (by decide) (by decide) rfl) rfl dX0_kinded_24) (S 10 _ rfl _ _ _ h (zoks_cons trivial (zoks_cons rv3 (zoks_cons (zr_k 4 (by decide) (by decide)) (zoks_cons (hu1.i 11 _ (by decide)) zoks_nil))))) (Or.inl ⟨rfl, rfl⟩) (zc_hk q238 q143) (by decide) (Nat.le_of_ble_eq_true rfl) (fun u4 h => ?_) (fun x101 u102 h => ?_)
    rotate_left
    · exact zx_leave G M rfl h
    refine zc_wk G hp (fun hu4 tu4 => ?_)
    refine zv_aload_n G rfl rfl dX0_kinded_27 ?_
    refine zv_iload_n G rfl rfl dX0_kinded_28 ?_
    refine zv_callI (as := [ai x1]) (st := [ar p]) G M (zc_eS G q920 q921 q143 q922 md_X0_isKind rfl dX0_kinded_29) (S 30 _ rfl _ _ _ h (zoks_cons rx1 zoks_nil)) (Or.inl ⟨rfl, rfl⟩) (zc_hk q922 q143) (by decide) (Nat.le_of_ble_eq_true rfl) (fun v7 u6 rv7 h => ?_) (fun _ _ h => h.elim)
    refine zc_wk G hp (fun hu6 tu6 => ?_)
    refine zv_if_eq (tgt := 63) G rv7 (by decide) dX0_kinded_32 (fun c8 => ?_) (fun c8 => ?_)
    · have h := h.1 c8
      exact zv_pick [0, 2, 3] rfl (cpC_X0_kinded_63 hp G M S hl hk rx2 h)
    · have h := h.2 c8
      refine zv_aload_n G rfl rfl dX0_kinded_35 ?_
      refine zv_aload_n G rfl rfl dX0_kinded_36 ?_
      refine zv_iload_n G rfl rfl dX0_kinded_37 ?_
      refine zv_callR (as := [ar p, ai x1]) (st := [ar v2, ar p]) G M (zc_eV (C := zcn 1) G q923 q925 qs26 (Or.inl ⟨rfl, rfl⟩) q926 md_X0_kindOf (zc_rc G (zne tu6 tu6.1 (by decide)) tu6.1 (by decide) (by decide) rfl) rfl dX0_kinded_38) (S 31 _ rfl _ _ _ h (zoks_cons trivial (zoks_cons rx1 zoks_nil))) (Or.inl ⟨rfl, rfl⟩) (zc_hk q926 q143) (by decide) (Nat.le_of_ble_eq_true rfl) (fun v90 u89 h => ?_) (fun _ _ h => h.elim)
      refine zc_wk G hp (fun hu89 tu89 => ?_)
      have o100 := h.1
      have h := h.2
      refine zv_callI (as := [ar v2, ar v90]) (st := [ar p]) G M (zc_eV (C := zcn 3) G q927 q928 q929 (Or.inl ⟨rfl, rfl⟩) q930 md_X3_is (zc_rc G (zne tu89 o100 (by decide)) o100 (by decide) (by decide) rfl) rfl dX0_kinded_41) (S 83 _ rfl _ _ _ h (zoks_cons trivial (zoks_cons trivial zoks_nil))) (Or.inl ⟨rfl, rfl⟩) (zc_hk q930 q159) (by decide) (Nat.le_of_ble_eq_true rfl) (fun v92 u91 rv92 h => ?_) (fun _ _ h => h.elim)
      refine zc_wk G hp (fun hu91 tu91 => ?_)
      refine zv_if_ne (tgt := 59) G rv92 (by decide) dX0_kinded_44 (fun c93 => ?_) (fun c93 => ?_)
      · have h := h.2 c93
        exact zv_pick [0, 2, 3] rfl (cpC_X0_kinded_59 hp G M S hl hk rx2 h)
      · have h := h.1 c93
        refine zv_aload_n G rfl rfl dX0_kinded_47 ?_
        refine zv_iload_n G rfl rfl dX0_kinded_48 ?_
        refine zv_callR (as := [ar p, ai x1]) (st := [ar p]) G M (zc_eV (C := zcn 1) G q923 q925 qs26 (Or.inl ⟨rfl, rfl⟩) q926 md_X0_kindOf (zc_rc G (zne tu91 tu91.1 (by decide)) tu91.1 (by decide) (by decide) rfl) rfl dX0_kinded_49) (S 31 _ rfl _ _ _ h (zoks_cons trivial (zoks_cons rx1 zoks_nil))) (Or.inl ⟨rfl, rfl⟩) (zc_hk q926 q143) (by decide) (Nat.le_of_ble_eq_true rfl) (fun v95 u94 h => ?_) (fun _ _ h => h.elim)
        refine zc_wk G hp (fun hu94 tu94 => ?_)
        refine zv_aload_n G rfl rfl dX0_kinded_52 ?_
        have o99 := h.1
        have h := h.2
        refine zv_callI (as := [ar v95, ar v2]) (st := [ar p]) G M (zc_eV (C := zcn 3) G q927 q928 q929 (Or.inl ⟨rfl, rfl⟩) q930 md_X3_is (zc_rc G (zne tu94 o99 (by decide)) o99 (by decide) (by decide) rfl) rfl dX0_kinded_53) (S 83 _ rfl _ _ _ h (zoks_cons trivial (zoks_cons trivial zoks_nil))) (Or.inl ⟨rfl, rfl⟩) (zc_hk q930 q159) (by decide) (Nat.le_of_ble_eq_true rfl) (fun v97 u96 rv97 h => ?_) (fun _ _ h => h.elim)
        refine zc_wk G hp (fun hu96 tu96 => ?_)
        refine zv_if_eq (tgt := 63) G rv97 (by decide) dX0_kinded_56 (fun c98 => ?_) (fun c98 => ?_)
        · have h := h.1 c98
          exact zv_pick [0, 2, 3] rfl (cpC_X0_kinded_63 hp G M S hl hk rx2 h)
        · have h := h.2 c98
          exact zv_pick [0, 2, 3] rfl (cpC_X0_kinded_59 hp G M S hl hk rx2 h)
  refine zv_ifnull (tgt := 18) G (by decide) dX0_kinded_11 (fun c104 => ?_) (fun c104 => ?_)
  · refine zv_iconst (a := 0) G (by decide) dX0_kinded_18 ?_
    exact kj103 _ (if_neg (fun q => q c104)).symm
  · refine zv_iconst (a := 1) G (by decide) dX0_kinded_14 ?_
    refine zv_goto (tgt := 19) G (by decide) dX0_kinded_15 ?_
    exact kj103 _ (if_pos c104).symm
set_option maxHeartbeats 4000000 in
set_option maxRecDepth 100000 in
theorem cpC_X0_isKind_0 {Γ : ZG CW} {D : CD} {d p : Nat} (hp : D.K.1 = p) (G : ZOk Γ cX0_isKind RX0 1 (KnC D) (ZC D)) (M : ZRm Γ (d + 1) D.lim (Option.some Jvm.ClassFile.FieldType.boolean) "isKind" []) (S : SdC d D p Γ.l) (hl : Γ.l.stackTraces = false) (hk : 0 ≤ d) {x0 : Int} {w : CW} (rx0 : zr x0) (h : pC_X0_isKind_0 p (wpC p d) (fun v w => Γ.Q (.inl (some (ai v))) w) x0 w) : ZV Γ w 0 [(0, ai x0)] [] := by
  refine zc_wk G hp (fun hw tw => ?_)
  refine zv_iload_n G rfl rfl dX0_isKind_0 ?_
  refine zv_iconst (a := 3) G (by decide) dX0_isKind_1 ?_
  have kj2 : ∀ v1 : Int, v1 = (if ¬ (x0 < 3) then 1 else 0) → ZV Γ w 10 [(0, ai x0)] (ai v1 :: []) := by
    intro v1 ev1
    have h := h v1 ev1
    have rv1 : zr v1 := by rw [ev1]; exact (zr_ite (zr_k 1 (by decide) (by decide)) (zr_k 0 (by decide) (by decide)))
    have bv1 : v1 = 0 ∨ v1 = 1 := by rw [ev1]; exact (zb_ite (Or.inr rfl) (Or.inl rfl))
    exact zv_iret (ty := .boolean) rv1 G M (zn_Z bv1) dX0_isKind_10 h
  refine zv_icmp_lt (tgt := 9) G rx0 (zr_k 3 (by decide) (by decide)) (by decide) dX0_isKind_2 (fun c3 => ?_) (fun c3 => ?_)
  · refine zv_iconst (a := 0) G (by decide) dX0_isKind_9 ?_
    exact kj2 _ (if_neg (fun q => q c3)).symm
  · refine zv_iconst (a := 1) G (by decide) dX0_isKind_5 ?_
    refine zv_goto (tgt := 10) G (by decide) dX0_isKind_6 ?_
    exact kj2 _ (if_pos c3).symm
set_option maxHeartbeats 4000000 in
set_option maxRecDepth 100000 in
theorem cpC_X0_kindOf_0 {Γ : ZG CW} {D : CD} {d p : Nat} (hp : D.K.1 = p) (G : ZOk Γ cX0_kindOf RX0 2 (KnC D) (ZC D)) (M : ZRm Γ (d + 1) D.lim (Option.some (Jvm.ClassFile.FieldType.object "LetterPost$Kind")) "kindOf" []) (S : SdC d D p Γ.l) (hl : Γ.l.stackTraces = false) (hk : 0 ≤ d) {x1 : Int} {w : CW} (rx1 : zr x1) (h : pC_X0_kindOf_0 p (wpC p d) (fun v w => Γ.Q (.inl (some (ar v))) w) x1 w) : ZV Γ w 0 [(0, ar p), (1, ai x1)] [] := by
  refine zc_wk G hp (fun hw tw => ?_)
  refine zv_aload_n G rfl rfl dX0_kindOf_0 ?_
  refine zc_get (f := 0) (v := ar (fR w 0 p)) G (hFp tw rfl) rfl q2053 (Or.inl rfl) (cV_R rfl) dX0_kindOf_1 ?_
  refine zv_iload_n G rfl rfl dX0_kindOf_4 ?_
  refine zv_iconst (a := 3) G (by decide) dX0_kindOf_5 ?_
  refine zv_isub G dX0_kindOf_6 ?_
  have o1 := h.1
  have h := h.2
  refine zc_aald G o1.1 (w32_r _) o1.2.1 o1.2.2 dX0_kindOf_7 ?_
  exact zv_aret G M (Or.inl ⟨_, rfl⟩) dX0_kindOf_8 h
set_option maxHeartbeats 4000000 in
set_option maxRecDepth 100000 in
theorem cpC_X0_either_328 {Γ : ZG CW} {D : CD} {d p : Nat} (hp : D.K.1 = p) (G : ZOk Γ cX0_either RX0 13 (KnC D) (ZC D)) (M : ZRm Γ (d + 1) D.lim (Option.some (Jvm.ClassFile.FieldType.object "LetterPost$Pattern")) "either" []) (S : SdC d D p Γ.l) (hl : Γ.l.stackTraces = false) (hk : 0 ≤ d) {x3 : Nat} {x4 : Int} {w : CW} (rx4 : zr x4) (h : pC_X0_either_328 p (wpC p d) (fun v w => Γ.Q (.inl (some (ar v))) w) (fun x w => Γ.Q (.inr x) w) x3 x4 w) : ZV Γ w 328 [(3, ar x3), (4, ai x4)] [] := by
  refine zc_wk G hp (fun hw tw => ?_)
  refine zv_iload G rfl dX0_either_328 ?_
  have o39 := h.1
  have h := h.2
  refine zc_anew (t := 114) G M (by decide) q848 o39.1 o39.2 dX0_either_330 (fun u38 eu38 => ?_)
  have h := h u38 eu38
  refine zc_wk G hp (fun hu38 tu38 => ?_)
  refine zv_astore G (by decide) rfl dX0_either_333 ?_
  refine zv_aload_n G rfl rfl dX0_either_335 ?_
  refine zv_iconst (a := 0) G (by decide) dX0_either_336 ?_
  refine zv_aload G rfl dX0_either_337 ?_
  refine zv_iconst (a := 0) G (by decide) dX0_either_339 ?_
  refine zv_iload G rfl dX0_either_340 ?_
  have o41 := h.1
  have h := h.2
  refine zc_copy G M q949 q389 q388 q155 o41.1 o41.2 (Nat.le_of_ble_eq_true rfl) dX0_either_342 (fun u40 eu40 => ?_)
  have h := h u40 eu40
  refine zc_wk G hp (fun hu40 tu40 => ?_)
  have o43 := h.1
  have h := h.2
  refine zc_new (ci := 8) (t := 9) (n := 2) G M rfl rfl (by decide) rfl q950 q951 q167 o43 dX0_either_345 (fun u42 eu42 => ?_)
  have h := h u42 eu42
  refine zc_wk G hp (fun hu42 tu42 => ?_)
  refine zv_dup G rfl dX0_either_348 ?_
  refine zv_aload G rfl dX0_either_349 ?_
  refine zv_callV (as := [ar (cz u40 + 1), ar (cz w + 1)]) (st := [ar (cz u40 + 1)]) G M (zc_eI G rfl q952 q953 q954 md_X11_init (Nat.succ_ne_zero _) rfl dX0_either_351) (S 107 _ rfl _ _ _ h (zoks_cons trivial (zoks_cons trivial zoks_nil))) (Or.inl ⟨rfl, rfl⟩) (zc_hk q954 q167) (by decide) (Nat.le_of_ble_eq_true rfl) (fun u44 h => ?_) (fun _ _ h => h.elim)
  refine zc_wk G hp (fun hu44 tu44 => ?_)
  exact zv_aret G M (Or.inl ⟨_, rfl⟩) dX0_either_354 h
set_option maxHeartbeats 4000000 in
set_option maxRecDepth 100000 in
theorem cpC_X0_either_282 {Γ : ZG CW} {D : CD} {d p : Nat} (hp : D.K.1 = p) (G : ZOk Γ cX0_either RX0 13 (KnC D) (ZC D)) (M : ZRm Γ (d + 1) D.lim (Option.some (Jvm.ClassFile.FieldType.object "LetterPost$Pattern")) "either" []) (S : SdC d D p Γ.l) (hl : Γ.l.stackTraces = false) (hk : 0 ≤ d) {x3 : Nat} {x4 : Int} {x6 : Int} {x7 : Nat} {x9 : Int} {w : CW} (rx4 : zr x4) (rx6 : zr x6) (rx9 : zr x9) (h : pC_X0_either_282 p (wpC p d) (fun v w => Γ.Q (.inl (some (ar v))) w) (fun x w => Γ.Q (.inr x) w) x3 x4 x6 x7 x9 w) : ZV Γ w 282 [(0, ar p), (3, ar x3), (4, ai x4), (6, ai x6), (7, ar x7), (9, ai x9)] [] := by
  obtain ⟨I282, eI282⟩ : ∃ I : Int → CW → Prop, I = (fun x9 w => zr x9 → ZV Γ w 282 [(0, ar p), (3, ar x3), (4, ai x4), (6, ai x6), (7, ar x7), (9, ai x9)] []) := ⟨_, rfl⟩
  have hI282 : ∀ (x9 : Int) (w : CW), I282 x9 w → zr x9 → ZV Γ w 282 [(0, ar p), (3, ar x3), (4, ai x4), (6, ai x6), (7, ar x7), (9, ai x9)] [] := by subst eI282; exact fun _ _ z => z
  have hJ282 : ∀ (x9 : Int) (w : CW), (zr x9 → ZV Γ w 282 [(0, ar p), (3, ar x3), (4, ai x4), (6, ai x6), (7, ar x7), (9, ai x9)] []) → I282 x9 w := by subst eI282; exact fun _ _ z => z
  refine hI282 x9 w (h I282 (fun x9 w h => hJ282 x9 w (fun rx9 => ?_))) rx9
  refine zc_wk G hp (fun hw tw => ?_)
  refine zv_iload G rfl dX0_either_282 ?_
  refine zv_bipush (a := 8) G (by decide) dX0_either_284 ?_
  refine zv_icmp_ge (tgt := 328) G rx9 (zr_k 8 (by decide) (by decide)) (by decide) dX0_either_286 (fun c37 => ?_) (fun c37 => ?_)
  · have h := h.1 c37
    exact zv_pick [3, 4] rfl (cpC_X0_either_328 hp G M S hl hk rx4 h)
  · have h := h.2 c37
    refine zv_aload_n G rfl rfl dX0_either_289 ?_
    refine zc_get (f := 16) (v := ar (fR w 16 p)) G (hFp tw rfl) rfl q2072 (Or.inl rfl) (cV_R rfl) dX0_either_290 ?_
    refine zv_iload G rfl dX0_either_293 ?_
    refine zv_iload G rfl dX0_either_295 ?_
    refine zv_iload G rfl dX0_either_297 ?_
    refine zv_ishr G dX0_either_299 ?_
    refine zv_iconst (a := 1) G (by decide) dX0_either_300 ?_
    refine zv_iand G dX0_either_301 ?_
    refine zv_iconst (a := 1) G (by decide) dX0_either_302 ?_
    have o47 := h.1
    have h := h.2
    have kj51 : ∀ v46 : Int, v46 = (if (i_and (i_shr x6 x9) 1) = 1 then aN w x7 x9 else aN w (fR w 16 p) x9) → ZV Γ w 321 [(0, ar p), (3, ar x3), (4, ai x4), (6, ai x6), (7, ar x7), (9, ai x9)] (ai v46 :: ai x9 :: ar (fR w 16 p) :: []) := by
      intro v46 ev46
      have h := h v46 ev46
      have rv46 : zr v46 := by rw [ev46]; exact (zr_ite (aN_r hw _ _) (aN_r hw _ _))
      have o49 := h.1
      have h := h.2
      refine zc_iast G o49.1 rx9 rv46 o49.2.1 o49.2.2 dX0_either_321 (fun u48 eu48 => ?_)
      have h := h u48 eu48
      refine zc_wk G hp (fun hu48 tu48 => ?_)
      refine zv_iincN G rfl (by decide) dX0_either_322 (fun x9_50 ex9_50 => ?_)
      have h := h x9_50 ex9_50
      have rx9_50 : zr x9_50 := by rw [ex9_50]; exact w32_r _
      refine zv_goto (tgt := 282) G (by decide) dX0_either_325 ?_
      exact zv_pick [0, 3, 4, 6, 7, 9] rfl (hI282 _ _ h rx9_50)
    refine zv_icmp_ne (tgt := 314) G (by first | exact i_and_r _ _ | exact i_or_r _ _ | exact i_shl_r _ _ | exact i_shr_r _ _ | exact i_ushr_r _ _ | exact i_b_r _ | exact i_c_r _ | exact i_xor_r _ _ | exact i_div_r _ _ | exact i_rem_r _ _ | exact zr_of _) (zr_k 1 (by decide) (by decide)) (by decide) dX0_either_303 (fun c52 => ?_) (fun c52 => ?_)
    · refine zv_aload_n G rfl rfl dX0_either_314 ?_
      refine zc_get (f := 16) (v := ar (fR w 16 p)) G (hFp tw rfl) rfl q2072 (Or.inl rfl) (cV_R rfl) dX0_either_315 ?_
      refine zv_iload G rfl dX0_either_318 ?_
      refine zc_ialdN G (o47.2 c52).1 rx9 (o47.2 c52).2.1 (o47.2 c52).2.2 dX0_either_320 ?_
      exact kj51 _ (if_neg c52).symm
    · refine zv_aload G rfl dX0_either_306 ?_
      refine zv_iload G rfl dX0_either_308 ?_
      refine zc_ialdN G (o47.1 c52).1 rx9 (o47.1 c52).2.1 (o47.1 c52).2.2 dX0_either_310 ?_
      refine zv_goto (tgt := 321) G (by decide) dX0_either_311 ?_
      exact kj51 _ (if_pos c52).symm
set_option maxHeartbeats 4000000 in
set_option maxRecDepth 100000 in
theorem cpC_X0_either_237 {Γ : ZG CW} {D : CD} {d p : Nat} (hp : D.K.1 = p) (G : ZOk Γ cX0_either RX0 13 (KnC D) (ZC D)) (M : ZRm Γ (d + 1) D.lim (Option.some (Jvm.ClassFile.FieldType.object "LetterPost$Pattern")) "either" []) (S : SdC d D p Γ.l) (hl : Γ.l.stackTraces = false) (hk : 0 ≤ d) {x2 : Int} {x3 : Nat} {x4 : Int} {x5 : Int} {x6 : Int} {x7 : Nat} {x8 : Int} {w : CW} (rx2 : zr x2) (rx4 : zr x4) (rx5 : zr x5) (rx6 : zr x6) (rx8 : zr x8) (h : pC_X0_either_237 p (wpC p d) (fun v w => Γ.Q (.inl (some (ar v))) w) (fun x w => Γ.Q (.inr x) w) x2 x3 x4 x5 x6 x7 x8 w) : ZV Γ w 237 [(0, ar p), (2, ai x2), (3, ar x3), (4, ai x4), (5, ai x5), (6, ai x6), (7, ar x7), (8, ai x8)] [] := by
  refine zc_wk G hp (fun hw tw => ?_)
  refine zv_aload_n G rfl rfl dX0_either_237 ?_
  refine zv_aload_n G rfl rfl dX0_either_238 ?_
  refine zv_bipush (a := 41) G (by decide) dX0_either_239 ?_
  refine zv_callI (as := [ar p, ai 41]) (st := [ar p]) G M (zc_eV (C := zcn 1) G q709 q711 qs12 (Or.inl ⟨rfl, rfl⟩) q712 md_X0_isSign (zc_rc G (zne tw tw.1 (by decide)) tw.1 (by decide) (by decide) rfl) rfl dX0_either_241) (S 16 _ rfl _ _ _ h (zoks_cons trivial (zoks_cons (zr_k 41 (by decide) (by decide)) zoks_nil))) (Or.inl ⟨rfl, rfl⟩) (zc_hk q712 q143) (by decide) (Nat.le_of_ble_eq_true rfl) (fun v28 u27 rv28 h => ?_) (fun _ _ h => h.elim)
  refine zc_wk G hp (fun hu27 tu27 => ?_)
  refine zv_callV (as := [ar p, ai v28]) (st := []) G M (zc_eV (C := zcn 1) G q667 q669 qs10 (Or.inl ⟨rfl, rfl⟩) q670 md_X0_want (zc_rc G (zne tu27 tu27.1 (by decide)) tu27.1 (by decide) (by decide) rfl) rfl dX0_either_244) (S 14 _ rfl _ _ _ h (zoks_cons trivial (zoks_cons rv28 zoks_nil))) (Or.inl ⟨rfl, rfl⟩) (zc_hk q670 q143) (by decide) (Nat.le_of_ble_eq_true rfl) (fun u29 h => ?_) (fun x57 u58 h => ?_)
  rotate_left
  · exact zx_leave G M rfl h
  refine zc_wk G hp (fun hu29 tu29 => ?_)
  refine zv_aload_n G rfl rfl dX0_either_247 ?_
  refine zv_iload G rfl dX0_either_248 ?_
  refine zv_bipush (a := 8) G (by decide) dX0_either_250 ?_
  refine zv_iload_n G rfl rfl dX0_either_252 ?_
  refine zv_callV (as := [ar p, ai x8, ai 8, ai x2]) (st := []) G M (zc_eV (C := zcn 1) G q235 q237 qs5 (Or.inl ⟨rfl, rfl⟩) q238 md_X0_need (zc_rc G (zne tu29 tu29.1 (by decide)) tu29.1 (by decide) (by decide) rfl) rfl dX0_either_253) (S 10 _ rfl _ _ _ h (zoks_cons trivial (zoks_cons rx8 (zoks_cons (zr_k 8 (by decide) (by decide)) (zoks_cons rx2 zoks_nil))))) (Or.inl ⟨rfl, rfl⟩) (zc_hk q238 q143) (by decide) (Nat.le_of_ble_eq_true rfl) (fun u31 h => ?_) (fun x55 u56 h => ?_)
  rotate_left
  · exact zx_leave G M rfl h
  refine zc_wk G hp (fun hu31 tu31 => ?_)
  refine zv_aload_n G rfl rfl dX0_either_256 ?_
  refine zv_callV (as := [ar p]) (st := []) G M (zc_eV (C := zcn 1) G q213 q215 qs1 (Or.inl ⟨rfl, rfl⟩) q216 md_X0_next (zc_rc G (zne tu31 tu31.1 (by decide)) tu31.1 (by decide) (by decide) rfl) rfl dX0_either_257) (S 4 _ rfl _ _ _ h (zoks_cons trivial zoks_nil)) (Or.inl ⟨rfl, rfl⟩) (zc_hk q216 q143) (by decide) (Nat.le_of_ble_eq_true rfl) (fun u33 h => ?_) (fun x53 u54 h => ?_)
  rotate_left
  · exact zx_leave G M rfl h
  refine zc_wk G hp (fun hu33 tu33 => ?_)
  refine zv_aload_n G rfl rfl dX0_either_260 ?_
  refine zv_dup G rfl dX0_either_261 ?_
  refine zc_get (f := 19) (v := ai (fI u33 19 p)) G (hFp tu33 rfl) rfl q2075 (Or.inl rfl) (cV_I (by decide) (by decide)) dX0_either_262 ?_
  refine zv_iconst (a := 1) G (by decide) dX0_either_265 ?_
  refine zv_isub G dX0_either_266 ?_
  refine zc_putI (f := 19) G M (hPp tu33 rfl) rfl q2075 (Or.inl rfl) (Or.inl rfl) (zfty_19) rfl rfl (by decide) (by decide) (w32_r _) dX0_either_267 (fun u35 eu35 => ?_)
  have h := h u35 eu35
  refine zc_wk G hp (fun hu35 tu35 => ?_)
  refine zv_aload_n G rfl rfl dX0_either_270 ?_
  refine zv_iload G rfl dX0_either_271 ?_
  refine zv_iload G rfl dX0_either_273 ?_
  refine zv_ior G dX0_either_275 ?_
  refine zc_putI (f := 18) G M (hPp tu35 rfl) rfl q2074 (Or.inl rfl) (Or.inl rfl) (zfty_18) rfl rfl (by decide) (by decide) (by first | exact i_and_r _ _ | exact i_or_r _ _ | exact i_shl_r _ _ | exact i_shr_r _ _ | exact i_ushr_r _ _ | exact i_b_r _ | exact i_c_r _ | exact i_xor_r _ _ | exact i_div_r _ _ | exact i_rem_r _ _ | exact zr_of _) dX0_either_276 (fun u36 eu36 => ?_)
  have h := h u36 eu36
  refine zc_wk G hp (fun hu36 tu36 => ?_)
  refine zv_iconst (a := 0) G (by decide) dX0_either_279 ?_
  refine zv_istore G (by decide) rfl dX0_either_280 ?_
  exact zv_pick [0, 3, 4, 6, 7, 9] rfl (cpC_X0_either_282 hp G M S hl hk rx4 rx6 (zr_k 0 (by decide) (by decide)) h)
set_option maxHeartbeats 4000000 in
set_option maxRecDepth 100000 in
theorem cpC_X0_either_228 {Γ : ZG CW} {D : CD} {d p : Nat} (hp : D.K.1 = p) (G : ZOk Γ cX0_either RX0 13 (KnC D) (ZC D)) (M : ZRm Γ (d + 1) D.lim (Option.some (Jvm.ClassFile.FieldType.object "LetterPost$Pattern")) "either" []) (S : SdC d D p Γ.l) (hl : Γ.l.stackTraces = false) (hk : 0 ≤ d) {I42 : Int → Int → Int → CW → Prop} {x1 : Int} {x2 : Int} {x3 : Nat} {x4 : Int} {x5 : Int} {x6 : Int} {x7 : Nat} {x8 : Int} {w : CW} (hI42 : ∀ (x4 : Int) (x6 : Int) (x8 : Int) (w : CW), I42 x4 x6 x8 w → zr x4 → zr x6 → zr x8 → ZV Γ w 42 [(0, ar p), (1, ai x1), (2, ai x2), (3, ar x3), (4, ai x4), (5, ai x5), (6, ai x6), (7, ar x7), (8, ai x8)] []) (rx1 : zr x1) (rx2 : zr x2) (rx4 : zr x4) (rx5 : zr x5) (rx6 : zr x6) (rx8 : zr x8) (h : pC_X0_either_228 p (wpC p d) (fun v w => Γ.Q (.inl (some (ar v))) w) (fun x w => Γ.Q (.inr x) w) I42 x1 x2 x3 x4 x5 x6 x7 x8 w) : ZV Γ w 228 [(0, ar p), (1, ai x1), (2, ai x2), (3, ar x3), (4, ai x4), (5, ai x5), (6, ai x6), (7, ar x7), (8, ai x8)] [] := by
  refine zc_wk G hp (fun hw tw => ?_)
  refine zv_aload_n G rfl rfl dX0_either_228 ?_
  refine zv_bipush (a := 124) G (by decide) dX0_either_229 ?_
  refine zv_callI (as := [ar p, ai 124]) (st := []) G M (zc_eV (C := zcn 1) G q709 q711 qs12 (Or.inl ⟨rfl, rfl⟩) q712 md_X0_isSign (zc_rc G (zne tw tw.1 (by decide)) tw.1 (by decide) (by decide) rfl) rfl dX0_either_231) (S 16 _ rfl _ _ _ h (zoks_cons trivial (zoks_cons (zr_k 124 (by decide) (by decide)) zoks_nil))) (Or.inl ⟨rfl, rfl⟩) (zc_hk q712 q143) (by decide) (Nat.le_of_ble_eq_true rfl) (fun v25 u24 rv25 h => ?_) (fun _ _ h => h.elim)
  refine zc_wk G hp (fun hu24 tu24 => ?_)
  refine zv_if_ne (tgt := 42) G rv25 (by decide) dX0_either_234 (fun c26 => ?_) (fun c26 => ?_)
  · have h := h.2 c26
    exact zv_pick [0, 1, 2, 3, 4, 5, 6, 7, 8] rfl (hI42 _ _ _ _ h rx4 rx6 rx8)
  · have h := h.1 c26
    exact zv_pick [0, 2, 3, 4, 5, 6, 7, 8] rfl (cpC_X0_either_237 hp G M S hl hk rx2 rx4 rx5 rx6 rx8 h)
set_option maxHeartbeats 4000000 in
set_option maxRecDepth 100000 in
theorem cpC_X0_either_130 {Γ : ZG CW} {D : CD} {d p : Nat} (hp : D.K.1 = p) (G : ZOk Γ cX0_either RX0 13 (KnC D) (ZC D)) (M : ZRm Γ (d + 1) D.lim (Option.some (Jvm.ClassFile.FieldType.object "LetterPost$Pattern")) "either" []) (S : SdC d D p Γ.l) (hl : Γ.l.stackTraces = false) (hk : 0 ≤ d) {I42 : Int → Int → Int → CW → Prop} {x1 : Int} {x2 : Int} {x3 : Nat} {x4 : Int} {x5 : Int} {x6 : Int} {x7 : Nat} {x8 : Int} {x10 : Int} {x11 : Int} {w : CW} (hI42 : ∀ (x4 : Int) (x6 : Int) (x8 : Int) (w : CW), I42 x4 x6 x8 w → zr x4 → zr x6 → zr x8 → ZV Γ w 42 [(0, ar p), (1, ai x1), (2, ai x2), (3, ar x3), (4, ai x4), (5, ai x5), (6, ai x6), (7, ar x7), (8, ai x8)] []) (rx1 : zr x1) (rx2 : zr x2) (rx4 : zr x4) (rx5 : zr x5) (rx6 : zr x6) (rx8 : zr x8) (rx10 : zr x10) (rx11 : zr x11) (h : pC_X0_either_130 p (wpC p d) (fun v w => Γ.Q (.inl (some (ar v))) w) (fun x w => Γ.Q (.inr x) w) I42 x1 x2 x3 x4 x5 x6 x7 x8 x10 x11 w) : ZV Γ w 130 [(0, ar p), (1, ai x1), (2, ai x2), (3, ar x3), (4, ai x4), (5, ai x5), (6, ai x6), (7, ar x7), (8, ai x8), (10, ai x10), (11, ai x11)] [] := by
  obtain ⟨I130, eI130⟩ : ∃ I : Int → Int → CW → Prop, I = (fun x8 x11 w => zr x8 → zr x11 → ZV Γ w 130 [(0, ar p), (1, ai x1), (2, ai x2), (3, ar x3), (4, ai x4), (5, ai x5), (6, ai x6), (7, ar x7), (8, ai x8), (10, ai x10), (11, ai x11)] []) := ⟨_, rfl⟩
  have hI130 : ∀ (x8 : Int) (x11 : Int) (w : CW), I130 x8 x11 w → zr x8 → zr x11 → ZV Γ w 130 [(0, ar p), (1, ai x1), (2, ai x2), (3, ar x3), (4, ai x4), (5, ai x5), (6, ai x6), (7, ar x7), (8, ai x8), (10, ai x10), (11, ai x11)] [] := by subst eI130; exact fun _ _ _ z => z
  have hJ130 : ∀ (x8 : Int) (x11 : Int) (w : CW), (zr x8 → zr x11 → ZV Γ w 130 [(0, ar p), (1, ai x1), (2, ai x2), (3, ar x3), (4, ai x4), (5, ai x5), (6, ai x6), (7, ar x7), (8, ai x8), (10, ai x10), (11, ai x11)] []) → I130 x8 x11 w := by subst eI130; exact fun _ _ _ z => z
  refine hI130 x8 x11 w (h I130 (fun x8 x11 w h => hJ130 x8 x11 w (fun rx8 rx11 => ?_))) rx8 rx11
  refine zc_wk G hp (fun hw tw => ?_)
  refine zv_iload G rfl dX0_either_130 ?_
  refine zv_bipush (a := 8) G (by decide) dX0_either_132 ?_
  refine zv_icmp_ge (tgt := 228) G rx11 (zr_k 8 (by decide) (by decide)) (by decide) dX0_either_134 (fun c23 => ?_) (fun c23 => ?_)
  · have h := h.1 c23
    exact zv_pick [0, 1, 2, 3, 4, 5, 6, 7, 8] rfl (cpC_X0_either_228 hp G M S hl hk hI42 rx1 rx2 rx4 rx5 rx6 rx8 h)
  · have h := h.2 c23
    refine zv_iload G rfl dX0_either_137 ?_
    refine zv_iload G rfl dX0_either_139 ?_
    refine zv_ishr G dX0_either_141 ?_
    refine zv_iconst (a := 1) G (by decide) dX0_either_142 ?_
    refine zv_iand G dX0_either_143 ?_
    refine zv_iconst (a := 1) G (by decide) dX0_either_144 ?_
    have kj75 : ∀ v59 : Int, v59 = (if (i_and (i_shr x10 x11) 1) = 1 then 1 else 0) → ZV Γ w 153 [(0, ar p), (1, ai x1), (2, ai x2), (3, ar x3), (4, ai x4), (5, ai x5), (6, ai x6), (7, ar x7), (8, ai x8), (10, ai x10), (11, ai x11)] (ai v59 :: []) := by
      intro v59 ev59
      have h := h v59 ev59
      have rv59 : zr v59 := by rw [ev59]; exact (zr_ite (zr_k 1 (by decide) (by decide)) (zr_k 0 (by decide) (by decide)))
      have bv59 : v59 = 0 ∨ v59 = 1 := by rw [ev59]; exact (zb_ite (Or.inr rfl) (Or.inl rfl))
      refine zv_istore G (by decide) rfl dX0_either_153 ?_
      refine zv_iload G rfl dX0_either_155 ?_
      refine zv_iload G rfl dX0_either_157 ?_
      have o61 := h.1
      have h := h.2
      have kj71 : ∀ v60 : Int, v60 = (if (v59 = 0) ∨ ((x4 = 1) ∨ ((aN w (fR w 16 p) x11) = (aN w x7 x11))) then 1 else 0) → ZV Γ w 188 [(12, ai v59), (0, ar p), (1, ai x1), (2, ai x2), (3, ar x3), (4, ai x4), (5, ai x5), (6, ai x6), (7, ar x7), (8, ai x8), (10, ai x10), (11, ai x11)] (ai v60 :: ai x8 :: []) := by
        intro v60 ev60
        have h := h v60 ev60
        have rv60 : zr v60 := by rw [ev60]; exact (zr_ite (zr_k 1 (by decide) (by decide)) (zr_k 0 (by decide) (by decide)))
        have bv60 : v60 = 0 ∨ v60 = 1 := by rw [ev60]; exact (zb_ite (Or.inr rfl) (Or.inl rfl))
        refine zv_iand G dX0_either_188 ?_
        refine zv_istoreN G (by decide) dX0_either_189 (fun x8_62 ex8_62 => ?_)
        have h := h x8_62 ex8_62
        have rx8_62 : zr x8_62 := by rw [ex8_62]; exact (by first | exact i_and_r _ _ | exact i_or_r _ _ | exact i_shl_r _ _ | exact i_shr_r _ _ | exact i_ushr_r _ _ | exact i_b_r _ | exact i_c_r _ | exact i_xor_r _ _ | exact i_div_r _ _ | exact i_rem_r _ _ | exact zr_of _)
        refine zv_aload G rfl dX0_either_191 ?_
        refine zv_iload G rfl dX0_either_193 ?_
        refine zv_iload G rfl dX0_either_195 ?_
        have o64 := h.1
        have h := h.2
        have kj68 : ∀ v63 : Int, v63 = (if ¬ (v59 = 0) ∧ (x4 = 1) then aN w (fR w 16 p) x11 else aN w x7 x11) → ZV Γ w 221 [(8, ai x8_62), (12, ai v59), (0, ar p), (1, ai x1), (2, ai x2), (3, ar x3), (4, ai x4), (5, ai x5), (6, ai x6), (7, ar x7), (10, ai x10), (11, ai x11)] (ai v63 :: ai x11 :: ar x7 :: []) := by
          intro v63 ev63
          have h := h v63 ev63
          have rv63 : zr v63 := by rw [ev63]; exact (zr_ite (aN_r hw _ _) (aN_r hw _ _))
          have o66 := h.1
          have h := h.2
          refine zc_iast G o66.1 rx11 rv63 o66.2.1 o66.2.2 dX0_either_221 (fun u65 eu65 => ?_)
          have h := h u65 eu65
          refine zc_wk G hp (fun hu65 tu65 => ?_)
          refine zv_iincN G rfl (by decide) dX0_either_222 (fun x11_67 ex11_67 => ?_)
          have h := h x11_67 ex11_67
          have rx11_67 : zr x11_67 := by rw [ex11_67]; exact w32_r _
          refine zv_goto (tgt := 130) G (by decide) dX0_either_225 ?_
          exact zv_pick [0, 1, 2, 3, 4, 5, 6, 7, 8, 10, 11] rfl (hI130 _ _ _ h rx8_62 rx11_67)
        refine zv_if_eq (tgt := 216) G rv59 (by decide) dX0_either_197 (fun c69 => ?_) (fun c69 => ?_)
        · refine zv_aload G rfl dX0_either_216 ?_
          refine zv_iload G rfl dX0_either_218 ?_
          refine zc_ialdN G (o64.1 c69).1 rx11 (o64.1 c69).2.1 (o64.1 c69).2.2 dX0_either_220 ?_
          exact kj68 _ (if_neg (fun q => q.1 c69)).symm
        · refine zv_iload G rfl dX0_either_200 ?_
          refine zv_iconst (a := 1) G (by decide) dX0_either_202 ?_
          refine zv_icmp_ne (tgt := 216) G rx4 (zr_k 1 (by decide) (by decide)) (by decide) dX0_either_203 (fun c70 => ?_) (fun c70 => ?_)
          · refine zv_aload G rfl dX0_either_216 ?_
            refine zv_iload G rfl dX0_either_218 ?_
            refine zc_ialdN G ((o64.2 c69).2 c70).1 rx11 ((o64.2 c69).2 c70).2.1 ((o64.2 c69).2 c70).2.2 dX0_either_220 ?_
            exact kj68 _ (if_neg (fun q => c70 q.2)).symm
          · refine zv_aload_n G rfl rfl dX0_either_206 ?_
            refine zc_get (f := 16) (v := ar (fR w 16 p)) G (hFp tw rfl) rfl q2072 (Or.inl rfl) (cV_R rfl) dX0_either_207 ?_
            refine zv_iload G rfl dX0_either_210 ?_
            refine zc_ialdN G ((o64.2 c69).1 c70).1 rx11 ((o64.2 c69).1 c70).2.1 ((o64.2 c69).1 c70).2.2 dX0_either_212 ?_
            refine zv_goto (tgt := 221) G (by decide) dX0_either_213 ?_
            exact kj68 _ (if_pos ⟨c69, c70⟩).symm
      refine zv_if_eq (tgt := 183) G rv59 (by decide) dX0_either_159 (fun c72 => ?_) (fun c72 => ?_)
      · refine zv_iconst (a := 1) G (by decide) dX0_either_183 ?_
        refine zv_goto (tgt := 188) G (by decide) dX0_either_184 ?_
        exact kj71 _ (if_pos (Or.inl c72)).symm
      · refine zv_iload G rfl dX0_either_162 ?_
        refine zv_iconst (a := 1) G (by decide) dX0_either_164 ?_
        refine zv_icmp_eq (tgt := 183) G rx4 (zr_k 1 (by decide) (by decide)) (by decide) dX0_either_165 (fun c73 => ?_) (fun c73 => ?_)
        · refine zv_iconst (a := 1) G (by decide) dX0_either_183 ?_
          refine zv_goto (tgt := 188) G (by decide) dX0_either_184 ?_
          exact kj71 _ (if_pos (Or.inr (Or.inl c73))).symm
        · refine zv_aload_n G rfl rfl dX0_either_168 ?_
          refine zc_get (f := 16) (v := ar (fR w 16 p)) G (hFp tw rfl) rfl q2072 (Or.inl rfl) (cV_R rfl) dX0_either_169 ?_
          refine zv_iload G rfl dX0_either_172 ?_
          refine zc_ialdN G ((o61 c72) c73).1.1 rx11 ((o61 c72) c73).1.2.1 ((o61 c72) c73).1.2.2 dX0_either_174 ?_
          refine zv_aload G rfl dX0_either_175 ?_
          refine zv_iload G rfl dX0_either_177 ?_
          refine zc_ialdN G ((o61 c72) c73).2.1 rx11 ((o61 c72) c73).2.2.1 ((o61 c72) c73).2.2.2 dX0_either_179 ?_
          refine zv_icmp_ne (tgt := 187) G (aN_r hw _ _) (aN_r hw _ _) (by decide) dX0_either_180 (fun c74 => ?_) (fun c74 => ?_)
          · refine zv_iconst (a := 0) G (by decide) dX0_either_187 ?_
            exact kj71 _ (if_neg (fun q => q.elim c72 (fun q => q.elim c73 c74))).symm
          · refine zv_iconst (a := 1) G (by decide) dX0_either_183 ?_
            refine zv_goto (tgt := 188) G (by decide) dX0_either_184 ?_
            exact kj71 _ (if_pos (Or.inr (Or.inr c74))).symm
    refine zv_icmp_ne (tgt := 152) G (by first | exact i_and_r _ _ | exact i_or_r _ _ | exact i_shl_r _ _ | exact i_shr_r _ _ | exact i_ushr_r _ _ | exact i_b_r _ | exact i_c_r _ | exact i_xor_r _ _ | exact i_div_r _ _ | exact i_rem_r _ _ | exact zr_of _) (zr_k 1 (by decide) (by decide)) (by decide) dX0_either_145 (fun c76 => ?_) (fun c76 => ?_)
    · refine zv_iconst (a := 0) G (by decide) dX0_either_152 ?_
      exact kj75 _ (if_neg c76).symm
    · refine zv_iconst (a := 1) G (by decide) dX0_either_148 ?_
      refine zv_goto (tgt := 153) G (by decide) dX0_either_149 ?_
      exact kj75 _ (if_pos c76).symm
set_option maxHeartbeats 4000000 in
set_option maxRecDepth 100000 in
theorem cpC_X0_either_42 {Γ : ZG CW} {D : CD} {d p : Nat} (hp : D.K.1 = p) (G : ZOk Γ cX0_either RX0 13 (KnC D) (ZC D)) (M : ZRm Γ (d + 1) D.lim (Option.some (Jvm.ClassFile.FieldType.object "LetterPost$Pattern")) "either" []) (S : SdC d D p Γ.l) (hl : Γ.l.stackTraces = false) (hk : 0 ≤ d) {x1 : Int} {x2 : Int} {x3 : Nat} {x4 : Int} {x5 : Int} {x6 : Int} {x7 : Nat} {x8 : Int} {w : CW} (rx1 : zr x1) (rx2 : zr x2) (rx4 : zr x4) (rx5 : zr x5) (rx6 : zr x6) (rx8 : zr x8) (h : pC_X0_either_42 p (wpC p d) (fun v w => Γ.Q (.inl (some (ar v))) w) (fun x w => Γ.Q (.inr x) w) x1 x2 x3 x4 x5 x6 x7 x8 w) : ZV Γ w 42 [(0, ar p), (1, ai x1), (2, ai x2), (3, ar x3), (4, ai x4), (5, ai x5), (6, ai x6), (7, ar x7), (8, ai x8)] [] := by
  obtain ⟨I42, eI42⟩ : ∃ I : Int → Int → Int → CW → Prop, I = (fun x4 x6 x8 w => zr x4 → zr x6 → zr x8 → ZV Γ w 42 [(0, ar p), (1, ai x1), (2, ai x2), (3, ar x3), (4, ai x4), (5, ai x5), (6, ai x6), (7, ar x7), (8, ai x8)] []) := ⟨_, rfl⟩
  have hI42 : ∀ (x4 : Int) (x6 : Int) (x8 : Int) (w : CW), I42 x4 x6 x8 w → zr x4 → zr x6 → zr x8 → ZV Γ w 42 [(0, ar p), (1, ai x1), (2, ai x2), (3, ar x3), (4, ai x4), (5, ai x5), (6, ai x6), (7, ar x7), (8, ai x8)] [] := by subst eI42; exact fun _ _ _ _ z => z
  have hJ42 : ∀ (x4 : Int) (x6 : Int) (x8 : Int) (w : CW), (zr x4 → zr x6 → zr x8 → ZV Γ w 42 [(0, ar p), (1, ai x1), (2, ai x2), (3, ar x3), (4, ai x4), (5, ai x5), (6, ai x6), (7, ar x7), (8, ai x8)] []) → I42 x4 x6 x8 w := by subst eI42; exact fun _ _ _ _ z => z
  refine hI42 x4 x6 x8 w (h I42 (fun x4 x6 x8 w h => hJ42 x4 x6 x8 w (fun rx4 rx6 rx8 => ?_))) rx4 rx6 rx8
  refine zc_wk G hp (fun hw tw => ?_)
  refine zv_aload_n G rfl rfl dX0_either_42 ?_
  refine zv_callV (as := [ar p]) (st := []) G M (zc_eV (C := zcn 1) G q213 q215 qs1 (Or.inl ⟨rfl, rfl⟩) q216 md_X0_next (zc_rc G (zne tw tw.1 (by decide)) tw.1 (by decide) (by decide) rfl) rfl dX0_either_43) (S 4 _ rfl _ _ _ h (zoks_cons trivial zoks_nil)) (Or.inl ⟨rfl, rfl⟩) (zc_hk q216 q143) (by decide) (Nat.le_of_ble_eq_true rfl) (fun u8 h => ?_) (fun x85 u86 h => ?_)
  rotate_left
  · exact zx_leave G M rfl h
  refine zc_wk G hp (fun hu8 tu8 => ?_)
  refine zv_aload_n G rfl rfl dX0_either_46 ?_
  refine zv_iload G rfl dX0_either_47 ?_
  refine zc_putI (f := 18) G M (hPp tu8 rfl) rfl q2074 (Or.inl rfl) (Or.inl rfl) (zfty_18) rfl rfl (by decide) (by decide) rx5 dX0_either_49 (fun u10 eu10 => ?_)
  have h := h u10 eu10
  refine zc_wk G hp (fun hu10 tu10 => ?_)
  refine zv_aload_n G rfl rfl dX0_either_52 ?_
  refine zv_iload G rfl dX0_either_53 ?_
  refine zv_bipush (a := 6) G (by decide) dX0_either_55 ?_
  have kj83 : ∀ v11 : Int, v11 = (if x4 = 6 then 1 else 0) → ZV Γ u10 65 [(0, ar p), (1, ai x1), (2, ai x2), (3, ar x3), (4, ai x4), (5, ai x5), (6, ai x6), (7, ar x7), (8, ai x8)] (ai v11 :: ar p :: []) := by
    intro v11 ev11
    have h := h v11 ev11
    have rv11 : zr v11 := by rw [ev11]; exact (zr_ite (zr_k 1 (by decide) (by decide)) (zr_k 0 (by decide) (by decide)))
    have bv11 : v11 = 0 ∨ v11 = 1 := by rw [ev11]; exact (zb_ite (Or.inr rfl) (Or.inl rfl))
    refine zc_putI (f := 20) G M (hPp tu10 rfl) rfl q2076 (Or.inl rfl) (Or.inl rfl) (zfty_20) (zn_Z bv11) (zf_Z bv11) (by decide) (by decide) rv11 dX0_either_65 (fun u12 eu12 => ?_)
    have h := h u12 eu12
    refine zc_wk G hp (fun hu12 tu12 => ?_)
    refine zv_aload_n G rfl rfl dX0_either_68 ?_
    refine zv_iload_n G rfl rfl dX0_either_69 ?_
    refine zv_callR (as := [ar p, ai x1]) (st := []) G M (zc_eV (C := zcn 1) G q850 q852 qs18 (Or.inl ⟨rfl, rfl⟩) q853 md_X0_pattern (zc_rc G (zne tu12 tu12.1 (by decide)) tu12.1 (by decide) (by decide) rfl) rfl dX0_either_70) (S 22 _ rfl _ _ _ h (zoks_cons trivial (zoks_cons rx1 zoks_nil))) (Or.inl ⟨rfl, rfl⟩) (zc_hk q853 q143) (by decide) (Nat.le_of_ble_eq_true rfl) (fun v14 u13 h => ?_) (fun x81 u82 h => ?_)
    rotate_left
    · exact zx_leave G M rfl h
    refine zc_wk G hp (fun hu13 tu13 => ?_)
    refine zv_astore G (by decide) rfl dX0_either_73 ?_
    refine zv_aload_n G rfl rfl dX0_either_75 ?_
    refine zv_iload G rfl dX0_either_76 ?_
    refine zv_aload G rfl dX0_either_78 ?_
    have o16 := h.1
    have h := h.2
    have o17 := h.1
    have h := h.2
    refine zc_aast G o16.1 o17 rx4 o16.2.1 o16.2.2 dX0_either_80 (fun u15 eu15 => ?_)
    have h := h u15 eu15
    refine zc_wk G hp (fun hu15 tu15 => ?_)
    refine zv_iincN G rfl (by decide) dX0_either_81 (fun x4_18 ex4_18 => ?_)
    have h := h x4_18 ex4_18
    have rx4_18 : zr x4_18 := by rw [ex4_18]; exact w32_r _
    refine zv_aload_n G rfl rfl dX0_either_84 ?_
    refine zc_get (f := 18) (v := ai (fI u15 18 p)) G (hFp tu15 rfl) rfl q2074 (Or.inl rfl) (cV_I (by decide) (by decide)) dX0_either_85 ?_
    refine zv_iload G rfl dX0_either_88 ?_
    refine zv_iconst (a := (-1)) G (by decide) dX0_either_90 ?_
    refine zv_ixor G dX0_either_91 ?_
    refine zv_iand G dX0_either_92 ?_
    refine zv_istoreN G (by decide) dX0_either_93 (fun x10_19 ex10_19 => ?_)
    have h := h x10_19 ex10_19
    have rx10_19 : zr x10_19 := by rw [ex10_19]; exact (by first | exact i_and_r _ _ | exact i_or_r _ _ | exact i_shl_r _ _ | exact i_shr_r _ _ | exact i_ushr_r _ _ | exact i_b_r _ | exact i_c_r _ | exact i_xor_r _ _ | exact i_div_r _ _ | exact i_rem_r _ _ | exact zr_of _)
    refine zv_iload G rfl dX0_either_95 ?_
    refine zv_iconst (a := 1) G (by decide) dX0_either_97 ?_
    have kj79 : ∀ v20 : Int, v20 = (if x4_18 = 1 then x10_19 else x6) → ZV Γ u15 108 [(10, ai x10_19), (4, ai x4_18), (9, ar v14), (0, ar p), (1, ai x1), (2, ai x2), (3, ar x3), (5, ai x5), (6, ai x6), (7, ar x7), (8, ai x8)] (ai v20 :: []) := by
      intro v20 ev20
      have h := h v20 ev20
      have rv20 : zr v20 := by rw [ev20]; exact (zr_ite rx10_19 rx6)
      refine zv_istore G (by decide) rfl dX0_either_108 ?_
      refine zv_iload G rfl dX0_either_110 ?_
      refine zv_iload G rfl dX0_either_112 ?_
      refine zv_iload G rfl dX0_either_114 ?_
      have kj77 : ∀ v21 : Int, v21 = (if x10_19 = v20 then 1 else 0) → ZV Γ u15 124 [(6, ai v20), (10, ai x10_19), (4, ai x4_18), (9, ar v14), (0, ar p), (1, ai x1), (2, ai x2), (3, ar x3), (5, ai x5), (7, ar x7), (8, ai x8)] (ai v21 :: ai x8 :: []) := by
        intro v21 ev21
        have h := h v21 ev21
        have rv21 : zr v21 := by rw [ev21]; exact (zr_ite (zr_k 1 (by decide) (by decide)) (zr_k 0 (by decide) (by decide)))
        have bv21 : v21 = 0 ∨ v21 = 1 := by rw [ev21]; exact (zb_ite (Or.inr rfl) (Or.inl rfl))
        refine zv_iand G dX0_either_124 ?_
        refine zv_istoreN G (by decide) dX0_either_125 (fun x8_22 ex8_22 => ?_)
        have h := h x8_22 ex8_22
        have rx8_22 : zr x8_22 := by rw [ex8_22]; exact (by first | exact i_and_r _ _ | exact i_or_r _ _ | exact i_shl_r _ _ | exact i_shr_r _ _ | exact i_ushr_r _ _ | exact i_b_r _ | exact i_c_r _ | exact i_xor_r _ _ | exact i_div_r _ _ | exact i_rem_r _ _ | exact zr_of _)
        refine zv_iconst (a := 0) G (by decide) dX0_either_127 ?_
        refine zv_istore G (by decide) rfl dX0_either_128 ?_
        exact zv_pick [0, 1, 2, 3, 4, 5, 6, 7, 8, 10, 11] rfl (cpC_X0_either_130 hp G M S hl hk hI42 rx1 rx2 rx4_18 rx5 rv20 rx8_22 rx10_19 (zr_k 0 (by decide) (by decide)) h)
      refine zv_icmp_ne (tgt := 123) G rx10_19 rv20 (by decide) dX0_either_116 (fun c78 => ?_) (fun c78 => ?_)
      · refine zv_iconst (a := 0) G (by decide) dX0_either_123 ?_
        exact kj77 _ (if_neg c78).symm
      · refine zv_iconst (a := 1) G (by decide) dX0_either_119 ?_
        refine zv_goto (tgt := 124) G (by decide) dX0_either_120 ?_
        exact kj77 _ (if_pos c78).symm
    refine zv_icmp_ne (tgt := 106) G rx4_18 (zr_k 1 (by decide) (by decide)) (by decide) dX0_either_98 (fun c80 => ?_) (fun c80 => ?_)
    · refine zv_iload G rfl dX0_either_106 ?_
      exact kj79 _ (if_neg c80).symm
    · refine zv_iload G rfl dX0_either_101 ?_
      refine zv_goto (tgt := 108) G (by decide) dX0_either_103 ?_
      exact kj79 _ (if_pos c80).symm
  refine zv_icmp_ne (tgt := 64) G rx4 (zr_k 6 (by decide) (by decide)) (by decide) dX0_either_57 (fun c84 => ?_) (fun c84 => ?_)
  · refine zv_iconst (a := 0) G (by decide) dX0_either_64 ?_
    exact kj83 _ (if_neg c84).symm
  · refine zv_iconst (a := 1) G (by decide) dX0_either_60 ?_
    refine zv_goto (tgt := 65) G (by decide) dX0_either_61 ?_
    exact kj83 _ (if_pos c84).symm
set_option maxHeartbeats 4000000 in
set_option maxRecDepth 100000 in
theorem cpC_X0_either_0 {Γ : ZG CW} {D : CD} {d p : Nat} (hp : D.K.1 = p) (G : ZOk Γ cX0_either RX0 13 (KnC D) (ZC D)) (M : ZRm Γ (d + 1) D.lim (Option.some (Jvm.ClassFile.FieldType.object "LetterPost$Pattern")) "either" []) (S : SdC d D p Γ.l) (hl : Γ.l.stackTraces = false) (hk : 0 ≤ d) {x1 : Int} {w : CW} (rx1 : zr x1) (h : pC_X0_either_0 p (wpC p d) (fun v w => Γ.Q (.inl (some (ar v))) w) (fun x w => Γ.Q (.inr x) w) x1 w) : ZV Γ w 0 [(0, ar p), (1, ai x1)] [] := by
  refine zc_wk G hp (fun hw tw => ?_)
  refine zv_aload_n G rfl rfl dX0_either_0 ?_
  refine zc_get (f := 11) (v := ai (fI w 11 p)) G (hFp tw rfl) rfl q2067 (Or.inl rfl) (cV_I (by decide) (by decide)) dX0_either_1 ?_
  refine zv_istore_nN G rfl (by decide) dX0_either_4 (fun x2_1 ex2_1 => ?_)
  have h := h x2_1 ex2_1
  have rx2_1 : zr x2_1 := by rw [ex2_1]; exact (hw.i 11 _ (by decide))
  refine zv_bipush (a := 6) G (by decide) dX0_either_5 ?_
  have o3 := h.1
  have h := h.2
  refine zc_anew (t := 114) G M (by decide) q848 o3.1 o3.2 dX0_either_7 (fun u2 eu2 => ?_)
  have h := h u2 eu2
  refine zc_wk G hp (fun hu2 tu2 => ?_)
  refine zv_astore_n G rfl (by decide) rfl dX0_either_10 ?_
  refine zv_iconst (a := 0) G (by decide) dX0_either_11 ?_
  refine zv_istore G (by decide) rfl dX0_either_12 ?_
  refine zv_aload_n G rfl rfl dX0_either_14 ?_
  refine zc_get (f := 18) (v := ai (fI u2 18 p)) G (hFp tu2 rfl) rfl q2074 (Or.inl rfl) (cV_I (by decide) (by decide)) dX0_either_15 ?_
  refine zv_istoreN G (by decide) dX0_either_18 (fun x5_4 ex5_4 => ?_)
  have h := h x5_4 ex5_4
  have rx5_4 : zr x5_4 := by rw [ex5_4]; exact (hu2.i 18 _ (by decide))
  refine zv_iconst (a := 0) G (by decide) dX0_either_20 ?_
  refine zv_istore G (by decide) rfl dX0_either_21 ?_
  refine zv_bipush (a := 8) G (by decide) dX0_either_23 ?_
  have o6 := h.1
  have h := h.2
  refine zc_newa (t := 102) (ty := .int) G M (by decide) rfl rfl (fun z => z) (by decide) rfl q708 o6.1 o6.2 dX0_either_25 (fun u5 eu5 => ?_)
  have h := h u5 eu5
  refine zc_wk G hp (fun hu5 tu5 => ?_)
  refine zv_astore G (by decide) rfl dX0_either_27 ?_
  refine zv_iconst (a := 1) G (by decide) dX0_either_29 ?_
  refine zv_istore G (by decide) rfl dX0_either_30 ?_
  refine zv_aload_n G rfl rfl dX0_either_32 ?_
  refine zv_dup G rfl dX0_either_33 ?_
  refine zc_get (f := 19) (v := ai (fI u5 19 p)) G (hFp tu5 rfl) rfl q2075 (Or.inl rfl) (cV_I (by decide) (by decide)) dX0_either_34 ?_
  refine zv_iconst (a := 1) G (by decide) dX0_either_37 ?_
  refine zv_iadd G dX0_either_38 ?_
  refine zc_putI (f := 19) G M (hPp tu5 rfl) rfl q2075 (Or.inl rfl) (Or.inl rfl) (zfty_19) rfl rfl (by decide) (by decide) (w32_r _) dX0_either_39 (fun u7 eu7 => ?_)
  have h := h u7 eu7
  refine zc_wk G hp (fun hu7 tu7 => ?_)
  exact zv_pick [0, 1, 2, 3, 4, 5, 6, 7, 8] rfl (cpC_X0_either_42 hp G M S hl hk rx1 rx2_1 (zr_k 0 (by decide) (by decide)) rx5_4 (zr_k 0 (by decide) (by decide)) (zr_k 1 (by decide) (by decide)) h)
set_option maxHeartbeats 4000000 in
set_option maxRecDepth 100000 in
theorem cpC_X0_binds_0 {Γ : ZG CW} {D : CD} {d p : Nat} (hp : D.K.1 = p) (G : ZOk Γ cX0_binds RX0 2 (KnC D) (ZC D)) (M : ZRm Γ (d + 1) D.lim (Option.some Jvm.ClassFile.FieldType.int) "binds" []) (S : SdC d D p Γ.l) (hl : Γ.l.stackTraces = false) (hk : 0 ≤ d) {x1 : Int} {w : CW} (rx1 : zr x1) (h : pC_X0_binds_0 p (wpC p d) (fun v w => Γ.Q (.inl (some (ai v))) w) (fun x w => Γ.Q (.inr x) w) x1 w) : ZV Γ w 0 [(0, ar p), (1, ai x1)] [] := by
  refine zc_wk G hp (fun hw tw => ?_)
  refine zv_aload_n G rfl rfl dX0_binds_0 ?_
  refine zv_aload_n G rfl rfl dX0_binds_1 ?_
  refine zv_iload_n G rfl rfl dX0_binds_2 ?_
  refine zv_callI (as := [ar p, ai x1]) (st := [ar p]) G M (zc_eV (C := zcn 1) G q876 q878 qs20 (Or.inl ⟨rfl, rfl⟩) q879 md_X0_nameAt (zc_rc G (zne tw tw.1 (by decide)) tw.1 (by decide) (by decide) rfl) rfl dX0_binds_3) (S 24 _ rfl _ _ _ h (zoks_cons trivial (zoks_cons rx1 zoks_nil))) (Or.inl ⟨rfl, rfl⟩) (zc_hk q879 q143) (by decide) (Nat.le_of_ble_eq_true rfl) (fun v2 u1 rv2 h => ?_) (fun x7 u8 h => ?_)
  rotate_left
  · exact zx_leave G M rfl h
  refine zc_wk G hp (fun hu1 tu1 => ?_)
  refine zv_iload_n G rfl rfl dX0_binds_6 ?_
  refine zv_callI (as := [ar p, ai v2, ai x1]) (st := []) G M (zc_eV (C := zcn 1) G q880 q882 qs21 (Or.inl ⟨rfl, rfl⟩) q883 md_X0_bind (zc_rc G (zne tu1 tu1.1 (by decide)) tu1.1 (by decide) (by decide) rfl) rfl dX0_binds_7) (S 25 _ rfl _ _ _ h (zoks_cons trivial (zoks_cons rv2 (zoks_cons rx1 zoks_nil)))) (Or.inl ⟨rfl, rfl⟩) (zc_hk q883 q143) (by decide) (Nat.le_of_ble_eq_true rfl) (fun v4 u3 rv4 h => ?_) (fun x5 u6 h => ?_)
  rotate_left
  · exact zx_leave G M rfl h
  refine zc_wk G hp (fun hu3 tu3 => ?_)
  exact zv_iret (ty := .int) rv4 G M rfl dX0_binds_10 h
set_option maxHeartbeats 4000000 in
set_option maxRecDepth 100000 in
theorem cpC_X0_guard_51 {Γ : ZG CW} {D : CD} {d p : Nat} (hp : D.K.1 = p) (G : ZOk Γ cX0_guard RX0 2 (KnC D) (ZC D)) (M : ZRm Γ (d + 1) D.lim (Option.some (Jvm.ClassFile.FieldType.object "LetterPost$Guard")) "guard" []) (S : SdC d D p Γ.l) (hl : Γ.l.stackTraces = false) (hk : 0 ≤ d) {x1 : Nat} {s0 : Int} {s1 : Nat} {w : CW} (rs0 : zr s0) (h : pC_X0_guard_51 p (wpC p d) (fun v w => Γ.Q (.inl (some (ar v))) w) (fun x w => Γ.Q (.inr x) w) x1 s0 s1 w) : ZV Γ w 51 [(0, ar p), (1, ar x1)] [ai s0, ar s1] := by
  refine zc_wk G hp (fun hw tw => ?_)
  have o26 := h.1
  have h := h.2
  refine zv_callV (as := [ar s1, ai s0]) (st := []) G M (zc_eV (C := zcn 1) G q667 q669 qs10 (Or.inl ⟨rfl, rfl⟩) q670 md_X0_want (zc_rc G (zne tw o26 (by decide)) o26 (by decide) (by decide) rfl) rfl dX0_guard_51) (S 14 _ rfl _ _ _ h (zoks_cons trivial (zoks_cons rs0 zoks_nil))) (Or.inl ⟨rfl, rfl⟩) (zc_hk q670 q143) (by decide) (Nat.le_of_ble_eq_true rfl) (fun u12 h => ?_) (fun x24 u25 h => ?_)
  rotate_left
  · exact zx_leave G M rfl h
  refine zc_wk G hp (fun hu12 tu12 => ?_)
  refine zv_aload_n G rfl rfl dX0_guard_54 ?_
  refine zv_aload_n G rfl rfl dX0_guard_55 ?_
  refine zc_get (f := 14) (v := ai (fI u12 14 p)) G (hFp tu12 rfl) rfl q2070 (Or.inl rfl) (cV_I (by decide) (by decide)) dX0_guard_56 ?_
  have o15 := h.1
  have h := h.2
  refine zc_putI (f := 79) G M o15 rfl q1018 (Or.inl rfl) (Or.inl rfl) (zfty_79) rfl rfl (by decide) (by decide) (hu12.i 14 _ (by decide)) dX0_guard_59 (fun u14 eu14 => ?_)
  have h := h u14 eu14
  refine zc_wk G hp (fun hu14 tu14 => ?_)
  refine zv_aload_n G rfl rfl dX0_guard_62 ?_
  refine zv_callV (as := [ar p]) (st := []) G M (zc_eV (C := zcn 1) G q213 q215 qs1 (Or.inl ⟨rfl, rfl⟩) q216 md_X0_next (zc_rc G (zne tu14 tu14.1 (by decide)) tu14.1 (by decide) (by decide) rfl) rfl dX0_guard_63) (S 4 _ rfl _ _ _ h (zoks_cons trivial zoks_nil)) (Or.inl ⟨rfl, rfl⟩) (zc_hk q216 q143) (by decide) (Nat.le_of_ble_eq_true rfl) (fun u16 h => ?_) (fun x22 u23 h => ?_)
  rotate_left
  · exact zx_leave G M rfl h
  refine zc_wk G hp (fun hu16 tu16 => ?_)
  refine zv_aload_n G rfl rfl dX0_guard_66 ?_
  refine zv_aload_n G rfl rfl dX0_guard_67 ?_
  refine zv_iconst (a := 1) G (by decide) dX0_guard_68 ?_
  refine zv_callV (as := [ar p, ar x1, ai 1]) (st := []) G M (zc_eV (C := zcn 1) G q1028 q1030 qs30 (Or.inl ⟨rfl, rfl⟩) q1031 md_X0_sum (zc_rc G (zne tu16 tu16.1 (by decide)) tu16.1 (by decide) (by decide) rfl) rfl dX0_guard_69) (S 35 _ rfl _ _ _ h (zoks_cons trivial (zoks_cons trivial (zoks_cons (zr_k 1 (by decide) (by decide)) zoks_nil)))) (Or.inl ⟨rfl, rfl⟩) (zc_hk q1031 q143) (by decide) (Nat.le_of_ble_eq_true rfl) (fun u18 h => ?_) (fun x20 u21 h => ?_)
  rotate_left
  · exact zx_leave G M rfl h
  refine zc_wk G hp (fun hu18 tu18 => ?_)
  refine zv_aload_n G rfl rfl dX0_guard_72 ?_
  exact zv_aret G M (Or.inl ⟨_, rfl⟩) dX0_guard_73 h
set_option maxHeartbeats 4000000 in
set_option maxRecDepth 100000 in
theorem cpC_X0_guard_46 {Γ : ZG CW} {D : CD} {d p : Nat} (hp : D.K.1 = p) (G : ZOk Γ cX0_guard RX0 2 (KnC D) (ZC D)) (M : ZRm Γ (d + 1) D.lim (Option.some (Jvm.ClassFile.FieldType.object "LetterPost$Guard")) "guard" []) (S : SdC d D p Γ.l) (hl : Γ.l.stackTraces = false) (hk : 0 ≤ d) {x1 : Nat} {s0 : Nat} {w : CW} (h : pC_X0_guard_46 p (wpC p d) (fun v w => Γ.Q (.inl (some (ar v))) w) (fun x w => Γ.Q (.inr x) w) x1 s0 w) : ZV Γ w 46 [(0, ar p), (1, ar x1)] [ar s0] := by
  refine zc_wk G hp (fun hw tw => ?_)
  refine zv_iconst (a := 1) G (by decide) dX0_guard_46 ?_
  refine zv_goto (tgt := 51) G (by decide) dX0_guard_47 ?_
  exact zv_pick [0, 1] rfl (cpC_X0_guard_51 hp G M S hl hk (zr_k 1 (by decide) (by decide)) h)
set_option maxHeartbeats 4000000 in
set_option maxRecDepth 100000 in
theorem cpC_X0_guard_0 {Γ : ZG CW} {D : CD} {d p : Nat} (hp : D.K.1 = p) (G : ZOk Γ cX0_guard RX0 2 (KnC D) (ZC D)) (M : ZRm Γ (d + 1) D.lim (Option.some (Jvm.ClassFile.FieldType.object "LetterPost$Guard")) "guard" []) (S : SdC d D p Γ.l) (hl : Γ.l.stackTraces = false) (hk : 0 ≤ d) {w : CW} (h : pC_X0_guard_0 p (wpC p d) (fun v w => Γ.Q (.inl (some (ar v))) w) (fun x w => Γ.Q (.inr x) w) w) : ZV Γ w 0 [(0, ar p)] [] := by
  refine zc_wk G hp (fun hw tw => ?_)
  have o2 := h.1
  have h := h.2
  refine zc_new (ci := 12) (t := 13) (n := 4) G M rfl rfl (by decide) rfl q1005 q1006 q171 o2 dX0_guard_0 (fun u1 eu1 => ?_)
  have h := h u1 eu1
  refine zc_wk G hp (fun hu1 tu1 => ?_)
  refine zv_dup G rfl dX0_guard_3 ?_
  refine zv_callV (as := [ar (cz w + 1)]) (st := [ar (cz w + 1)]) G M (zc_eIN G rfl q1007 q1008 q1009 md_X15_init (Nat.succ_ne_zero _) rfl dX0_guard_4) (S 120 _ rfl _ _ _ h (zoks_cons trivial zoks_nil)) (Or.inl ⟨rfl, rfl⟩) (zc_hk q1009 q171) (by decide) (Nat.le_of_ble_eq_true rfl) (fun u3 h => ?_) (fun _ _ h => h.elim)
  refine zc_wk G hp (fun hu3 tu3 => ?_)
  refine zv_astore_n G rfl (by decide) rfl dX0_guard_7 ?_
  refine zv_aload_n G rfl rfl dX0_guard_8 ?_
  refine zv_callV (as := [ar p]) (st := []) G M (zc_eV (C := zcn 1) G q213 q215 qs1 (Or.inl ⟨rfl, rfl⟩) q216 md_X0_next (zc_rc G (zne tu3 tu3.1 (by decide)) tu3.1 (by decide) (by decide) rfl) rfl dX0_guard_9) (S 4 _ rfl _ _ _ h (zoks_cons trivial zoks_nil)) (Or.inl ⟨rfl, rfl⟩) (zc_hk q216 q143) (by decide) (Nat.le_of_ble_eq_true rfl) (fun u5 h => ?_) (fun x35 u36 h => ?_)
  rotate_left
  · exact zx_leave G M rfl h
  refine zc_wk G hp (fun hu5 tu5 => ?_)
  refine zv_aload_n G rfl rfl dX0_guard_12 ?_
  refine zv_aload_n G rfl rfl dX0_guard_13 ?_
  refine zv_iconst (a := 0) G (by decide) dX0_guard_14 ?_
  refine zv_callV (as := [ar p, ar (cz w + 1), ai 0]) (st := []) G M (zc_eV (C := zcn 1) G q1028 q1030 qs30 (Or.inl ⟨rfl, rfl⟩) q1031 md_X0_sum (zc_rc G (zne tu5 tu5.1 (by decide)) tu5.1 (by decide) (by decide) rfl) rfl dX0_guard_15) (S 35 _ rfl _ _ _ h (zoks_cons trivial (zoks_cons trivial (zoks_cons (zr_k 0 (by decide) (by decide)) zoks_nil)))) (Or.inl ⟨rfl, rfl⟩) (zc_hk q1031 q143) (by decide) (Nat.le_of_ble_eq_true rfl) (fun u7 h => ?_) (fun x33 u34 h => ?_)
  rotate_left
  · exact zx_leave G M rfl h
  refine zc_wk G hp (fun hu7 tu7 => ?_)
  refine zv_aload_n G rfl rfl dX0_guard_18 ?_
  refine zv_aload_n G rfl rfl dX0_guard_19 ?_
  refine zv_bipush (a := 60) G (by decide) dX0_guard_20 ?_
  refine zv_callI (as := [ar p, ai 60]) (st := [ar p]) G M (zc_eV (C := zcn 1) G q709 q711 qs12 (Or.inl ⟨rfl, rfl⟩) q712 md_X0_isSign (zc_rc G (zne tu7 tu7.1 (by decide)) tu7.1 (by decide) (by decide) rfl) rfl dX0_guard_22) (S 16 _ rfl _ _ _ h (zoks_cons trivial (zoks_cons (zr_k 60 (by decide) (by decide)) zoks_nil))) (Or.inl ⟨rfl, rfl⟩) (zc_hk q712 q143) (by decide) (Nat.le_of_ble_eq_true rfl) (fun v10 u9 rv10 h => ?_) (fun _ _ h => h.elim)
  refine zc_wk G hp (fun hu9 tu9 => ?_)
  refine zv_if_ne (tgt := 46) G rv10 (by decide) dX0_guard_25 (fun c11 => ?_) (fun c11 => ?_)
  · have h := h.2 c11
    exact zv_pick [0, 1] rfl (cpC_X0_guard_46 hp G M S hl hk h)
  · have h := h.1 c11
    refine zv_aload_n G rfl rfl dX0_guard_28 ?_
    refine zv_bipush (a := 61) G (by decide) dX0_guard_29 ?_
    refine zv_callI (as := [ar p, ai 61]) (st := [ar p]) G M (zc_eV (C := zcn 1) G q709 q711 qs12 (Or.inl ⟨rfl, rfl⟩) q712 md_X0_isSign (zc_rc G (zne tu9 tu9.1 (by decide)) tu9.1 (by decide) (by decide) rfl) rfl dX0_guard_31) (S 16 _ rfl _ _ _ h (zoks_cons trivial (zoks_cons (zr_k 61 (by decide) (by decide)) zoks_nil))) (Or.inl ⟨rfl, rfl⟩) (zc_hk q712 q143) (by decide) (Nat.le_of_ble_eq_true rfl) (fun v28 u27 rv28 h => ?_) (fun _ _ h => h.elim)
    refine zc_wk G hp (fun hu27 tu27 => ?_)
    refine zv_if_ne (tgt := 46) G rv28 (by decide) dX0_guard_34 (fun c29 => ?_) (fun c29 => ?_)
    · have h := h.2 c29
      exact zv_pick [0, 1] rfl (cpC_X0_guard_46 hp G M S hl hk h)
    · have h := h.1 c29
      refine zv_aload_n G rfl rfl dX0_guard_37 ?_
      refine zv_bipush (a := 62) G (by decide) dX0_guard_38 ?_
      refine zv_callI (as := [ar p, ai 62]) (st := [ar p]) G M (zc_eV (C := zcn 1) G q709 q711 qs12 (Or.inl ⟨rfl, rfl⟩) q712 md_X0_isSign (zc_rc G (zne tu27 tu27.1 (by decide)) tu27.1 (by decide) (by decide) rfl) rfl dX0_guard_40) (S 16 _ rfl _ _ _ h (zoks_cons trivial (zoks_cons (zr_k 62 (by decide) (by decide)) zoks_nil))) (Or.inl ⟨rfl, rfl⟩) (zc_hk q712 q143) (by decide) (Nat.le_of_ble_eq_true rfl) (fun v31 u30 rv31 h => ?_) (fun _ _ h => h.elim)
      refine zc_wk G hp (fun hu30 tu30 => ?_)
      refine zv_if_eq (tgt := 50) G rv31 (by decide) dX0_guard_43 (fun c32 => ?_) (fun c32 => ?_)
      · have h := h.1 c32
        refine zv_iconst (a := 0) G (by decide) dX0_guard_50 ?_
        exact zv_pick [0, 1] rfl (cpC_X0_guard_51 hp G M S hl hk (zr_k 0 (by decide) (by decide)) h)
      · have h := h.2 c32
        exact zv_pick [0, 1] rfl (cpC_X0_guard_46 hp G M S hl hk h)
set_option maxHeartbeats 4000000 in
set_option maxRecDepth 100000 in
theorem cpC_X0_sum_53 {Γ : ZG CW} {D : CD} {d p : Nat} (hp : D.K.1 = p) (G : ZOk Γ cX0_sum RX0 3 (KnC D) (ZC D)) (M : ZRm Γ (d + 1) D.lim (Option.none : Option Jvm.ClassFile.FieldType) "sum" []) (S : SdC d D p Γ.l) (hl : Γ.l.stackTraces = false) (hk : 0 ≤ d) {w : CW} (h : pC_X0_sum_53 p (wpC p d) (fun w => Γ.Q (.inl none) w) (fun x w => Γ.Q (.inr x) w) w) : ZV Γ w 53 [] [] := by
  refine zc_wk G hp (fun hw tw => ?_)
  exact zv_vret G M dX0_sum_53 h
set_option maxHeartbeats 4000000 in
set_option maxRecDepth 100000 in
theorem cpC_X0_sum_0 {Γ : ZG CW} {D : CD} {d p : Nat} (hp : D.K.1 = p) (G : ZOk Γ cX0_sum RX0 3 (KnC D) (ZC D)) (M : ZRm Γ (d + 1) D.lim (Option.none : Option Jvm.ClassFile.FieldType) "sum" []) (S : SdC d D p Γ.l) (hl : Γ.l.stackTraces = false) (hk : 0 ≤ d) {x1 : Nat} {x2 : Int} {w : CW} (rx2 : zr x2) (h : pC_X0_sum_0 p (wpC p d) (fun w => Γ.Q (.inl none) w) (fun x w => Γ.Q (.inr x) w) x1 x2 w) : ZV Γ w 0 [(0, ar p), (1, ar x1), (2, ai x2)] [] := by
  refine zc_wk G hp (fun hw tw => ?_)
  refine zv_aload_n G rfl rfl dX0_sum_0 ?_
  refine zv_aload_n G rfl rfl dX0_sum_1 ?_
  refine zv_iconst (a := 2) G (by decide) dX0_sum_2 ?_
  refine zv_iload_n G rfl rfl dX0_sum_3 ?_
  refine zv_imul G dX0_sum_4 ?_
  refine zv_callV (as := [ar p, ar x1, ai (w32 (2 * x2))]) (st := []) G M (zc_eV (C := zcn 1) G q1032 q1034 qs31 (Or.inl ⟨rfl, rfl⟩) q1035 md_X0_term (zc_rc G (zne tw tw.1 (by decide)) tw.1 (by decide) (by decide) rfl) rfl dX0_sum_5) (S 36 _ rfl _ _ _ h (zoks_cons trivial (zoks_cons trivial (zoks_cons (w32_r _) zoks_nil)))) (Or.inl ⟨rfl, rfl⟩) (zc_hk q1035 q143) (by decide) (Nat.le_of_ble_eq_true rfl) (fun u1 h => ?_) (fun x20 u21 h => ?_)
  rotate_left
  · exact zx_leave G M rfl h
  refine zc_wk G hp (fun hu1 tu1 => ?_)
  refine zv_aload_n G rfl rfl dX0_sum_8 ?_
  refine zc_get (f := 10) (v := ai (fI u1 10 p)) G (hFp tu1 rfl) rfl q2066 (Or.inl rfl) (cV_I (by decide) (by decide)) dX0_sum_9 ?_
  refine zv_iconst (a := 5) G (by decide) dX0_sum_12 ?_
  refine zv_icmp_ne (tgt := 53) G (hu1.i 10 _ (by decide)) (zr_k 5 (by decide) (by decide)) (by decide) dX0_sum_13 (fun c3 => ?_) (fun c3 => ?_)
  · have h := h.2 c3
    exact zv_pick [] rfl (cpC_X0_sum_53 hp G M S hl hk h)
  · have h := h.1 c3
    refine zc_ldcsw (k := 14) G rfl dX0_sum_16 ?_
    refine zv_aload_n G rfl rfl dX0_sum_19 ?_
    refine zc_get (f := 14) (v := ai (fI u1 14 p)) G (hFp tu1 rfl) rfl q2070 (Or.inl rfl) (cV_I (by decide) (by decide)) dX0_sum_20 ?_
    have o18 := h.1
    have h := h.2
    have en19 : ZEn Γ u1 23 [(0, ar p), (1, ar x1), (2, ai x2)] yJ4_indexOf_2 3 [ar (sr u1 14), ai (fI u1 14 p)] [] := by
      rcases o18 with z | z
      · exact (zc_eV (C := zcn 32) G q600 q601 q602 (Or.inl ⟨rfl, rfl⟩) q603 md_J4_indexOf_2 (zc_rc G (zne tu1 z (by decide)) z (by decide) (by decide) rfl) rfl dX0_sum_23)
      · exact (zc_eV (C := zcn 34) G q600 q601 q602 (Or.inl ⟨rfl, rfl⟩) q603 md_J4_indexOf_2 (zc_rc G (zne tu1 z (by decide)) z (by decide) (by decide) rfl) rfl dX0_sum_23)
    refine zv_callI (as := [ar (sr u1 14), ai (fI u1 14 p)]) (st := []) G M en19 (S 231 _ rfl _ _ _ h (zoks_cons trivial (zoks_cons (hu1.i 14 _ (by decide)) zoks_nil))) (Or.inl ⟨rfl, rfl⟩) (zc_hk q603 q150) (by decide) (Nat.le_of_ble_eq_true rfl) (fun v5 u4 rv5 h => ?_) (fun _ _ h => h.elim)
    refine zc_wk G hp (fun hu4 tu4 => ?_)
    refine zv_if_lt (tgt := 53) G rv5 (by decide) dX0_sum_26 (fun c6 => ?_) (fun c6 => ?_)
    · have h := h.1 c6
      exact zv_pick [] rfl (cpC_X0_sum_53 hp G M S hl hk h)
    · have h := h.2 c6
      refine zv_aload_n G rfl rfl dX0_sum_29 ?_
      have o7 := h.1
      have h := h.2
      refine zc_get (f := 76) (v := ar (fR u4 76 x1)) G o7 rfl q1012 (Or.inl rfl) (cV_R rfl) dX0_sum_30 ?_
      refine zv_iload_n G rfl rfl dX0_sum_33 ?_
      refine zv_aload_n G rfl rfl dX0_sum_34 ?_
      refine zc_get (f := 14) (v := ai (fI u4 14 p)) G (hFp tu4 rfl) rfl q2070 (Or.inl rfl) (cV_I (by decide) (by decide)) dX0_sum_35 ?_
      have o9 := h.1
      have h := h.2
      refine zc_iast G o9.1 rx2 (hu4.i 14 _ (by decide)) o9.2.1 o9.2.2 dX0_sum_38 (fun u8 eu8 => ?_)
      have h := h u8 eu8
      refine zc_wk G hp (fun hu8 tu8 => ?_)
      refine zv_aload_n G rfl rfl dX0_sum_39 ?_
      refine zv_callV (as := [ar p]) (st := []) G M (zc_eV (C := zcn 1) G q213 q215 qs1 (Or.inl ⟨rfl, rfl⟩) q216 md_X0_next (zc_rc G (zne tu8 tu8.1 (by decide)) tu8.1 (by decide) (by decide) rfl) rfl dX0_sum_40) (S 4 _ rfl _ _ _ h (zoks_cons trivial zoks_nil)) (Or.inl ⟨rfl, rfl⟩) (zc_hk q216 q143) (by decide) (Nat.le_of_ble_eq_true rfl) (fun u10 h => ?_) (fun x16 u17 h => ?_)
      rotate_left
      · exact zx_leave G M rfl h
      refine zc_wk G hp (fun hu10 tu10 => ?_)
      refine zv_aload_n G rfl rfl dX0_sum_43 ?_
      refine zv_aload_n G rfl rfl dX0_sum_44 ?_
      refine zv_iconst (a := 2) G (by decide) dX0_sum_45 ?_
      refine zv_iload_n G rfl rfl dX0_sum_46 ?_
      refine zv_imul G dX0_sum_47 ?_
      refine zv_iconst (a := 1) G (by decide) dX0_sum_48 ?_
      refine zv_iadd G dX0_sum_49 ?_
      refine zv_callV (as := [ar p, ar x1, ai (w32 ((w32 (2 * x2)) + 1))]) (st := []) G M (zc_eV (C := zcn 1) G q1032 q1034 qs31 (Or.inl ⟨rfl, rfl⟩) q1035 md_X0_term (zc_rc G (zne tu10 tu10.1 (by decide)) tu10.1 (by decide) (by decide) rfl) rfl dX0_sum_50) (S 36 _ rfl _ _ _ h (zoks_cons trivial (zoks_cons trivial (zoks_cons (w32_r _) zoks_nil)))) (Or.inl ⟨rfl, rfl⟩) (zc_hk q1035 q143) (by decide) (Nat.le_of_ble_eq_true rfl) (fun u12 h => ?_) (fun x14 u15 h => ?_)
      rotate_left
      · exact zx_leave G M rfl h
      refine zc_wk G hp (fun hu12 tu12 => ?_)
      exact zv_pick [] rfl (cpC_X0_sum_53 hp G M S hl hk h)
set_option maxHeartbeats 4000000 in
set_option maxRecDepth 100000 in
theorem cpC_X0_term_35 {Γ : ZG CW} {D : CD} {d p : Nat} (hp : D.K.1 = p) (G : ZOk Γ cX0_term RX0 3 (KnC D) (ZC D)) (M : ZRm Γ (d + 1) D.lim (Option.none : Option Jvm.ClassFile.FieldType) "term" []) (S : SdC d D p Γ.l) (hl : Γ.l.stackTraces = false) (hk : 0 ≤ d) {w : CW} (h : pC_X0_term_35 p (wpC p d) (fun w => Γ.Q (.inl none) w) (fun x w => Γ.Q (.inr x) w) w) : ZV Γ w 35 [] [] := by
  refine zc_wk G hp (fun hw tw => ?_)
  exact zv_vret G M dX0_term_35 h
set_option maxHeartbeats 4000000 in
set_option maxRecDepth 100000 in
theorem cpC_X0_term_0 {Γ : ZG CW} {D : CD} {d p : Nat} (hp : D.K.1 = p) (G : ZOk Γ cX0_term RX0 3 (KnC D) (ZC D)) (M : ZRm Γ (d + 1) D.lim (Option.none : Option Jvm.ClassFile.FieldType) "term" []) (S : SdC d D p Γ.l) (hl : Γ.l.stackTraces = false) (hk : 0 ≤ d) {x1 : Nat} {x2 : Int} {w : CW} (rx2 : zr x2) (h : pC_X0_term_0 p (wpC p d) (fun w => Γ.Q (.inl none) w) (fun x w => Γ.Q (.inr x) w) x1 x2 w) : ZV Γ w 0 [(0, ar p), (1, ar x1), (2, ai x2)] [] := by
  refine zc_wk G hp (fun hw tw => ?_)
  refine zv_aload_n G rfl rfl dX0_term_0 ?_
  refine zc_get (f := 10) (v := ai (fI w 10 p)) G (hFp tw rfl) rfl q2066 (Or.inl rfl) (cV_I (by decide) (by decide)) dX0_term_1 ?_
  refine zv_iconst (a := 1) G (by decide) dX0_term_4 ?_
  refine zv_icmp_ne (tgt := 25) G (hw.i 10 _ (by decide)) (zr_k 1 (by decide) (by decide)) (by decide) dX0_term_5 (fun c1 => ?_) (fun c1 => ?_)
  · have h := h.2 c1
    refine zv_aload_n G rfl rfl dX0_term_25 ?_
    have o2 := h.1
    have h := h.2
    refine zc_get (f := 77) (v := ar (fR w 77 x1)) G o2 rfl q1014 (Or.inl rfl) (cV_R rfl) dX0_term_26 ?_
    refine zv_iload_n G rfl rfl dX0_term_29 ?_
    refine zv_aload_n G rfl rfl dX0_term_30 ?_
    refine zv_callI (as := [ar p]) (st := [ai x2, ar (fR w 77 x1)]) G M (zc_eV (C := zcn 1) G q889 q891 qs23 (Or.inl ⟨rfl, rfl⟩) q892 md_X0_readWhole (zc_rc G (zne tw tw.1 (by decide)) tw.1 (by decide) (by decide) rfl) rfl dX0_term_31) (S 27 _ rfl _ _ _ h (zoks_cons trivial zoks_nil)) (Or.inl ⟨rfl, rfl⟩) (zc_hk q892 q143) (by decide) (Nat.le_of_ble_eq_true rfl) (fun v4 u3 rv4 h => ?_) (fun x7 u8 h => ?_)
    rotate_left
    · exact zx_leave G M rfl h
    refine zc_wk G hp (fun hu3 tu3 => ?_)
    have o6 := h.1
    have h := h.2
    refine zc_iast G o6.1 rx2 rv4 o6.2.1 o6.2.2 dX0_term_34 (fun u5 eu5 => ?_)
    have h := h u5 eu5
    refine zc_wk G hp (fun hu5 tu5 => ?_)
    exact zv_pick [] rfl (cpC_X0_term_35 hp G M S hl hk h)
  · have h := h.1 c1
    refine zv_aload_n G rfl rfl dX0_term_8 ?_
    have o9 := h.1
    have h := h.2
    refine zc_get (f := 78) (v := ar (fR w 78 x1)) G o9 rfl q1016 (Or.inl rfl) (cV_R rfl) dX0_term_9 ?_
    refine zv_iload_n G rfl rfl dX0_term_12 ?_
    refine zv_aload_n G rfl rfl dX0_term_13 ?_
    refine zv_callI (as := [ar p]) (st := [ai x2, ar (fR w 78 x1)]) G M (zc_eV (C := zcn 1) G q1036 q1038 qs32 (Or.inl ⟨rfl, rfl⟩) q1039 md_X0_wholeName (zc_rc G (zne tw tw.1 (by decide)) tw.1 (by decide) (by decide) rfl) rfl dX0_term_14) (S 37 _ rfl _ _ _ h (zoks_cons trivial zoks_nil)) (Or.inl ⟨rfl, rfl⟩) (zc_hk q1039 q143) (by decide) (Nat.le_of_ble_eq_true rfl) (fun v11 u10 rv11 h => ?_) (fun x18 u19 h => ?_)
    rotate_left
    · exact zx_leave G M rfl h
    refine zc_wk G hp (fun hu10 tu10 => ?_)
    have o13 := h.1
    have h := h.2
    refine zc_iast G o13.1 rx2 rv11 o13.2.1 o13.2.2 dX0_term_17 (fun u12 eu12 => ?_)
    have h := h u12 eu12
    refine zc_wk G hp (fun hu12 tu12 => ?_)
    refine zv_aload_n G rfl rfl dX0_term_18 ?_
    refine zv_callV (as := [ar p]) (st := []) G M (zc_eV (C := zcn 1) G q213 q215 qs1 (Or.inl ⟨rfl, rfl⟩) q216 md_X0_next (zc_rc G (zne tu12 tu12.1 (by decide)) tu12.1 (by decide) (by decide) rfl) rfl dX0_term_19) (S 4 _ rfl _ _ _ h (zoks_cons trivial zoks_nil)) (Or.inl ⟨rfl, rfl⟩) (zc_hk q216 q143) (by decide) (Nat.le_of_ble_eq_true rfl) (fun u14 h => ?_) (fun x16 u17 h => ?_)
    rotate_left
    · exact zx_leave G M rfl h
    refine zc_wk G hp (fun hu14 tu14 => ?_)
    refine zv_goto (tgt := 35) G (by decide) dX0_term_22 ?_
    exact zv_pick [] rfl (cpC_X0_term_35 hp G M S hl hk h)
set_option maxHeartbeats 4000000 in
set_option maxRecDepth 100000 in
theorem cpC_X0_wholeName_0 {Γ : ZG CW} {D : CD} {d p : Nat} (hp : D.K.1 = p) (G : ZOk Γ cX0_wholeName RX0 2 (KnC D) (ZC D)) (M : ZRm Γ (d + 1) D.lim (Option.some Jvm.ClassFile.FieldType.int) "wholeName" []) (S : SdC d D p Γ.l) (hl : Γ.l.stackTraces = false) (hk : 0 ≤ d) {w : CW} (h : pC_X0_wholeName_0 p (wpC p d) (fun v w => Γ.Q (.inl (some (ai v))) w) (fun x w => Γ.Q (.inr x) w) w) : ZV Γ w 0 [(0, ar p)] [] := by
  refine zc_wk G hp (fun hw tw => ?_)
  refine zv_aload_n G rfl rfl dX0_wholeName_0 ?_
  refine zv_callI (as := [ar p]) (st := []) G M (zc_eV (C := zcn 1) G q1040 q1042 qs33 (Or.inl ⟨rfl, rfl⟩) q1043 md_X0_known (zc_rc G (zne tw tw.1 (by decide)) tw.1 (by decide) (by decide) rfl) rfl dX0_wholeName_1) (S 38 _ rfl _ _ _ h (zoks_cons trivial zoks_nil)) (Or.inl ⟨rfl, rfl⟩) (zc_hk q1043 q143) (by decide) (Nat.le_of_ble_eq_true rfl) (fun v2 u1 rv2 h => ?_) (fun x11 u12 h => ?_)
  rotate_left
  · exact zx_leave G M rfl h
  refine zc_wk G hp (fun hu1 tu1 => ?_)
  refine zv_istore_n G rfl (by decide) rfl dX0_wholeName_4 ?_
  refine zv_aload_n G rfl rfl dX0_wholeName_5 ?_
  refine zv_aload_n G rfl rfl dX0_wholeName_6 ?_
  refine zc_get (f := 16) (v := ar (fR u1 16 p)) G (hFp tu1 rfl) rfl q2072 (Or.inl rfl) (cV_R rfl) dX0_wholeName_7 ?_
  refine zv_iload_n G rfl rfl dX0_wholeName_10 ?_
  have o3 := h.1
  have h := h.2
  refine zc_ialdN G o3.1 rv2 o3.2.1 o3.2.2 dX0_wholeName_11 ?_
  have kj9 : ∀ v4 : Int, v4 = (if (aN u1 (fR u1 16 p) v2) = 0 then 1 else 0) → ZV Γ u1 20 [(1, ai v2), (0, ar p)] (ai v4 :: ar p :: []) := by
    intro v4 ev4
    have h := h v4 ev4
    have rv4 : zr v4 := by rw [ev4]; exact (zr_ite (zr_k 1 (by decide) (by decide)) (zr_k 0 (by decide) (by decide)))
    have bv4 : v4 = 0 ∨ v4 = 1 := by rw [ev4]; exact (zb_ite (Or.inr rfl) (Or.inl rfl))
    refine zv_iconst (a := 5) G (by decide) dX0_wholeName_20 ?_
    refine zv_aload_n G rfl rfl dX0_wholeName_21 ?_
    refine zc_get (f := 11) (v := ai (fI u1 11 p)) G (hFp tu1 rfl) rfl q2067 (Or.inl rfl) (cV_I (by decide) (by decide)) dX0_wholeName_22 ?_
    refine zv_callV (as := [ar p, ai v4, ai 5, ai (fI u1 11 p)]) (st := []) G M (zc_eV (C := zcn 1) G q235 q237 qs5 (Or.inl ⟨rfl, rfl⟩) q238 md_X0_need (zc_rc G (zne tu1 tu1.1 (by decide)) tu1.1 (by decide) (by decide) rfl) rfl dX0_wholeName_25) (S 10 _ rfl _ _ _ h (zoks_cons trivial (zoks_cons rv4 (zoks_cons (zr_k 5 (by decide) (by decide)) (zoks_cons (hu1.i 11 _ (by decide)) zoks_nil))))) (Or.inl ⟨rfl, rfl⟩) (zc_hk q238 q143) (by decide) (Nat.le_of_ble_eq_true rfl) (fun u5 h => ?_) (fun x7 u8 h => ?_)
    rotate_left
    · exact zx_leave G M rfl h
    refine zc_wk G hp (fun hu5 tu5 => ?_)
    refine zv_iload_n G rfl rfl dX0_wholeName_28 ?_
    exact zv_iret (ty := .int) rv2 G M rfl dX0_wholeName_29 h
  refine zv_if_ne (tgt := 19) G (aN_r hu1 _ _) (by decide) dX0_wholeName_12 (fun c10 => ?_) (fun c10 => ?_)
  · refine zv_iconst (a := 0) G (by decide) dX0_wholeName_19 ?_
    exact kj9 _ (if_neg c10).symm
  · refine zv_iconst (a := 1) G (by decide) dX0_wholeName_15 ?_
    refine zv_goto (tgt := 20) G (by decide) dX0_wholeName_16 ?_
    exact kj9 _ (if_pos c10).symm
set_option maxHeartbeats 4000000 in
set_option maxRecDepth 100000 in
theorem cpC_X0_known_35 {Γ : ZG CW} {D : CD} {d p : Nat} (hp : D.K.1 = p) (G : ZOk Γ cX0_known RX0 2 (KnC D) (ZC D)) (M : ZRm Γ (d + 1) D.lim (Option.some Jvm.ClassFile.FieldType.int) "known" []) (S : SdC d D p Γ.l) (hl : Γ.l.stackTraces = false) (hk : 0 ≤ d) {I2 : Int → CW → Prop} {x1 : Int} {w : CW} (hI2 : ∀ (x1 : Int) (w : CW), I2 x1 w → zr x1 → ZV Γ w 2 [(0, ar p), (1, ai x1)] []) (rx1 : zr x1) (h : pC_X0_known_35 p (wpC p d) (fun v w => Γ.Q (.inl (some (ai v))) w) (fun x w => Γ.Q (.inr x) w) I2 x1 w) : ZV Γ w 35 [(0, ar p), (1, ai x1)] [] := by
  refine zc_wk G hp (fun hw tw => ?_)
  refine zv_iincN G rfl (by decide) dX0_known_35 (fun x1_2 ex1_2 => ?_)
  have h := h x1_2 ex1_2
  have rx1_2 : zr x1_2 := by rw [ex1_2]; exact w32_r _
  refine zv_goto (tgt := 2) G (by decide) dX0_known_38 ?_
  exact zv_pick [0, 1] rfl (hI2 _ _ h rx1_2)
set_option maxHeartbeats 4000000 in
set_option maxRecDepth 100000 in
theorem cpC_X0_known_41 {Γ : ZG CW} {D : CD} {d p : Nat} (hp : D.K.1 = p) (G : ZOk Γ cX0_known RX0 2 (KnC D) (ZC D)) (M : ZRm Γ (d + 1) D.lim (Option.some Jvm.ClassFile.FieldType.int) "known" []) (S : SdC d D p Γ.l) (hl : Γ.l.stackTraces = false) (hk : 0 ≤ d) {x1 : Int} {w : CW} (rx1 : zr x1) (h : pC_X0_known_41 p (wpC p d) (fun v w => Γ.Q (.inl (some (ai v))) w) (fun x w => Γ.Q (.inr x) w) x1 w) : ZV Γ w 41 [(0, ar p), (1, ai x1)] [] := by
  refine zc_wk G hp (fun hw tw => ?_)
  refine zv_aload_n G rfl rfl dX0_known_41 ?_
  refine zv_iload_n G rfl rfl dX0_known_42 ?_
  refine zv_aload_n G rfl rfl dX0_known_43 ?_
  refine zc_get (f := 17) (v := ai (fI w 17 p)) G (hFp tw rfl) rfl q2073 (Or.inl rfl) (cV_I (by decide) (by decide)) dX0_known_44 ?_
  have kj8 : ∀ v3 : Int, v3 = (if ¬ ((fI w 17 p) ≤ x1) then 1 else 0) → ZV Γ w 55 [(0, ar p), (1, ai x1)] (ai v3 :: ar p :: []) := by
    intro v3 ev3
    have h := h v3 ev3
    have rv3 : zr v3 := by rw [ev3]; exact (zr_ite (zr_k 1 (by decide) (by decide)) (zr_k 0 (by decide) (by decide)))
    have bv3 : v3 = 0 ∨ v3 = 1 := by rw [ev3]; exact (zb_ite (Or.inr rfl) (Or.inl rfl))
    refine zv_iconst (a := 4) G (by decide) dX0_known_55 ?_
    refine zv_aload_n G rfl rfl dX0_known_56 ?_
    refine zc_get (f := 11) (v := ai (fI w 11 p)) G (hFp tw rfl) rfl q2067 (Or.inl rfl) (cV_I (by decide) (by decide)) dX0_known_57 ?_
    refine zv_callV (as := [ar p, ai v3, ai 4, ai (fI w 11 p)]) (st := []) G M (zc_eV (C := zcn 1) G q235 q237 qs5 (Or.inl ⟨rfl, rfl⟩) q238 md_X0_need (zc_rc G (zne tw tw.1 (by decide)) tw.1 (by decide) (by decide) rfl) rfl dX0_known_60) (S 10 _ rfl _ _ _ h (zoks_cons trivial (zoks_cons rv3 (zoks_cons (zr_k 4 (by decide) (by decide)) (zoks_cons (hw.i 11 _ (by decide)) zoks_nil))))) (Or.inl ⟨rfl, rfl⟩) (zc_hk q238 q143) (by decide) (Nat.le_of_ble_eq_true rfl) (fun u4 h => ?_) (fun x6 u7 h => ?_)
    rotate_left
    · exact zx_leave G M rfl h
    refine zc_wk G hp (fun hu4 tu4 => ?_)
    refine zv_iload_n G rfl rfl dX0_known_63 ?_
    exact zv_iret (ty := .int) rx1 G M rfl dX0_known_64 h
  refine zv_icmp_ge (tgt := 54) G rx1 (hw.i 17 _ (by decide)) (by decide) dX0_known_47 (fun c9 => ?_) (fun c9 => ?_)
  · refine zv_iconst (a := 0) G (by decide) dX0_known_54 ?_
    exact kj8 _ (if_neg (fun q => q c9)).symm
  · refine zv_iconst (a := 1) G (by decide) dX0_known_50 ?_
    refine zv_goto (tgt := 55) G (by decide) dX0_known_51 ?_
    exact kj8 _ (if_pos c9).symm
set_option maxHeartbeats 4000000 in
set_option maxRecDepth 100000 in
theorem cpC_X0_known_2 {Γ : ZG CW} {D : CD} {d p : Nat} (hp : D.K.1 = p) (G : ZOk Γ cX0_known RX0 2 (KnC D) (ZC D)) (M : ZRm Γ (d + 1) D.lim (Option.some Jvm.ClassFile.FieldType.int) "known" []) (S : SdC d D p Γ.l) (hl : Γ.l.stackTraces = false) (hk : 0 ≤ d) {x1 : Int} {w : CW} (rx1 : zr x1) (h : pC_X0_known_2 p (wpC p d) (fun v w => Γ.Q (.inl (some (ai v))) w) (fun x w => Γ.Q (.inr x) w) x1 w) : ZV Γ w 2 [(0, ar p), (1, ai x1)] [] := by
  obtain ⟨I2, eI2⟩ : ∃ I : Int → CW → Prop, I = (fun x1 w => zr x1 → ZV Γ w 2 [(0, ar p), (1, ai x1)] []) := ⟨_, rfl⟩
  have hI2 : ∀ (x1 : Int) (w : CW), I2 x1 w → zr x1 → ZV Γ w 2 [(0, ar p), (1, ai x1)] [] := by subst eI2; exact fun _ _ z => z
  have hJ2 : ∀ (x1 : Int) (w : CW), (zr x1 → ZV Γ w 2 [(0, ar p), (1, ai x1)] []) → I2 x1 w := by subst eI2; exact fun _ _ z => z
  refine hI2 x1 w (h I2 (fun x1 w h => hJ2 x1 w (fun rx1 => ?_))) rx1
  refine zc_wk G hp (fun hw tw => ?_)
  refine zv_iload_n G rfl rfl dX0_known_2 ?_
  refine zv_aload_n G rfl rfl dX0_known_3 ?_
  refine zc_get (f := 17) (v := ai (fI w 17 p)) G (hFp tw rfl) rfl q2073 (Or.inl rfl) (cV_I (by decide) (by decide)) dX0_known_4 ?_
  have o1 := h.1
  have h := h.2
  have kt10 : ¬ ((fI w 17 p) ≤ x1) ∧ (¬ ((aW w (fR w 15 p) x1) = (fI w 12 p)) ∨ ((i_and (i_shr (fI w 18 p) x1) 1) = 0)) → ZV Γ w 35 [(0, ar p), (1, ai x1)] [] := by
    intro c12
    have h := h.1 c12
    exact zv_pick [0, 1] rfl (cpC_X0_known_35 hp G M S hl hk hI2 rx1 h)
  have kf11 : ¬ (¬ ((fI w 17 p) ≤ x1) ∧ (¬ ((aW w (fR w 15 p) x1) = (fI w 12 p)) ∨ ((i_and (i_shr (fI w 18 p) x1) 1) = 0))) → ZV Γ w 41 [(0, ar p), (1, ai x1)] [] := by
    intro c12
    have h := h.2 c12
    exact zv_pick [0, 1] rfl (cpC_X0_known_41 hp G M S hl hk rx1 h)
  refine zv_icmp_ge (tgt := 41) G rx1 (hw.i 17 _ (by decide)) (by decide) dX0_known_7 (fun c13 => ?_) (fun c13 => ?_)
  · exact kf11 (fun q => q.1 c13)
  · refine zv_aload_n G rfl rfl dX0_known_10 ?_
    refine zc_get (f := 15) (v := ar (fR w 15 p)) G (hFp tw rfl) rfl q2071 (Or.inl rfl) (cV_R rfl) dX0_known_11 ?_
    refine zv_iload_n G rfl rfl dX0_known_14 ?_
    refine zc_laldN G (o1 c13).1 rx1 (o1 c13).2.1 (o1 c13).2.2 dX0_known_15 ?_
    refine zv_aload_n G rfl rfl dX0_known_16 ?_
    refine zc_get (f := 12) (v := al (fI w 12 p)) G (hFp tw rfl) rfl q2068 (Or.inl rfl) (cV_L rfl) dX0_known_17 ?_
    refine zv_lcmp G (aW_r hw _ _) (hw.l 12 _ (by decide)) dX0_known_20 ?_
    refine zv_lif_ne (tgt := 35) G (by decide) dX0_known_21 (fun c14 => ?_) (fun c14 => ?_)
    · exact kt10 ⟨c13, (Or.inl c14)⟩
    · refine zv_aload_n G rfl rfl dX0_known_24 ?_
      refine zc_get (f := 18) (v := ai (fI w 18 p)) G (hFp tw rfl) rfl q2074 (Or.inl rfl) (cV_I (by decide) (by decide)) dX0_known_25 ?_
      refine zv_iload_n G rfl rfl dX0_known_28 ?_
      refine zv_ishr G dX0_known_29 ?_
      refine zv_iconst (a := 1) G (by decide) dX0_known_30 ?_
      refine zv_iand G dX0_known_31 ?_
      refine zv_if_ne (tgt := 41) G (by first | exact i_and_r _ _ | exact i_or_r _ _ | exact i_shl_r _ _ | exact i_shr_r _ _ | exact i_ushr_r _ _ | exact i_b_r _ | exact i_c_r _ | exact i_xor_r _ _ | exact i_div_r _ _ | exact i_rem_r _ _ | exact zr_of _) (by decide) dX0_known_32 (fun c15 => ?_) (fun c15 => ?_)
      · exact kf11 (fun q => (fun q => q.elim (fun z => z c14) c15) q.2)
      · exact kt10 ⟨c13, (Or.inr c15)⟩
set_option maxHeartbeats 4000000 in
set_option maxRecDepth 100000 in
theorem cpC_X0_known_0 {Γ : ZG CW} {D : CD} {d p : Nat} (hp : D.K.1 = p) (G : ZOk Γ cX0_known RX0 2 (KnC D) (ZC D)) (M : ZRm Γ (d + 1) D.lim (Option.some Jvm.ClassFile.FieldType.int) "known" []) (S : SdC d D p Γ.l) (hl : Γ.l.stackTraces = false) (hk : 0 ≤ d) {w : CW} (h : pC_X0_known_0 p (wpC p d) (fun v w => Γ.Q (.inl (some (ai v))) w) (fun x w => Γ.Q (.inr x) w) w) : ZV Γ w 0 [(0, ar p)] [] := by
  refine zc_wk G hp (fun hw tw => ?_)
  refine zv_iconst (a := 0) G (by decide) dX0_known_0 ?_
  refine zv_istore_n G rfl (by decide) rfl dX0_known_1 ?_
  exact zv_pick [0, 1] rfl (cpC_X0_known_2 hp G M S hl hk (zr_k 0 (by decide) (by decide)) h)
set_option maxHeartbeats 4000000 in
set_option maxRecDepth 100000 in
theorem cpC_X0_answer_125 {Γ : ZG CW} {D : CD} {d p : Nat} (hp : D.K.1 = p) (G : ZOk Γ cX0_answer RX0 5 (KnC D) (ZC D)) (M : ZRm Γ (d + 1) D.lim (Option.none : Option Jvm.ClassFile.FieldType) "answer" []) (S : SdC d D p Γ.l) (hl : Γ.l.stackTraces = false) (hk : 0 ≤ d) {x1 : Nat} {x2 : Nat} {x3 : Nat} {x4 : Int} {w : CW} (rx4 : zr x4) (h : pC_X0_answer_125 p (wpC p d) (fun w => Γ.Q (.inl none) w) (fun x w => Γ.Q (.inr x) w) x1 x2 x3 x4 w) : ZV Γ w 125 [(0, ar p), (1, ar x1), (2, ar x2), (3, ar x3), (4, ai x4)] [] := by
  refine zc_wk G hp (fun hw tw => ?_)
  refine zv_aload_n G rfl rfl dX0_answer_125 ?_
  refine zv_bipush (a := 41) G (by decide) dX0_answer_126 ?_
  refine zv_callV (as := [ar p, ai 41]) (st := []) G M (zc_eV (C := zcn 1) G q720 q722 qs14 (Or.inl ⟨rfl, rfl⟩) q723 md_X0_skip (zc_rc G (zne tw tw.1 (by decide)) tw.1 (by decide) (by decide) rfl) rfl dX0_answer_128) (S 18 _ rfl _ _ _ h (zoks_cons trivial (zoks_cons (zr_k 41 (by decide) (by decide)) zoks_nil))) (Or.inl ⟨rfl, rfl⟩) (zc_hk q723 q143) (by decide) (Nat.le_of_ble_eq_true rfl) (fun u32 h => ?_) (fun x48 u49 h => ?_)
  rotate_left
  · exact zx_leave G M rfl h
  refine zc_wk G hp (fun hu32 tu32 => ?_)
  refine zv_aload_n G rfl rfl dX0_answer_131 ?_
  refine zv_iload G rfl dX0_answer_132 ?_
  have o35 := h.1
  have h := h.2
  refine zc_newa (t := 102) (ty := .int) G M (by decide) rfl rfl (fun z => z) (by decide) rfl q708 o35.1 o35.2 dX0_answer_134 (fun u34 eu34 => ?_)
  have h := h u34 eu34
  refine zc_wk G hp (fun hu34 tu34 => ?_)
  have o37 := h.1
  have h := h.2
  refine zc_putR (f := 62) G M o37 rfl q816 (Or.inl rfl) (Or.inl rfl) (zfty_62) (Or.inr ⟨_, rfl⟩) rfl dX0_answer_136 (fun u36 eu36 => ?_)
  have h := h u36 eu36
  refine zc_wk G hp (fun hu36 tu36 => ?_)
  refine zv_aload_n G rfl rfl dX0_answer_139 ?_
  refine zv_iload G rfl dX0_answer_140 ?_
  have o39 := h.1
  have h := h.2
  refine zc_newa (t := 102) (ty := .int) G M (by decide) rfl rfl (fun z => z) (by decide) rfl q708 o39.1 o39.2 dX0_answer_142 (fun u38 eu38 => ?_)
  have h := h u38 eu38
  refine zc_wk G hp (fun hu38 tu38 => ?_)
  have o41 := h.1
  have h := h.2
  refine zc_putR (f := 65) G M o41 rfl q819 (Or.inl rfl) (Or.inl rfl) (zfty_65) (Or.inr ⟨_, rfl⟩) rfl dX0_answer_144 (fun u40 eu40 => ?_)
  have h := h u40 eu40
  refine zc_wk G hp (fun hu40 tu40 => ?_)
  refine zv_aload_n G rfl rfl dX0_answer_147 ?_
  refine zv_iconst (a := 0) G (by decide) dX0_answer_148 ?_
  refine zv_aload_n G rfl rfl dX0_answer_149 ?_
  have o42 := h.1
  have h := h.2
  refine zc_get (f := 62) (v := ar (fR u40 62 x1)) G o42 rfl q816 (Or.inl rfl) (cV_R rfl) dX0_answer_150 ?_
  refine zv_iconst (a := 0) G (by decide) dX0_answer_153 ?_
  refine zv_iload G rfl dX0_answer_154 ?_
  have o44 := h.1
  have h := h.2
  refine zc_copy G M q949 q389 q388 q155 o44.1 o44.2 (Nat.le_of_ble_eq_true rfl) dX0_answer_156 (fun u43 eu43 => ?_)
  have h := h u43 eu43
  refine zc_wk G hp (fun hu43 tu43 => ?_)
  refine zv_aload_n G rfl rfl dX0_answer_159 ?_
  refine zv_iconst (a := 0) G (by decide) dX0_answer_160 ?_
  refine zv_aload_n G rfl rfl dX0_answer_161 ?_
  have o45 := h.1
  have h := h.2
  refine zc_get (f := 65) (v := ar (fR u43 65 x1)) G o45 rfl q819 (Or.inl rfl) (cV_R rfl) dX0_answer_162 ?_
  refine zv_iconst (a := 0) G (by decide) dX0_answer_165 ?_
  refine zv_iload G rfl dX0_answer_166 ?_
  have o47 := h.1
  have h := h.2
  refine zc_copy G M q949 q389 q388 q155 o47.1 o47.2 (Nat.le_of_ble_eq_true rfl) dX0_answer_168 (fun u46 eu46 => ?_)
  have h := h u46 eu46
  refine zc_wk G hp (fun hu46 tu46 => ?_)
  exact zv_vret G M dX0_answer_171 h
set_option maxHeartbeats 4000000 in
set_option maxRecDepth 100000 in
theorem cpC_X0_answer_72 {Γ : ZG CW} {D : CD} {d p : Nat} (hp : D.K.1 = p) (G : ZOk Γ cX0_answer RX0 5 (KnC D) (ZC D)) (M : ZRm Γ (d + 1) D.lim (Option.none : Option Jvm.ClassFile.FieldType) "answer" []) (S : SdC d D p Γ.l) (hl : Γ.l.stackTraces = false) (hk : 0 ≤ d) {x1 : Nat} {x2 : Nat} {x3 : Nat} {x4 : Int} {w : CW} (rx4 : zr x4) (h : pC_X0_answer_72 p (wpC p d) (fun w => Γ.Q (.inl none) w) (fun x w => Γ.Q (.inr x) w) x1 x2 x3 x4 w) : ZV Γ w 72 [(0, ar p), (1, ar x1), (2, ar x2), (3, ar x3), (4, ai x4)] [] := by
  obtain ⟨I72, eI72⟩ : ∃ I : Int → CW → Prop, I = (fun x4 w => zr x4 → ZV Γ w 72 [(0, ar p), (1, ar x1), (2, ar x2), (3, ar x3), (4, ai x4)] []) := ⟨_, rfl⟩
  have hI72 : ∀ (x4 : Int) (w : CW), I72 x4 w → zr x4 → ZV Γ w 72 [(0, ar p), (1, ar x1), (2, ar x2), (3, ar x3), (4, ai x4)] [] := by subst eI72; exact fun _ _ z => z
  have hJ72 : ∀ (x4 : Int) (w : CW), (zr x4 → ZV Γ w 72 [(0, ar p), (1, ar x1), (2, ar x2), (3, ar x3), (4, ai x4)] []) → I72 x4 w := by subst eI72; exact fun _ _ z => z
  refine hI72 x4 w (h I72 (fun x4 w h => hJ72 x4 w (fun rx4 => ?_))) rx4
  refine zc_wk G hp (fun hw tw => ?_)
  refine zv_aload_n G rfl rfl dX0_answer_72 ?_
  refine zv_callV (as := [ar p]) (st := []) G M (zc_eV (C := zcn 1) G q213 q215 qs1 (Or.inl ⟨rfl, rfl⟩) q216 md_X0_next (zc_rc G (zne tw tw.1 (by decide)) tw.1 (by decide) (by decide) rfl) rfl dX0_answer_73) (S 4 _ rfl _ _ _ h (zoks_cons trivial zoks_nil)) (Or.inl ⟨rfl, rfl⟩) (zc_hk q216 q143) (by decide) (Nat.le_of_ble_eq_true rfl) (fun u15 h => ?_) (fun x58 u59 h => ?_)
  rotate_left
  · exact zx_leave G M rfl h
  refine zc_wk G hp (fun hu15 tu15 => ?_)
  refine zv_aload_n G rfl rfl dX0_answer_76 ?_
  refine zv_aload_n G rfl rfl dX0_answer_77 ?_
  refine zc_get (f := 10) (v := ai (fI u15 10 p)) G (hFp tu15 rfl) rfl q2066 (Or.inl rfl) (cV_I (by decide) (by decide)) dX0_answer_78 ?_
  refine zv_iconst (a := 1) G (by decide) dX0_answer_81 ?_
  have kj56 : ∀ v17 : Int, v17 = (if (fI u15 10 p) = 1 then 1 else 0) → ZV Γ u15 90 [(0, ar p), (1, ar x1), (2, ar x2), (3, ar x3), (4, ai x4)] (ai v17 :: ar p :: []) := by
    intro v17 ev17
    have h := h v17 ev17
    have rv17 : zr v17 := by rw [ev17]; exact (zr_ite (zr_k 1 (by decide) (by decide)) (zr_k 0 (by decide) (by decide)))
    have bv17 : v17 = 0 ∨ v17 = 1 := by rw [ev17]; exact (zb_ite (Or.inr rfl) (Or.inl rfl))
    refine zv_callV (as := [ar p, ai v17]) (st := []) G M (zc_eV (C := zcn 1) G q667 q669 qs10 (Or.inl ⟨rfl, rfl⟩) q670 md_X0_want (zc_rc G (zne tu15 tu15.1 (by decide)) tu15.1 (by decide) (by decide) rfl) rfl dX0_answer_90) (S 14 _ rfl _ _ _ h (zoks_cons trivial (zoks_cons rv17 zoks_nil))) (Or.inl ⟨rfl, rfl⟩) (zc_hk q670 q143) (by decide) (Nat.le_of_ble_eq_true rfl) (fun u18 h => ?_) (fun x54 u55 h => ?_)
    rotate_left
    · exact zx_leave G M rfl h
    refine zc_wk G hp (fun hu18 tu18 => ?_)
    refine zv_aload_n G rfl rfl dX0_answer_93 ?_
    refine zv_iload G rfl dX0_answer_94 ?_
    refine zv_aload_n G rfl rfl dX0_answer_96 ?_
    refine zv_callI (as := [ar p]) (st := [ai x4, ar x2]) G M (zc_eV (C := zcn 1) G q1040 q1042 qs33 (Or.inl ⟨rfl, rfl⟩) q1043 md_X0_known (zc_rc G (zne tu18 tu18.1 (by decide)) tu18.1 (by decide) (by decide) rfl) rfl dX0_answer_97) (S 38 _ rfl _ _ _ h (zoks_cons trivial zoks_nil)) (Or.inl ⟨rfl, rfl⟩) (zc_hk q1043 q143) (by decide) (Nat.le_of_ble_eq_true rfl) (fun v21 u20 rv21 h => ?_) (fun x52 u53 h => ?_)
    rotate_left
    · exact zx_leave G M rfl h
    refine zc_wk G hp (fun hu20 tu20 => ?_)
    have o23 := h.1
    have h := h.2
    refine zc_iast G o23.1 rx4 rv21 o23.2.1 o23.2.2 dX0_answer_100 (fun u22 eu22 => ?_)
    have h := h u22 eu22
    refine zc_wk G hp (fun hu22 tu22 => ?_)
    refine zv_aload_n G rfl rfl dX0_answer_101 ?_
    refine zv_iload G rfl dX0_answer_102 ?_
    refine zv_aload_n G rfl rfl dX0_answer_104 ?_
    refine zc_get (f := 11) (v := ai (fI u22 11 p)) G (hFp tu22 rfl) rfl q2067 (Or.inl rfl) (cV_I (by decide) (by decide)) dX0_answer_105 ?_
    have o25 := h.1
    have h := h.2
    refine zc_iast G o25.1 rx4 (hu22.i 11 _ (by decide)) o25.2.1 o25.2.2 dX0_answer_108 (fun u24 eu24 => ?_)
    have h := h u24 eu24
    refine zc_wk G hp (fun hu24 tu24 => ?_)
    refine zv_iincN G rfl (by decide) dX0_answer_109 (fun x4_26 ex4_26 => ?_)
    have h := h x4_26 ex4_26
    have rx4_26 : zr x4_26 := by rw [ex4_26]; exact w32_r _
    refine zv_aload_n G rfl rfl dX0_answer_112 ?_
    refine zv_callV (as := [ar p]) (st := []) G M (zc_eV (C := zcn 1) G q213 q215 qs1 (Or.inl ⟨rfl, rfl⟩) q216 md_X0_next (zc_rc G (zne tu24 tu24.1 (by decide)) tu24.1 (by decide) (by decide) rfl) rfl dX0_answer_113) (S 4 _ rfl _ _ _ h (zoks_cons trivial zoks_nil)) (Or.inl ⟨rfl, rfl⟩) (zc_hk q216 q143) (by decide) (Nat.le_of_ble_eq_true rfl) (fun u27 h => ?_) (fun x50 u51 h => ?_)
    rotate_left
    · exact zx_leave G M rfl h
    refine zc_wk G hp (fun hu27 tu27 => ?_)
    refine zv_aload_n G rfl rfl dX0_answer_116 ?_
    refine zv_bipush (a := 44) G (by decide) dX0_answer_117 ?_
    refine zv_callI (as := [ar p, ai 44]) (st := []) G M (zc_eV (C := zcn 1) G q709 q711 qs12 (Or.inl ⟨rfl, rfl⟩) q712 md_X0_isSign (zc_rc G (zne tu27 tu27.1 (by decide)) tu27.1 (by decide) (by decide) rfl) rfl dX0_answer_119) (S 16 _ rfl _ _ _ h (zoks_cons trivial (zoks_cons (zr_k 44 (by decide) (by decide)) zoks_nil))) (Or.inl ⟨rfl, rfl⟩) (zc_hk q712 q143) (by decide) (Nat.le_of_ble_eq_true rfl) (fun v30 u29 rv30 h => ?_) (fun _ _ h => h.elim)
    refine zc_wk G hp (fun hu29 tu29 => ?_)
    refine zv_if_ne (tgt := 72) G rv30 (by decide) dX0_answer_122 (fun c31 => ?_) (fun c31 => ?_)
    · have h := h.2 c31
      exact zv_pick [0, 1, 2, 3, 4] rfl (hI72 _ _ h rx4_26)
    · have h := h.1 c31
      exact zv_pick [0, 1, 2, 3, 4] rfl (cpC_X0_answer_125 hp G M S hl hk rx4_26 h)
  refine zv_icmp_ne (tgt := 89) G (hu15.i 10 _ (by decide)) (zr_k 1 (by decide) (by decide)) (by decide) dX0_answer_82 (fun c57 => ?_) (fun c57 => ?_)
  · refine zv_iconst (a := 0) G (by decide) dX0_answer_89 ?_
    exact kj56 _ (if_neg c57).symm
  · refine zv_iconst (a := 1) G (by decide) dX0_answer_85 ?_
    refine zv_goto (tgt := 90) G (by decide) dX0_answer_86 ?_
    exact kj56 _ (if_pos c57).symm
set_option maxHeartbeats 4000000 in
set_option maxRecDepth 100000 in
theorem cpC_X0_answer_0 {Γ : ZG CW} {D : CD} {d p : Nat} (hp : D.K.1 = p) (G : ZOk Γ cX0_answer RX0 5 (KnC D) (ZC D)) (M : ZRm Γ (d + 1) D.lim (Option.none : Option Jvm.ClassFile.FieldType) "answer" []) (S : SdC d D p Γ.l) (hl : Γ.l.stackTraces = false) (hk : 0 ≤ d) {x1 : Nat} {w : CW} (h : pC_X0_answer_0 p (wpC p d) (fun w => Γ.Q (.inl none) w) (fun x w => Γ.Q (.inr x) w) x1 w) : ZV Γ w 0 [(0, ar p), (1, ar x1)] [] := by
  refine zc_wk G hp (fun hw tw => ?_)
  refine zv_aload_n G rfl rfl dX0_answer_0 ?_
  refine zc_get (f := 10) (v := ai (fI w 10 p)) G (hFp tw rfl) rfl q2066 (Or.inl rfl) (cV_I (by decide) (by decide)) dX0_answer_1 ?_
  refine zv_iconst (a := 1) G (by decide) dX0_answer_4 ?_
  refine zv_icmp_eq (tgt := 17) G (hw.i 10 _ (by decide)) (zr_k 1 (by decide) (by decide)) (by decide) dX0_answer_5 (fun c1 => ?_) (fun c1 => ?_)
  · have h := h.1 c1
    refine zv_aload_n G rfl rfl dX0_answer_17 ?_
    refine zv_callI (as := [ar p]) (st := []) G M (zc_eV (C := zcn 1) G q1049 q1051 qs35 (Or.inl ⟨rfl, rfl⟩) q1052 md_X0_isCall (zc_rc G (zne tw tw.1 (by decide)) tw.1 (by decide) (by decide) rfl) rfl dX0_answer_18) (S 40 _ rfl _ _ _ h (zoks_cons trivial zoks_nil)) (Or.inl ⟨rfl, rfl⟩) (zc_hk q1052 q143) (by decide) (Nat.le_of_ble_eq_true rfl) (fun v3 u2 rv3 h => ?_) (fun _ _ h => h.elim)
    refine zc_wk G hp (fun hu2 tu2 => ?_)
    refine zv_if_ne (tgt := 37) G rv3 (by decide) dX0_answer_21 (fun c4 => ?_) (fun c4 => ?_)
    · have h := h.2 c4
      refine zv_aload_n G rfl rfl dX0_answer_37 ?_
      refine zv_aload_n G rfl rfl dX0_answer_38 ?_
      refine zc_get (f := 12) (v := al (fI u2 12 p)) G (hFp tu2 rfl) rfl q2068 (Or.inl rfl) (cV_L rfl) dX0_answer_39 ?_
      have o6 := h.1
      have h := h.2
      refine zc_putL (f := 63) G M o6 rfl q817 (Or.inl rfl) (Or.inl rfl) (zfty_63) rfl rfl rfl (hu2.l 12 _ (by decide)) dX0_answer_42 (fun u5 eu5 => ?_)
      have h := h u5 eu5
      refine zc_wk G hp (fun hu5 tu5 => ?_)
      refine zv_aload_n G rfl rfl dX0_answer_45 ?_
      refine zv_aload_n G rfl rfl dX0_answer_46 ?_
      refine zc_get (f := 11) (v := ai (fI u5 11 p)) G (hFp tu5 rfl) rfl q2067 (Or.inl rfl) (cV_I (by decide) (by decide)) dX0_answer_47 ?_
      have o8 := h.1
      have h := h.2
      refine zc_putI (f := 64) G M o8 rfl q818 (Or.inl rfl) (Or.inl rfl) (zfty_64) rfl rfl (by decide) (by decide) (hu5.i 11 _ (by decide)) dX0_answer_50 (fun u7 eu7 => ?_)
      have h := h u7 eu7
      refine zc_wk G hp (fun hu7 tu7 => ?_)
      refine zv_aload_n G rfl rfl dX0_answer_53 ?_
      refine zv_callV (as := [ar p]) (st := []) G M (zc_eV (C := zcn 1) G q213 q215 qs1 (Or.inl ⟨rfl, rfl⟩) q216 md_X0_next (zc_rc G (zne tu7 tu7.1 (by decide)) tu7.1 (by decide) (by decide) rfl) rfl dX0_answer_54) (S 4 _ rfl _ _ _ h (zoks_cons trivial zoks_nil)) (Or.inl ⟨rfl, rfl⟩) (zc_hk q216 q143) (by decide) (Nat.le_of_ble_eq_true rfl) (fun u9 h => ?_) (fun x60 u61 h => ?_)
      rotate_left
      · exact zx_leave G M rfl h
      refine zc_wk G hp (fun hu9 tu9 => ?_)
      refine zv_sipush (a := 800) G (by decide) dX0_answer_57 ?_
      have o12 := h.1
      have h := h.2
      refine zc_newa (t := 102) (ty := .int) G M (by decide) rfl rfl (fun z => z) (by decide) rfl q708 o12.1 o12.2 dX0_answer_60 (fun u11 eu11 => ?_)
      have h := h u11 eu11
      refine zc_wk G hp (fun hu11 tu11 => ?_)
      refine zv_astore_n G rfl (by decide) rfl dX0_answer_62 ?_
      refine zv_sipush (a := 800) G (by decide) dX0_answer_63 ?_
      have o14 := h.1
      have h := h.2
      refine zc_newa (t := 102) (ty := .int) G M (by decide) rfl rfl (fun z => z) (by decide) rfl q708 o14.1 o14.2 dX0_answer_66 (fun u13 eu13 => ?_)
      have h := h u13 eu13
      refine zc_wk G hp (fun hu13 tu13 => ?_)
      refine zv_astore_n G rfl (by decide) rfl dX0_answer_68 ?_
      refine zv_iconst (a := 0) G (by decide) dX0_answer_69 ?_
      refine zv_istore G (by decide) rfl dX0_answer_70 ?_
      exact zv_pick [0, 1, 2, 3, 4] rfl (cpC_X0_answer_72 hp G M S hl hk (zr_k 0 (by decide) (by decide)) h)
    · have h := h.1 c4
      refine zv_aload_n G rfl rfl dX0_answer_24 ?_
      refine zv_aload_n G rfl rfl dX0_answer_25 ?_
      refine zv_callI (as := [ar p]) (st := [ar x1]) G M (zc_eV (C := zcn 1) G q1036 q1038 qs32 (Or.inl ⟨rfl, rfl⟩) q1039 md_X0_wholeName (zc_rc G (zne tu2 tu2.1 (by decide)) tu2.1 (by decide) (by decide) rfl) rfl dX0_answer_26) (S 37 _ rfl _ _ _ h (zoks_cons trivial zoks_nil)) (Or.inl ⟨rfl, rfl⟩) (zc_hk q1039 q143) (by decide) (Nat.le_of_ble_eq_true rfl) (fun v63 u62 rv63 h => ?_) (fun x70 u71 h => ?_)
      rotate_left
      · exact zx_leave G M rfl h
      refine zc_wk G hp (fun hu62 tu62 => ?_)
      have o65 := h.1
      have h := h.2
      refine zc_putI (f := 61) G M o65 rfl q815 (Or.inl rfl) (Or.inl rfl) (zfty_61) rfl rfl (by decide) (by decide) rv63 dX0_answer_29 (fun u64 eu64 => ?_)
      have h := h u64 eu64
      refine zc_wk G hp (fun hu64 tu64 => ?_)
      refine zv_aload_n G rfl rfl dX0_answer_32 ?_
      refine zv_callV (as := [ar p]) (st := []) G M (zc_eV (C := zcn 1) G q213 q215 qs1 (Or.inl ⟨rfl, rfl⟩) q216 md_X0_next (zc_rc G (zne tu64 tu64.1 (by decide)) tu64.1 (by decide) (by decide) rfl) rfl dX0_answer_33) (S 4 _ rfl _ _ _ h (zoks_cons trivial zoks_nil)) (Or.inl ⟨rfl, rfl⟩) (zc_hk q216 q143) (by decide) (Nat.le_of_ble_eq_true rfl) (fun u66 h => ?_) (fun x68 u69 h => ?_)
      rotate_left
      · exact zx_leave G M rfl h
      refine zc_wk G hp (fun hu66 tu66 => ?_)
      exact zv_vret G M dX0_answer_36 h
  · have h := h.2 c1
    refine zv_aload_n G rfl rfl dX0_answer_8 ?_
    refine zv_aload_n G rfl rfl dX0_answer_9 ?_
    refine zv_callI (as := [ar p]) (st := [ar x1]) G M (zc_eV (C := zcn 1) G q889 q891 qs23 (Or.inl ⟨rfl, rfl⟩) q892 md_X0_readWhole (zc_rc G (zne tw tw.1 (by decide)) tw.1 (by decide) (by decide) rfl) rfl dX0_answer_10) (S 27 _ rfl _ _ _ h (zoks_cons trivial zoks_nil)) (Or.inl ⟨rfl, rfl⟩) (zc_hk q892 q143) (by decide) (Nat.le_of_ble_eq_true rfl) (fun v73 u72 rv73 h => ?_) (fun x76 u77 h => ?_)
    rotate_left
    · exact zx_leave G M rfl h
    refine zc_wk G hp (fun hu72 tu72 => ?_)
    have o75 := h.1
    have h := h.2
    refine zc_putI (f := 60) G M o75 rfl q813 (Or.inl rfl) (Or.inl rfl) (zfty_60) rfl rfl (by decide) (by decide) rv73 dX0_answer_13 (fun u74 eu74 => ?_)
    have h := h u74 eu74
    refine zc_wk G hp (fun hu74 tu74 => ?_)
    exact zv_vret G M dX0_answer_16 h
set_option maxHeartbeats 4000000 in
set_option maxRecDepth 100000 in
theorem cpC_X0_isCall_25 {Γ : ZG CW} {D : CD} {d p : Nat} (hp : D.K.1 = p) (G : ZOk Γ cX0_isCall RX0 2 (KnC D) (ZC D)) (M : ZRm Γ (d + 1) D.lim (Option.some Jvm.ClassFile.FieldType.boolean) "isCall" []) (S : SdC d D p Γ.l) (hl : Γ.l.stackTraces = false) (hk : 0 ≤ d) {I5 : Int → CW → Prop} {x1 : Int} {w : CW} (hI5 : ∀ (x1 : Int) (w : CW), I5 x1 w → zr x1 → ZV Γ w 5 [(0, ar p), (1, ai x1)] []) (rx1 : zr x1) (h : pC_X0_isCall_25 p (wpC p d) (fun v w => Γ.Q (.inl (some (ai v))) w) I5 x1 w) : ZV Γ w 25 [(0, ar p), (1, ai x1)] [] := by
  refine zc_wk G hp (fun hw tw => ?_)
  refine zv_iincN G rfl (by decide) dX0_isCall_25 (fun x1_5 ex1_5 => ?_)
  have h := h x1_5 ex1_5
  have rx1_5 : zr x1_5 := by rw [ex1_5]; exact w32_r _
  refine zv_goto (tgt := 5) G (by decide) dX0_isCall_28 ?_
  exact zv_pick [0, 1] rfl (hI5 _ _ h rx1_5)
set_option maxHeartbeats 4000000 in
set_option maxRecDepth 100000 in
theorem cpC_X0_isCall_31 {Γ : ZG CW} {D : CD} {d p : Nat} (hp : D.K.1 = p) (G : ZOk Γ cX0_isCall RX0 2 (KnC D) (ZC D)) (M : ZRm Γ (d + 1) D.lim (Option.some Jvm.ClassFile.FieldType.boolean) "isCall" []) (S : SdC d D p Γ.l) (hl : Γ.l.stackTraces = false) (hk : 0 ≤ d) {x1 : Int} {w : CW} (rx1 : zr x1) (h : pC_X0_isCall_31 p (wpC p d) (fun v w => Γ.Q (.inl (some (ai v))) w) x1 w) : ZV Γ w 31 [(0, ar p), (1, ai x1)] [] := by
  refine zc_wk G hp (fun hw tw => ?_)
  refine zv_aload_n G rfl rfl dX0_isCall_31 ?_
  refine zv_iload_n G rfl rfl dX0_isCall_32 ?_
  refine zv_callI (as := [ar p, ai x1]) (st := []) G M (zc_eV (C := zcn 1) G q221 q223 qs3 (Or.inl ⟨rfl, rfl⟩) q224 md_X0_unit (zc_rc G (zne tw tw.1 (by decide)) tw.1 (by decide) (by decide) rfl) rfl dX0_isCall_33) (S 6 _ rfl _ _ _ h (zoks_cons trivial (zoks_cons rx1 zoks_nil))) (Or.inl ⟨rfl, rfl⟩) (zc_hk q224 q143) (by decide) (Nat.le_of_ble_eq_true rfl) (fun v10 u9 rv10 h => ?_) (fun _ _ h => h.elim)
  refine zc_wk G hp (fun hu9 tu9 => ?_)
  refine zv_bipush (a := 40) G (by decide) dX0_isCall_36 ?_
  have kj12 : ∀ v11 : Int, v11 = (if v10 = 40 then 1 else 0) → ZV Γ u9 46 [(0, ar p), (1, ai x1)] (ai v11 :: []) := by
    intro v11 ev11
    have h := h v11 ev11
    have rv11 : zr v11 := by rw [ev11]; exact (zr_ite (zr_k 1 (by decide) (by decide)) (zr_k 0 (by decide) (by decide)))
    have bv11 : v11 = 0 ∨ v11 = 1 := by rw [ev11]; exact (zb_ite (Or.inr rfl) (Or.inl rfl))
    exact zv_iret (ty := .boolean) rv11 G M (zn_Z bv11) dX0_isCall_46 h
  refine zv_icmp_ne (tgt := 45) G rv10 (zr_k 40 (by decide) (by decide)) (by decide) dX0_isCall_38 (fun c13 => ?_) (fun c13 => ?_)
  · refine zv_iconst (a := 0) G (by decide) dX0_isCall_45 ?_
    exact kj12 _ (if_neg c13).symm
  · refine zv_iconst (a := 1) G (by decide) dX0_isCall_41 ?_
    refine zv_goto (tgt := 46) G (by decide) dX0_isCall_42 ?_
    exact kj12 _ (if_pos c13).symm
set_option maxHeartbeats 4000000 in
set_option maxRecDepth 100000 in
theorem cpC_X0_isCall_5 {Γ : ZG CW} {D : CD} {d p : Nat} (hp : D.K.1 = p) (G : ZOk Γ cX0_isCall RX0 2 (KnC D) (ZC D)) (M : ZRm Γ (d + 1) D.lim (Option.some Jvm.ClassFile.FieldType.boolean) "isCall" []) (S : SdC d D p Γ.l) (hl : Γ.l.stackTraces = false) (hk : 0 ≤ d) {x1 : Int} {w : CW} (rx1 : zr x1) (h : pC_X0_isCall_5 p (wpC p d) (fun v w => Γ.Q (.inl (some (ai v))) w) x1 w) : ZV Γ w 5 [(0, ar p), (1, ai x1)] [] := by
  obtain ⟨I5, eI5⟩ : ∃ I : Int → CW → Prop, I = (fun x1 w => zr x1 → ZV Γ w 5 [(0, ar p), (1, ai x1)] []) := ⟨_, rfl⟩
  have hI5 : ∀ (x1 : Int) (w : CW), I5 x1 w → zr x1 → ZV Γ w 5 [(0, ar p), (1, ai x1)] [] := by subst eI5; exact fun _ _ z => z
  have hJ5 : ∀ (x1 : Int) (w : CW), (zr x1 → ZV Γ w 5 [(0, ar p), (1, ai x1)] []) → I5 x1 w := by subst eI5; exact fun _ _ z => z
  refine hI5 x1 w (h I5 (fun x1 w h => hJ5 x1 w (fun rx1 => ?_))) rx1
  refine zc_wk G hp (fun hw tw => ?_)
  refine zv_aload_n G rfl rfl dX0_isCall_5 ?_
  refine zv_iload_n G rfl rfl dX0_isCall_6 ?_
  refine zv_callI (as := [ar p, ai x1]) (st := []) G M (zc_eV (C := zcn 1) G q221 q223 qs3 (Or.inl ⟨rfl, rfl⟩) q224 md_X0_unit (zc_rc G (zne tw tw.1 (by decide)) tw.1 (by decide) (by decide) rfl) rfl dX0_isCall_7) (S 6 _ rfl _ _ _ h (zoks_cons trivial (zoks_cons rx1 zoks_nil))) (Or.inl ⟨rfl, rfl⟩) (zc_hk q224 q143) (by decide) (Nat.le_of_ble_eq_true rfl) (fun v3 u2 rv3 h => ?_) (fun _ _ h => h.elim)
  refine zc_wk G hp (fun hu2 tu2 => ?_)
  refine zv_bipush (a := 32) G (by decide) dX0_isCall_10 ?_
  refine zv_icmp_eq (tgt := 25) G rv3 (zr_k 32 (by decide) (by decide)) (by decide) dX0_isCall_12 (fun c4 => ?_) (fun c4 => ?_)
  · have h := h.1 c4
    exact zv_pick [0, 1] rfl (cpC_X0_isCall_25 hp G M S hl hk hI5 rx1 h)
  · have h := h.2 c4
    refine zv_aload_n G rfl rfl dX0_isCall_15 ?_
    refine zv_iload_n G rfl rfl dX0_isCall_16 ?_
    refine zv_callI (as := [ar p, ai x1]) (st := []) G M (zc_eV (C := zcn 1) G q221 q223 qs3 (Or.inl ⟨rfl, rfl⟩) q224 md_X0_unit (zc_rc G (zne tu2 tu2.1 (by decide)) tu2.1 (by decide) (by decide) rfl) rfl dX0_isCall_17) (S 6 _ rfl _ _ _ h (zoks_cons trivial (zoks_cons rx1 zoks_nil))) (Or.inl ⟨rfl, rfl⟩) (zc_hk q224 q143) (by decide) (Nat.le_of_ble_eq_true rfl) (fun v7 u6 rv7 h => ?_) (fun _ _ h => h.elim)
    refine zc_wk G hp (fun hu6 tu6 => ?_)
    refine zv_bipush (a := 10) G (by decide) dX0_isCall_20 ?_
    refine zv_icmp_ne (tgt := 31) G rv7 (zr_k 10 (by decide) (by decide)) (by decide) dX0_isCall_22 (fun c8 => ?_) (fun c8 => ?_)
    · have h := h.2 c8
      exact zv_pick [0, 1] rfl (cpC_X0_isCall_31 hp G M S hl hk rx1 h)
    · have h := h.1 c8
      exact zv_pick [0, 1] rfl (cpC_X0_isCall_25 hp G M S hl hk hI5 rx1 h)
set_option maxHeartbeats 4000000 in
set_option maxRecDepth 100000 in
theorem cpC_X0_isCall_0 {Γ : ZG CW} {D : CD} {d p : Nat} (hp : D.K.1 = p) (G : ZOk Γ cX0_isCall RX0 2 (KnC D) (ZC D)) (M : ZRm Γ (d + 1) D.lim (Option.some Jvm.ClassFile.FieldType.boolean) "isCall" []) (S : SdC d D p Γ.l) (hl : Γ.l.stackTraces = false) (hk : 0 ≤ d) {w : CW} (h : pC_X0_isCall_0 p (wpC p d) (fun v w => Γ.Q (.inl (some (ai v))) w) w) : ZV Γ w 0 [(0, ar p)] [] := by
  refine zc_wk G hp (fun hw tw => ?_)
  refine zv_aload_n G rfl rfl dX0_isCall_0 ?_
  refine zc_get (f := 9) (v := ai (fI w 9 p)) G (hFp tw rfl) rfl q2065 (Or.inl rfl) (cV_I (by decide) (by decide)) dX0_isCall_1 ?_
  refine zv_istore_nN G rfl (by decide) dX0_isCall_4 (fun x1_1 ex1_1 => ?_)
  have h := h x1_1 ex1_1
  have rx1_1 : zr x1_1 := by rw [ex1_1]; exact (hw.i 9 _ (by decide))
  exact zv_pick [0, 1] rfl (cpC_X0_isCall_5 hp G M S hl hk rx1_1 h)
set_option maxHeartbeats 4000000 in
set_option maxRecDepth 100000 in
theorem cpC_X0_settle_132 {Γ : ZG CW} {D : CD} {d p : Nat} (hp : D.K.1 = p) (G : ZOk Γ cX0_settle RX0 5 (KnC D) (ZC D)) (M : ZRm Γ (d + 1) D.lim (Option.none : Option Jvm.ClassFile.FieldType) "settle" []) (S : SdC d D p Γ.l) (hl : Γ.l.stackTraces = false) (hk : 0 ≤ d) {w : CW} (h : pC_X0_settle_132 p (wpC p d) (fun w => Γ.Q (.inl none) w) (fun x w => Γ.Q (.inr x) w) w) : ZV Γ w 132 [] [] := by
  refine zc_wk G hp (fun hw tw => ?_)
  exact zv_vret G M dX0_settle_132 h
set_option maxHeartbeats 4000000 in
set_option maxRecDepth 100000 in
theorem cpC_X0_settle_126 {Γ : ZG CW} {D : CD} {d p : Nat} (hp : D.K.1 = p) (G : ZOk Γ cX0_settle RX0 5 (KnC D) (ZC D)) (M : ZRm Γ (d + 1) D.lim (Option.none : Option Jvm.ClassFile.FieldType) "settle" []) (S : SdC d D p Γ.l) (hl : Γ.l.stackTraces = false) (hk : 0 ≤ d) {I63 : Int → CW → Prop} {x1 : Int} {w : CW} (hI63 : ∀ (x1 : Int) (w : CW), I63 x1 w → zr x1 → ZV Γ w 63 [(0, ar p), (1, ai x1)] []) (rx1 : zr x1) (h : pC_X0_settle_126 p (wpC p d) (fun w => Γ.Q (.inl none) w) (fun x w => Γ.Q (.inr x) w) I63 x1 w) : ZV Γ w 126 [(0, ar p), (1, ai x1)] [] := by
  refine zc_wk G hp (fun hw tw => ?_)
  refine zv_iincN G rfl (by decide) dX0_settle_126 (fun x1_7 ex1_7 => ?_)
  have h := h x1_7 ex1_7
  have rx1_7 : zr x1_7 := by rw [ex1_7]; exact w32_r _
  refine zv_goto (tgt := 63) G (by decide) dX0_settle_129 ?_
  exact zv_pick [0, 1] rfl (hI63 _ _ h rx1_7)
set_option maxHeartbeats 4000000 in
set_option maxRecDepth 100000 in
theorem cpC_X0_settle_80 {Γ : ZG CW} {D : CD} {d p : Nat} (hp : D.K.1 = p) (G : ZOk Γ cX0_settle RX0 5 (KnC D) (ZC D)) (M : ZRm Γ (d + 1) D.lim (Option.none : Option Jvm.ClassFile.FieldType) "settle" []) (S : SdC d D p Γ.l) (hl : Γ.l.stackTraces = false) (hk : 0 ≤ d) {I63 : Int → CW → Prop} {x1 : Int} {x2 : Nat} {x3 : Int} {w : CW} (hI63 : ∀ (x1 : Int) (w : CW), I63 x1 w → zr x1 → ZV Γ w 63 [(0, ar p), (1, ai x1)] []) (rx1 : zr x1) (rx3 : zr x3) (h : pC_X0_settle_80 p (wpC p d) (fun w => Γ.Q (.inl none) w) (fun x w => Γ.Q (.inr x) w) I63 x1 x2 x3 w) : ZV Γ w 80 [(0, ar p), (1, ai x1), (2, ar x2), (3, ai x3)] [] := by
  obtain ⟨I80, eI80⟩ : ∃ I : Int → CW → Prop, I = (fun x3 w => zr x3 → ZV Γ w 80 [(0, ar p), (1, ai x1), (2, ar x2), (3, ai x3)] []) := ⟨_, rfl⟩
  have hI80 : ∀ (x3 : Int) (w : CW), I80 x3 w → zr x3 → ZV Γ w 80 [(0, ar p), (1, ai x1), (2, ar x2), (3, ai x3)] [] := by subst eI80; exact fun _ _ z => z
  have hJ80 : ∀ (x3 : Int) (w : CW), (zr x3 → ZV Γ w 80 [(0, ar p), (1, ai x1), (2, ar x2), (3, ai x3)] []) → I80 x3 w := by subst eI80; exact fun _ _ z => z
  refine hI80 x3 w (h I80 (fun x3 w h => hJ80 x3 w (fun rx3 => ?_))) rx3
  refine zc_wk G hp (fun hw tw => ?_)
  refine zv_iload_n G rfl rfl dX0_settle_80 ?_
  refine zv_aload_n G rfl rfl dX0_settle_81 ?_
  have o5 := h.1
  have h := h.2
  refine zc_get (f := 48) (v := ai (fI w 48 x2)) G o5 rfl q754 (Or.inl rfl) (cV_I (by decide) (by decide)) dX0_settle_82 ?_
  refine zv_icmp_ge (tgt := 126) G rx3 (hw.i 48 _ (by decide)) (by decide) dX0_settle_85 (fun c6 => ?_) (fun c6 => ?_)
  · have h := h.1 c6
    exact zv_pick [0, 1] rfl (cpC_X0_settle_126 hp G M S hl hk hI63 rx1 h)
  · have h := h.2 c6
    refine zv_aload_n G rfl rfl dX0_settle_88 ?_
    refine zv_aload_n G rfl rfl dX0_settle_89 ?_
    refine zv_iload_n G rfl rfl dX0_settle_90 ?_
    refine zv_iconst (a := 1) G (by decide) dX0_settle_91 ?_
    refine zv_iadd G dX0_settle_92 ?_
    have o21 := h.1
    have h := h.2
    refine zv_callI (as := [ar x2, ai (w32 (x3 + 1))]) (st := [ar p]) G M (zc_eV (C := zcn 4) G q1061 q1062 q1063 (Or.inl ⟨rfl, rfl⟩) q1064 md_X4_count (zc_rc G (zne tw o21 (by decide)) o21 (by decide) (by decide) rfl) rfl dX0_settle_93) (S 85 _ rfl _ _ _ h (zoks_cons trivial (zoks_cons (w32_r _) zoks_nil))) (Or.inl ⟨rfl, rfl⟩) (zc_hk q1064 q160) (by decide) (Nat.le_of_ble_eq_true rfl) (fun v9 u8 rv9 h => ?_) (fun _ _ h => h.elim)
    refine zc_wk G hp (fun hu8 tu8 => ?_)
    refine zv_bipush (a := 40) G (by decide) dX0_settle_96 ?_
    have kj19 : ∀ v10 : Int, v10 = (if ¬ (40 < v9) then 1 else 0) → ZV Γ u8 106 [(0, ar p), (1, ai x1), (2, ar x2), (3, ai x3)] (ai v10 :: ar p :: []) := by
      intro v10 ev10
      have h := h v10 ev10
      have rv10 : zr v10 := by rw [ev10]; exact (zr_ite (zr_k 1 (by decide) (by decide)) (zr_k 0 (by decide) (by decide)))
      have bv10 : v10 = 0 ∨ v10 = 1 := by rw [ev10]; exact (zb_ite (Or.inr rfl) (Or.inl rfl))
      refine zv_bipush (a := 9) G (by decide) dX0_settle_106 ?_
      refine zv_aload_n G rfl rfl dX0_settle_108 ?_
      have o11 := h.1
      have h := h.2
      refine zc_get (f := 47) (v := ar (fR u8 47 x2)) G o11 rfl q752 (Or.inl rfl) (cV_R rfl) dX0_settle_109 ?_
      refine zv_iload_n G rfl rfl dX0_settle_112 ?_
      have o12 := h.1
      have h := h.2
      refine zc_aald G o12.1 rx3 o12.2.1 o12.2.2 dX0_settle_113 ?_
      have o13 := h.1
      have h := h.2
      refine zc_get (f := 57) (v := ai (fI u8 57 (aR u8 (fR u8 47 x2) x3))) G o13 rfl q807 (Or.inl rfl) (cV_I (by decide) (by decide)) dX0_settle_114 ?_
      refine zv_callV (as := [ar p, ai v10, ai 9, ai (fI u8 57 (aR u8 (fR u8 47 x2) x3))]) (st := []) G M (zc_eV (C := zcn 1) G q235 q237 qs5 (Or.inl ⟨rfl, rfl⟩) q238 md_X0_need (zc_rc G (zne tu8 tu8.1 (by decide)) tu8.1 (by decide) (by decide) rfl) rfl dX0_settle_117) (S 10 _ rfl _ _ _ h (zoks_cons trivial (zoks_cons rv10 (zoks_cons (zr_k 9 (by decide) (by decide)) (zoks_cons (hu8.i 57 _ (by decide)) zoks_nil))))) (Or.inl ⟨rfl, rfl⟩) (zc_hk q238 q143) (by decide) (Nat.le_of_ble_eq_true rfl) (fun u14 h => ?_) (fun x17 u18 h => ?_)
      rotate_left
      · exact zx_leave G M rfl h
      refine zc_wk G hp (fun hu14 tu14 => ?_)
      refine zv_iincN G rfl (by decide) dX0_settle_120 (fun x3_16 ex3_16 => ?_)
      have h := h x3_16 ex3_16
      have rx3_16 : zr x3_16 := by rw [ex3_16]; exact w32_r _
      refine zv_goto (tgt := 80) G (by decide) dX0_settle_123 ?_
      exact zv_pick [0, 1, 2, 3] rfl (hI80 _ _ h rx3_16)
    refine zv_icmp_gt (tgt := 105) G rv9 (zr_k 40 (by decide) (by decide)) (by decide) dX0_settle_98 (fun c20 => ?_) (fun c20 => ?_)
    · refine zv_iconst (a := 0) G (by decide) dX0_settle_105 ?_
      exact kj19 _ (if_neg (fun q => q c20)).symm
    · refine zv_iconst (a := 1) G (by decide) dX0_settle_101 ?_
      refine zv_goto (tgt := 106) G (by decide) dX0_settle_102 ?_
      exact kj19 _ (if_pos c20).symm
set_option maxHeartbeats 4000000 in
set_option maxRecDepth 100000 in
theorem cpC_X0_settle_63 {Γ : ZG CW} {D : CD} {d p : Nat} (hp : D.K.1 = p) (G : ZOk Γ cX0_settle RX0 5 (KnC D) (ZC D)) (M : ZRm Γ (d + 1) D.lim (Option.none : Option Jvm.ClassFile.FieldType) "settle" []) (S : SdC d D p Γ.l) (hl : Γ.l.stackTraces = false) (hk : 0 ≤ d) {x1 : Int} {w : CW} (rx1 : zr x1) (h : pC_X0_settle_63 p (wpC p d) (fun w => Γ.Q (.inl none) w) (fun x w => Γ.Q (.inr x) w) x1 w) : ZV Γ w 63 [(0, ar p), (1, ai x1)] [] := by
  obtain ⟨I63, eI63⟩ : ∃ I : Int → CW → Prop, I = (fun x1 w => zr x1 → ZV Γ w 63 [(0, ar p), (1, ai x1)] []) := ⟨_, rfl⟩
  have hI63 : ∀ (x1 : Int) (w : CW), I63 x1 w → zr x1 → ZV Γ w 63 [(0, ar p), (1, ai x1)] [] := by subst eI63; exact fun _ _ z => z
  have hJ63 : ∀ (x1 : Int) (w : CW), (zr x1 → ZV Γ w 63 [(0, ar p), (1, ai x1)] []) → I63 x1 w := by subst eI63; exact fun _ _ z => z
  refine hI63 x1 w (h I63 (fun x1 w h => hJ63 x1 w (fun rx1 => ?_))) rx1
  refine zc_wk G hp (fun hw tw => ?_)
  refine zv_iload_n G rfl rfl dX0_settle_63 ?_
  refine zv_aload_n G rfl rfl dX0_settle_64 ?_
  refine zc_get (f := 6) (v := ai (fI w 6 p)) G (hFp tw rfl) rfl q2062 (Or.inl rfl) (cV_I (by decide) (by decide)) dX0_settle_65 ?_
  refine zv_icmp_ge (tgt := 132) G rx1 (hw.i 6 _ (by decide)) (by decide) dX0_settle_68 (fun c2 => ?_) (fun c2 => ?_)
  · have h := h.1 c2
    exact zv_pick [] rfl (cpC_X0_settle_132 hp G M S hl hk h)
  · have h := h.2 c2
    refine zv_aload_n G rfl rfl dX0_settle_71 ?_
    refine zc_get (f := 5) (v := ar (fR w 5 p)) G (hFp tw rfl) rfl q2061 (Or.inl rfl) (cV_R rfl) dX0_settle_72 ?_
    refine zv_iload_n G rfl rfl dX0_settle_75 ?_
    have o3 := h.1
    have h := h.2
    refine zc_aald G o3.1 rx1 o3.2.1 o3.2.2 dX0_settle_76 ?_
    refine zv_astore_nN G rfl (by decide) dX0_settle_77 (fun x2_4 ex2_4 => ?_)
    have h := h x2_4 ex2_4
    refine zv_iconst (a := 0) G (by decide) dX0_settle_78 ?_
    refine zv_istore_n G rfl (by decide) rfl dX0_settle_79 ?_
    exact zv_pick [0, 1, 2, 3] rfl (cpC_X0_settle_80 hp G M S hl hk hI63 rx1 (zr_k 0 (by decide) (by decide)) h)
set_option maxHeartbeats 4000000 in
set_option maxRecDepth 100000 in
theorem cpC_X0_settle_61 {Γ : ZG CW} {D : CD} {d p : Nat} (hp : D.K.1 = p) (G : ZOk Γ cX0_settle RX0 5 (KnC D) (ZC D)) (M : ZRm Γ (d + 1) D.lim (Option.none : Option Jvm.ClassFile.FieldType) "settle" []) (S : SdC d D p Γ.l) (hl : Γ.l.stackTraces = false) (hk : 0 ≤ d) {w : CW} (h : pC_X0_settle_61 p (wpC p d) (fun w => Γ.Q (.inl none) w) (fun x w => Γ.Q (.inr x) w) w) : ZV Γ w 61 [(0, ar p)] [] := by
  refine zc_wk G hp (fun hw tw => ?_)
  refine zv_iconst (a := 0) G (by decide) dX0_settle_61 ?_
  refine zv_istore_n G rfl (by decide) rfl dX0_settle_62 ?_
  exact zv_pick [0, 1] rfl (cpC_X0_settle_63 hp G M S hl hk (zr_k 0 (by decide) (by decide)) h)
set_option maxHeartbeats 4000000 in
set_option maxRecDepth 100000 in
theorem cpC_X0_settle_55 {Γ : ZG CW} {D : CD} {d p : Nat} (hp : D.K.1 = p) (G : ZOk Γ cX0_settle RX0 5 (KnC D) (ZC D)) (M : ZRm Γ (d + 1) D.lim (Option.none : Option Jvm.ClassFile.FieldType) "settle" []) (S : SdC d D p Γ.l) (hl : Γ.l.stackTraces = false) (hk : 0 ≤ d) {I2 : Int → CW → Prop} {x1 : Int} {w : CW} (hI2 : ∀ (x1 : Int) (w : CW), I2 x1 w → zr x1 → ZV Γ w 2 [(0, ar p), (1, ai x1)] []) (rx1 : zr x1) (h : pC_X0_settle_55 p (wpC p d) (fun w => Γ.Q (.inl none) w) (fun x w => Γ.Q (.inr x) w) I2 x1 w) : ZV Γ w 55 [(0, ar p), (1, ai x1)] [] := by
  refine zc_wk G hp (fun hw tw => ?_)
  refine zv_iincN G rfl (by decide) dX0_settle_55 (fun x1_26 ex1_26 => ?_)
  have h := h x1_26 ex1_26
  have rx1_26 : zr x1_26 := by rw [ex1_26]; exact w32_r _
  refine zv_goto (tgt := 2) G (by decide) dX0_settle_58 ?_
  exact zv_pick [0, 1] rfl (hI2 _ _ h rx1_26)
set_option maxHeartbeats 4000000 in
set_option maxRecDepth 100000 in
theorem cpC_X0_settle_49 {Γ : ZG CW} {D : CD} {d p : Nat} (hp : D.K.1 = p) (G : ZOk Γ cX0_settle RX0 5 (KnC D) (ZC D)) (M : ZRm Γ (d + 1) D.lim (Option.none : Option Jvm.ClassFile.FieldType) "settle" []) (S : SdC d D p Γ.l) (hl : Γ.l.stackTraces = false) (hk : 0 ≤ d) {I2 : Int → CW → Prop} {I19 : Int → CW → Prop} {x1 : Int} {x2 : Nat} {x3 : Int} {w : CW} (hI2 : ∀ (x1 : Int) (w : CW), I2 x1 w → zr x1 → ZV Γ w 2 [(0, ar p), (1, ai x1)] []) (hI19 : ∀ (x3 : Int) (w : CW), I19 x3 w → zr x3 → ZV Γ w 19 [(0, ar p), (1, ai x1), (2, ar x2), (3, ai x3)] []) (rx1 : zr x1) (rx3 : zr x3) (h : pC_X0_settle_49 p (wpC p d) (fun w => Γ.Q (.inl none) w) (fun x w => Γ.Q (.inr x) w) I2 I19 x1 x2 x3 w) : ZV Γ w 49 [(0, ar p), (1, ai x1), (2, ar x2), (3, ai x3)] [] := by
  refine zc_wk G hp (fun hw tw => ?_)
  refine zv_iincN G rfl (by decide) dX0_settle_49 (fun x3_32 ex3_32 => ?_)
  have h := h x3_32 ex3_32
  have rx3_32 : zr x3_32 := by rw [ex3_32]; exact w32_r _
  refine zv_goto (tgt := 19) G (by decide) dX0_settle_52 ?_
  exact zv_pick [0, 1, 2, 3] rfl (hI19 _ _ h rx3_32)
set_option maxHeartbeats 4000000 in
set_option maxRecDepth 100000 in
theorem cpC_X0_settle_19 {Γ : ZG CW} {D : CD} {d p : Nat} (hp : D.K.1 = p) (G : ZOk Γ cX0_settle RX0 5 (KnC D) (ZC D)) (M : ZRm Γ (d + 1) D.lim (Option.none : Option Jvm.ClassFile.FieldType) "settle" []) (S : SdC d D p Γ.l) (hl : Γ.l.stackTraces = false) (hk : 0 ≤ d) {I2 : Int → CW → Prop} {x1 : Int} {x2 : Nat} {x3 : Int} {w : CW} (hI2 : ∀ (x1 : Int) (w : CW), I2 x1 w → zr x1 → ZV Γ w 2 [(0, ar p), (1, ai x1)] []) (rx1 : zr x1) (rx3 : zr x3) (h : pC_X0_settle_19 p (wpC p d) (fun w => Γ.Q (.inl none) w) (fun x w => Γ.Q (.inr x) w) I2 x1 x2 x3 w) : ZV Γ w 19 [(0, ar p), (1, ai x1), (2, ar x2), (3, ai x3)] [] := by
  obtain ⟨I19, eI19⟩ : ∃ I : Int → CW → Prop, I = (fun x3 w => zr x3 → ZV Γ w 19 [(0, ar p), (1, ai x1), (2, ar x2), (3, ai x3)] []) := ⟨_, rfl⟩
  have hI19 : ∀ (x3 : Int) (w : CW), I19 x3 w → zr x3 → ZV Γ w 19 [(0, ar p), (1, ai x1), (2, ar x2), (3, ai x3)] [] := by subst eI19; exact fun _ _ z => z
  have hJ19 : ∀ (x3 : Int) (w : CW), (zr x3 → ZV Γ w 19 [(0, ar p), (1, ai x1), (2, ar x2), (3, ai x3)] []) → I19 x3 w := by subst eI19; exact fun _ _ z => z
  refine hI19 x3 w (h I19 (fun x3 w h => hJ19 x3 w (fun rx3 => ?_))) rx3
  refine zc_wk G hp (fun hw tw => ?_)
  refine zv_iload_n G rfl rfl dX0_settle_19 ?_
  refine zv_aload_n G rfl rfl dX0_settle_20 ?_
  have o24 := h.1
  have h := h.2
  refine zc_get (f := 48) (v := ai (fI w 48 x2)) G o24 rfl q754 (Or.inl rfl) (cV_I (by decide) (by decide)) dX0_settle_21 ?_
  refine zv_icmp_ge (tgt := 55) G rx3 (hw.i 48 _ (by decide)) (by decide) dX0_settle_24 (fun c25 => ?_) (fun c25 => ?_)
  · have h := h.1 c25
    exact zv_pick [0, 1] rfl (cpC_X0_settle_55 hp G M S hl hk hI2 rx1 h)
  · have h := h.2 c25
    refine zv_aload_n G rfl rfl dX0_settle_27 ?_
    have o27 := h.1
    have h := h.2
    refine zc_get (f := 47) (v := ar (fR w 47 x2)) G o27 rfl q752 (Or.inl rfl) (cV_R rfl) dX0_settle_28 ?_
    refine zv_iload_n G rfl rfl dX0_settle_31 ?_
    have o28 := h.1
    have h := h.2
    refine zc_aald G o28.1 rx3 o28.2.1 o28.2.2 dX0_settle_32 ?_
    refine zv_astoreN G (by decide) dX0_settle_33 (fun x4_29 ex4_29 => ?_)
    have h := h x4_29 ex4_29
    refine zv_aload G rfl dX0_settle_35 ?_
    have o30 := h.1
    have h := h.2
    refine zc_get (f := 62) (v := ar (fR w 62 x4_29)) G o30 rfl q816 (Or.inl rfl) (cV_R rfl) dX0_settle_37 ?_
    refine zv_ifnull (tgt := 49) G (by decide) dX0_settle_40 (fun c31 => ?_) (fun c31 => ?_)
    · have h := h.1 c31
      exact zv_pick [0, 1, 2, 3] rfl (cpC_X0_settle_49 hp G M S hl hk hI2 hI19 rx1 rx3 h)
    · have h := h.2 c31
      refine zv_aload_n G rfl rfl dX0_settle_43 ?_
      refine zv_aload G rfl dX0_settle_44 ?_
      refine zv_callV (as := [ar p, ar x4_29]) (st := []) G M (zc_eV (C := zcn 1) G q1057 q1059 qs37 (Or.inl ⟨rfl, rfl⟩) q1060 md_X0_settleCall (zc_rc G (zne tw tw.1 (by decide)) tw.1 (by decide) (by decide) rfl) rfl dX0_settle_46) (S 42 _ rfl _ _ _ h (zoks_cons trivial (zoks_cons trivial zoks_nil))) (Or.inl ⟨rfl, rfl⟩) (zc_hk q1060 q143) (by decide) (Nat.le_of_ble_eq_true rfl) (fun u33 h => ?_) (fun x35 u36 h => ?_)
      rotate_left
      · exact zx_leave G M rfl h
      refine zc_wk G hp (fun hu33 tu33 => ?_)
      exact zv_pick [0, 1, 2, 3] rfl (cpC_X0_settle_49 hp G M S hl hk hI2 hI19 rx1 rx3 h)
set_option maxHeartbeats 4000000 in
set_option maxRecDepth 100000 in
theorem cpC_X0_settle_2 {Γ : ZG CW} {D : CD} {d p : Nat} (hp : D.K.1 = p) (G : ZOk Γ cX0_settle RX0 5 (KnC D) (ZC D)) (M : ZRm Γ (d + 1) D.lim (Option.none : Option Jvm.ClassFile.FieldType) "settle" []) (S : SdC d D p Γ.l) (hl : Γ.l.stackTraces = false) (hk : 0 ≤ d) {x1 : Int} {w : CW} (rx1 : zr x1) (h : pC_X0_settle_2 p (wpC p d) (fun w => Γ.Q (.inl none) w) (fun x w => Γ.Q (.inr x) w) x1 w) : ZV Γ w 2 [(0, ar p), (1, ai x1)] [] := by
  obtain ⟨I2, eI2⟩ : ∃ I : Int → CW → Prop, I = (fun x1 w => zr x1 → ZV Γ w 2 [(0, ar p), (1, ai x1)] []) := ⟨_, rfl⟩
  have hI2 : ∀ (x1 : Int) (w : CW), I2 x1 w → zr x1 → ZV Γ w 2 [(0, ar p), (1, ai x1)] [] := by subst eI2; exact fun _ _ z => z
  have hJ2 : ∀ (x1 : Int) (w : CW), (zr x1 → ZV Γ w 2 [(0, ar p), (1, ai x1)] []) → I2 x1 w := by subst eI2; exact fun _ _ z => z
  refine hI2 x1 w (h I2 (fun x1 w h => hJ2 x1 w (fun rx1 => ?_))) rx1
  refine zc_wk G hp (fun hw tw => ?_)
  refine zv_iload_n G rfl rfl dX0_settle_2 ?_
  refine zv_aload_n G rfl rfl dX0_settle_3 ?_
  refine zc_get (f := 6) (v := ai (fI w 6 p)) G (hFp tw rfl) rfl q2062 (Or.inl rfl) (cV_I (by decide) (by decide)) dX0_settle_4 ?_
  refine zv_icmp_ge (tgt := 61) G rx1 (hw.i 6 _ (by decide)) (by decide) dX0_settle_7 (fun c1 => ?_) (fun c1 => ?_)
  · have h := h.1 c1
    exact zv_pick [0] rfl (cpC_X0_settle_61 hp G M S hl hk h)
  · have h := h.2 c1
    refine zv_aload_n G rfl rfl dX0_settle_10 ?_
    refine zc_get (f := 5) (v := ar (fR w 5 p)) G (hFp tw rfl) rfl q2061 (Or.inl rfl) (cV_R rfl) dX0_settle_11 ?_
    refine zv_iload_n G rfl rfl dX0_settle_14 ?_
    have o22 := h.1
    have h := h.2
    refine zc_aald G o22.1 rx1 o22.2.1 o22.2.2 dX0_settle_15 ?_
    refine zv_astore_nN G rfl (by decide) dX0_settle_16 (fun x2_23 ex2_23 => ?_)
    have h := h x2_23 ex2_23
    refine zv_iconst (a := 0) G (by decide) dX0_settle_17 ?_
    refine zv_istore_n G rfl (by decide) rfl dX0_settle_18 ?_
    exact zv_pick [0, 1, 2, 3] rfl (cpC_X0_settle_19 hp G M S hl hk hI2 rx1 (zr_k 0 (by decide) (by decide)) h)
set_option maxHeartbeats 4000000 in
set_option maxRecDepth 100000 in
theorem cpC_X0_settle_0 {Γ : ZG CW} {D : CD} {d p : Nat} (hp : D.K.1 = p) (G : ZOk Γ cX0_settle RX0 5 (KnC D) (ZC D)) (M : ZRm Γ (d + 1) D.lim (Option.none : Option Jvm.ClassFile.FieldType) "settle" []) (S : SdC d D p Γ.l) (hl : Γ.l.stackTraces = false) (hk : 0 ≤ d) {w : CW} (h : pC_X0_settle_0 p (wpC p d) (fun w => Γ.Q (.inl none) w) (fun x w => Γ.Q (.inr x) w) w) : ZV Γ w 0 [(0, ar p)] [] := by
  refine zc_wk G hp (fun hw tw => ?_)
  refine zv_iconst (a := 0) G (by decide) dX0_settle_0 ?_
  refine zv_istore_n G rfl (by decide) rfl dX0_settle_1 ?_
  exact zv_pick [0, 1] rfl (cpC_X0_settle_2 hp G M S hl hk (zr_k 0 (by decide) (by decide)) h)
set_option maxHeartbeats 4000000 in
set_option maxRecDepth 100000 in
theorem cpC_X0_settleCall_148 {Γ : ZG CW} {D : CD} {d p : Nat} (hp : D.K.1 = p) (G : ZOk Γ cX0_settleCall RX0 6 (KnC D) (ZC D)) (M : ZRm Γ (d + 1) D.lim (Option.none : Option Jvm.ClassFile.FieldType) "settleCall" []) (S : SdC d D p Γ.l) (hl : Γ.l.stackTraces = false) (hk : 0 ≤ d) {x1 : Nat} {x2 : Nat} {w : CW} (h : pC_X0_settleCall_148 p (wpC p d) (fun w => Γ.Q (.inl none) w) (fun x w => Γ.Q (.inr x) w) x1 x2 w) : ZV Γ w 148 [(1, ar x1), (2, ar x2)] [] := by
  refine zc_wk G hp (fun hw tw => ?_)
  refine zv_aload_n G rfl rfl dX0_settleCall_148 ?_
  refine zv_aload_n G rfl rfl dX0_settleCall_149 ?_
  have o18 := h.1
  have h := h.2
  refine zc_putR (f := 66) G M o18 rfl q820 (Or.inl rfl) (Or.inl rfl) (zfty_66) (Or.inl ⟨_, rfl⟩) rfl dX0_settleCall_150 (fun u17 eu17 => ?_)
  have h := h u17 eu17
  refine zc_wk G hp (fun hu17 tu17 => ?_)
  exact zv_vret G M dX0_settleCall_153 h
set_option maxHeartbeats 4000000 in
set_option maxRecDepth 100000 in
theorem cpC_X0_settleCall_132 {Γ : ZG CW} {D : CD} {d p : Nat} (hp : D.K.1 = p) (G : ZOk Γ cX0_settleCall RX0 6 (KnC D) (ZC D)) (M : ZRm Γ (d + 1) D.lim (Option.none : Option Jvm.ClassFile.FieldType) "settleCall" []) (S : SdC d D p Γ.l) (hl : Γ.l.stackTraces = false) (hk : 0 ≤ d) {I56 : Int → CW → Prop} {x1 : Nat} {x2 : Nat} {x3 : Int} {s0 : Int} {s1 : Nat} {w : CW} (hI56 : ∀ (x3 : Int) (w : CW), I56 x3 w → zr x3 → ZV Γ w 56 [(0, ar p), (1, ar x1), (2, ar x2), (3, ai x3)] []) (rx3 : zr x3) (rs0 : zr s0) (h : pC_X0_settleCall_132 p (wpC p d) (fun w => Γ.Q (.inl none) w) (fun x w => Γ.Q (.inr x) w) I56 x1 x2 x3 s0 s1 w) : ZV Γ w 132 [(0, ar p), (1, ar x1), (2, ar x2), (3, ai x3)] [ai s0, ar s1] := by
  refine zc_wk G hp (fun hw tw => ?_)
  refine zv_iconst (a := 5) G (by decide) dX0_settleCall_132 ?_
  refine zv_aload_n G rfl rfl dX0_settleCall_133 ?_
  have o28 := h.1
  have h := h.2
  refine zc_get (f := 65) (v := ar (fR w 65 x1)) G o28 rfl q819 (Or.inl rfl) (cV_R rfl) dX0_settleCall_134 ?_
  refine zv_iload_n G rfl rfl dX0_settleCall_137 ?_
  have o29 := h.1
  have h := h.2
  refine zc_ialdN G o29.1 rx3 o29.2.1 o29.2.2 dX0_settleCall_138 ?_
  have o35 := h.1
  have h := h.2
  refine zv_callV (as := [ar s1, ai s0, ai 5, ai (aN w (fR w 65 x1) x3)]) (st := []) G M (zc_eV (C := zcn 1) G q235 q237 qs5 (Or.inl ⟨rfl, rfl⟩) q238 md_X0_need (zc_rc G (zne tw o35 (by decide)) o35 (by decide) (by decide) rfl) rfl dX0_settleCall_139) (S 10 _ rfl _ _ _ h (zoks_cons trivial (zoks_cons rs0 (zoks_cons (zr_k 5 (by decide) (by decide)) (zoks_cons (aN_r hw _ _) zoks_nil))))) (Or.inl ⟨rfl, rfl⟩) (zc_hk q238 q143) (by decide) (Nat.le_of_ble_eq_true rfl) (fun u30 h => ?_) (fun x33 u34 h => ?_)
  rotate_left
  · exact zx_leave G M rfl h
  refine zc_wk G hp (fun hu30 tu30 => ?_)
  refine zv_iincN G rfl (by decide) dX0_settleCall_142 (fun x3_32 ex3_32 => ?_)
  have h := h x3_32 ex3_32
  have rx3_32 : zr x3_32 := by rw [ex3_32]; exact w32_r _
  refine zv_goto (tgt := 56) G (by decide) dX0_settleCall_145 ?_
  exact zv_pick [0, 1, 2, 3] rfl (hI56 _ _ h rx3_32)
set_option maxHeartbeats 4000000 in
set_option maxRecDepth 100000 in
theorem cpC_X0_settleCall_127 {Γ : ZG CW} {D : CD} {d p : Nat} (hp : D.K.1 = p) (G : ZOk Γ cX0_settleCall RX0 6 (KnC D) (ZC D)) (M : ZRm Γ (d + 1) D.lim (Option.none : Option Jvm.ClassFile.FieldType) "settleCall" []) (S : SdC d D p Γ.l) (hl : Γ.l.stackTraces = false) (hk : 0 ≤ d) {I56 : Int → CW → Prop} {x1 : Nat} {x2 : Nat} {x3 : Int} {s0 : Nat} {w : CW} (hI56 : ∀ (x3 : Int) (w : CW), I56 x3 w → zr x3 → ZV Γ w 56 [(0, ar p), (1, ar x1), (2, ar x2), (3, ai x3)] []) (rx3 : zr x3) (h : pC_X0_settleCall_127 p (wpC p d) (fun w => Γ.Q (.inl none) w) (fun x w => Γ.Q (.inr x) w) I56 x1 x2 x3 s0 w) : ZV Γ w 127 [(0, ar p), (1, ar x1), (2, ar x2), (3, ai x3)] [ar s0] := by
  refine zc_wk G hp (fun hw tw => ?_)
  refine zv_iconst (a := 1) G (by decide) dX0_settleCall_127 ?_
  refine zv_goto (tgt := 132) G (by decide) dX0_settleCall_128 ?_
  exact zv_pick [0, 1, 2, 3] rfl (cpC_X0_settleCall_132 hp G M S hl hk hI56 rx3 (zr_k 1 (by decide) (by decide)) h)
set_option maxHeartbeats 4000000 in
set_option maxRecDepth 100000 in
theorem cpC_X0_settleCall_131 {Γ : ZG CW} {D : CD} {d p : Nat} (hp : D.K.1 = p) (G : ZOk Γ cX0_settleCall RX0 6 (KnC D) (ZC D)) (M : ZRm Γ (d + 1) D.lim (Option.none : Option Jvm.ClassFile.FieldType) "settleCall" []) (S : SdC d D p Γ.l) (hl : Γ.l.stackTraces = false) (hk : 0 ≤ d) {I56 : Int → CW → Prop} {x1 : Nat} {x2 : Nat} {x3 : Int} {s0 : Nat} {w : CW} (hI56 : ∀ (x3 : Int) (w : CW), I56 x3 w → zr x3 → ZV Γ w 56 [(0, ar p), (1, ar x1), (2, ar x2), (3, ai x3)] []) (rx3 : zr x3) (h : pC_X0_settleCall_131 p (wpC p d) (fun w => Γ.Q (.inl none) w) (fun x w => Γ.Q (.inr x) w) I56 x1 x2 x3 s0 w) : ZV Γ w 131 [(0, ar p), (1, ar x1), (2, ar x2), (3, ai x3)] [ar s0] := by
  refine zc_wk G hp (fun hw tw => ?_)
  refine zv_iconst (a := 0) G (by decide) dX0_settleCall_131 ?_
  exact zv_pick [0, 1, 2, 3] rfl (cpC_X0_settleCall_132 hp G M S hl hk hI56 rx3 (zr_k 0 (by decide) (by decide)) h)
set_option maxHeartbeats 4000000 in
set_option maxRecDepth 100000 in
theorem cpC_X0_settleCall_56 {Γ : ZG CW} {D : CD} {d p : Nat} (hp : D.K.1 = p) (G : ZOk Γ cX0_settleCall RX0 6 (KnC D) (ZC D)) (M : ZRm Γ (d + 1) D.lim (Option.none : Option Jvm.ClassFile.FieldType) "settleCall" []) (S : SdC d D p Γ.l) (hl : Γ.l.stackTraces = false) (hk : 0 ≤ d) {x1 : Nat} {x2 : Nat} {x3 : Int} {w : CW} (rx3 : zr x3) (h : pC_X0_settleCall_56 p (wpC p d) (fun w => Γ.Q (.inl none) w) (fun x w => Γ.Q (.inr x) w) x1 x2 x3 w) : ZV Γ w 56 [(0, ar p), (1, ar x1), (2, ar x2), (3, ai x3)] [] := by
  obtain ⟨I56, eI56⟩ : ∃ I : Int → CW → Prop, I = (fun x3 w => zr x3 → ZV Γ w 56 [(0, ar p), (1, ar x1), (2, ar x2), (3, ai x3)] []) := ⟨_, rfl⟩
  have hI56 : ∀ (x3 : Int) (w : CW), I56 x3 w → zr x3 → ZV Γ w 56 [(0, ar p), (1, ar x1), (2, ar x2), (3, ai x3)] [] := by subst eI56; exact fun _ _ z => z
  have hJ56 : ∀ (x3 : Int) (w : CW), (zr x3 → ZV Γ w 56 [(0, ar p), (1, ar x1), (2, ar x2), (3, ai x3)] []) → I56 x3 w := by subst eI56; exact fun _ _ z => z
  refine hI56 x3 w (h I56 (fun x3 w h => hJ56 x3 w (fun rx3 => ?_))) rx3
  refine zc_wk G hp (fun hw tw => ?_)
  refine zv_iload_n G rfl rfl dX0_settleCall_56 ?_
  refine zv_aload_n G rfl rfl dX0_settleCall_57 ?_
  have o15 := h.1
  have h := h.2
  refine zc_get (f := 46) (v := ai (fI w 46 x2)) G o15 rfl q750 (Or.inl rfl) (cV_I (by decide) (by decide)) dX0_settleCall_58 ?_
  refine zv_icmp_ge (tgt := 148) G rx3 (hw.i 46 _ (by decide)) (by decide) dX0_settleCall_61 (fun c16 => ?_) (fun c16 => ?_)
  · have h := h.1 c16
    exact zv_pick [1, 2] rfl (cpC_X0_settleCall_148 hp G M S hl hk h)
  · have h := h.2 c16
    refine zv_aload_n G rfl rfl dX0_settleCall_64 ?_
    have o19 := h.1
    have h := h.2
    refine zc_get (f := 67) (v := ar (fR w 67 x1)) G o19 rfl q822 (Or.inl rfl) (cV_R rfl) dX0_settleCall_65 ?_
    refine zv_aload_n G rfl rfl dX0_settleCall_68 ?_
    have o20 := h.1
    have h := h.2
    refine zc_get (f := 62) (v := ar (fR w 62 x1)) G o20 rfl q816 (Or.inl rfl) (cV_R rfl) dX0_settleCall_69 ?_
    refine zv_iload_n G rfl rfl dX0_settleCall_72 ?_
    have o21 := h.1
    have h := h.2
    refine zc_ialdN G o21.1 rx3 o21.2.1 o21.2.2 dX0_settleCall_73 ?_
    have o22 := h.1
    have h := h.2
    refine zc_ialdN G o22.1 (aN_r hw _ _) o22.2.1 o22.2.2 dX0_settleCall_74 ?_
    refine zv_istoreN G (by decide) dX0_settleCall_75 (fun x4_23 ex4_23 => ?_)
    have h := h x4_23 ex4_23
    have rx4_23 : zr x4_23 := by rw [ex4_23]; exact (aN_r hw _ _)
    refine zv_aload_n G rfl rfl dX0_settleCall_77 ?_
    have o24 := h.1
    have h := h.2
    refine zc_get (f := 45) (v := ar (fR w 45 x2)) G o24 rfl q748 (Or.inl rfl) (cV_R rfl) dX0_settleCall_78 ?_
    refine zv_iload_n G rfl rfl dX0_settleCall_81 ?_
    have o25 := h.1
    have h := h.2
    refine zc_ialdN G o25.1 rx3 o25.2.1 o25.2.2 dX0_settleCall_82 ?_
    refine zv_istoreN G (by decide) dX0_settleCall_83 (fun x5_26 ex5_26 => ?_)
    have h := h x5_26 ex5_26
    have rx5_26 : zr x5_26 := by rw [ex5_26]; exact (aN_r hw _ _)
    refine zv_aload_n G rfl rfl dX0_settleCall_85 ?_
    refine zv_iload G rfl dX0_settleCall_86 ?_
    refine zv_iload G rfl dX0_settleCall_88 ?_
    refine zv_icmp_eq (tgt := 127) G rx4_23 rx5_26 (by decide) dX0_settleCall_90 (fun c27 => ?_) (fun c27 => ?_)
    · have h := h.1 c27
      exact zv_pick [0, 1, 2, 3] rfl (cpC_X0_settleCall_127 hp G M S hl hk hI56 rx3 h)
    · have h := h.2 c27
      refine zv_iload G rfl dX0_settleCall_93 ?_
      refine zv_callI (as := [ai x4_23]) (st := [ar p]) G M (zc_eS G q920 q921 q143 q922 md_X0_isKind rfl dX0_settleCall_95) (S 30 _ rfl _ _ _ h (zoks_cons rx4_23 zoks_nil)) (Or.inl ⟨rfl, rfl⟩) (zc_hk q922 q143) (by decide) (Nat.le_of_ble_eq_true rfl) (fun v37 u36 rv37 h => ?_) (fun _ _ h => h.elim)
      refine zc_wk G hp (fun hu36 tu36 => ?_)
      refine zv_if_eq (tgt := 131) G rv37 (by decide) dX0_settleCall_98 (fun c38 => ?_) (fun c38 => ?_)
      · have h := h.1 c38
        exact zv_pick [0, 1, 2, 3] rfl (cpC_X0_settleCall_131 hp G M S hl hk hI56 rx3 h)
      · have h := h.2 c38
        refine zv_iload G rfl dX0_settleCall_101 ?_
        refine zv_callI (as := [ai x5_26]) (st := [ar p]) G M (zc_eS G q920 q921 q143 q922 md_X0_isKind rfl dX0_settleCall_103) (S 30 _ rfl _ _ _ h (zoks_cons rx5_26 zoks_nil)) (Or.inl ⟨rfl, rfl⟩) (zc_hk q922 q143) (by decide) (Nat.le_of_ble_eq_true rfl) (fun v40 u39 rv40 h => ?_) (fun _ _ h => h.elim)
        refine zc_wk G hp (fun hu39 tu39 => ?_)
        refine zv_if_eq (tgt := 131) G rv40 (by decide) dX0_settleCall_106 (fun c41 => ?_) (fun c41 => ?_)
        · have h := h.1 c41
          exact zv_pick [0, 1, 2, 3] rfl (cpC_X0_settleCall_131 hp G M S hl hk hI56 rx3 h)
        · have h := h.2 c41
          refine zv_aload_n G rfl rfl dX0_settleCall_109 ?_
          refine zv_iload G rfl dX0_settleCall_110 ?_
          refine zv_callR (as := [ar p, ai x4_23]) (st := [ar p]) G M (zc_eV (C := zcn 1) G q923 q925 qs26 (Or.inl ⟨rfl, rfl⟩) q926 md_X0_kindOf (zc_rc G (zne tu39 tu39.1 (by decide)) tu39.1 (by decide) (by decide) rfl) rfl dX0_settleCall_112) (S 31 _ rfl _ _ _ h (zoks_cons trivial (zoks_cons rx4_23 zoks_nil))) (Or.inl ⟨rfl, rfl⟩) (zc_hk q926 q143) (by decide) (Nat.le_of_ble_eq_true rfl) (fun v43 u42 h => ?_) (fun _ _ h => h.elim)
          refine zc_wk G hp (fun hu42 tu42 => ?_)
          refine zv_aload_n G rfl rfl dX0_settleCall_115 ?_
          refine zv_iload G rfl dX0_settleCall_116 ?_
          refine zv_callR (as := [ar p, ai x5_26]) (st := [ar v43, ar p]) G M (zc_eV (C := zcn 1) G q923 q925 qs26 (Or.inl ⟨rfl, rfl⟩) q926 md_X0_kindOf (zc_rc G (zne tu42 tu42.1 (by decide)) tu42.1 (by decide) (by decide) rfl) rfl dX0_settleCall_118) (S 31 _ rfl _ _ _ h (zoks_cons trivial (zoks_cons rx5_26 zoks_nil))) (Or.inl ⟨rfl, rfl⟩) (zc_hk q926 q143) (by decide) (Nat.le_of_ble_eq_true rfl) (fun v45 u44 h => ?_) (fun _ _ h => h.elim)
          refine zc_wk G hp (fun hu44 tu44 => ?_)
          have o49 := h.1
          have h := h.2
          refine zv_callI (as := [ar v43, ar v45]) (st := [ar p]) G M (zc_eV (C := zcn 3) G q927 q928 q929 (Or.inl ⟨rfl, rfl⟩) q930 md_X3_is (zc_rc G (zne tu44 o49 (by decide)) o49 (by decide) (by decide) rfl) rfl dX0_settleCall_121) (S 83 _ rfl _ _ _ h (zoks_cons trivial (zoks_cons trivial zoks_nil))) (Or.inl ⟨rfl, rfl⟩) (zc_hk q930 q159) (by decide) (Nat.le_of_ble_eq_true rfl) (fun v47 u46 rv47 h => ?_) (fun _ _ h => h.elim)
          refine zc_wk G hp (fun hu46 tu46 => ?_)
          refine zv_if_eq (tgt := 131) G rv47 (by decide) dX0_settleCall_124 (fun c48 => ?_) (fun c48 => ?_)
          · have h := h.1 c48
            exact zv_pick [0, 1, 2, 3] rfl (cpC_X0_settleCall_131 hp G M S hl hk hI56 rx3 h)
          · have h := h.2 c48
            exact zv_pick [0, 1, 2, 3] rfl (cpC_X0_settleCall_127 hp G M S hl hk hI56 rx3 h)
set_option maxHeartbeats 4000000 in
set_option maxRecDepth 100000 in
theorem cpC_X0_settleCall_0 {Γ : ZG CW} {D : CD} {d p : Nat} (hp : D.K.1 = p) (G : ZOk Γ cX0_settleCall RX0 6 (KnC D) (ZC D)) (M : ZRm Γ (d + 1) D.lim (Option.none : Option Jvm.ClassFile.FieldType) "settleCall" []) (S : SdC d D p Γ.l) (hl : Γ.l.stackTraces = false) (hk : 0 ≤ d) {x1 : Nat} {w : CW} (h : pC_X0_settleCall_0 p (wpC p d) (fun w => Γ.Q (.inl none) w) (fun x w => Γ.Q (.inr x) w) x1 w) : ZV Γ w 0 [(0, ar p), (1, ar x1)] [] := by
  refine zc_wk G hp (fun hw tw => ?_)
  refine zv_aload_n G rfl rfl dX0_settleCall_0 ?_
  refine zv_aload_n G rfl rfl dX0_settleCall_1 ?_
  have o1 := h.1
  have h := h.2
  refine zc_get (f := 63) (v := al (fI w 63 x1)) G o1 rfl q817 (Or.inl rfl) (cV_L rfl) dX0_settleCall_2 ?_
  refine zv_callR (as := [ar p, al (fI w 63 x1)]) (st := []) G M (zc_eV (C := zcn 1) G q729 q731 qs16 (Or.inl ⟨rfl, rfl⟩) q732 md_X0_functionOf (zc_rc G (zne tw tw.1 (by decide)) tw.1 (by decide) (by decide) rfl) rfl dX0_settleCall_5) (S 20 _ rfl _ _ _ h (zoks_cons trivial (zoks_cons (hw.l 63 _ (by decide)) zoks_nil))) (Or.inl ⟨rfl, rfl⟩) (zc_hk q732 q143) (by decide) (Nat.le_of_ble_eq_true rfl) (fun v3 u2 h => ?_) (fun _ _ h => h.elim)
  refine zc_wk G hp (fun hu2 tu2 => ?_)
  refine zv_astore_n G rfl (by decide) rfl dX0_settleCall_8 ?_
  refine zv_aload_n G rfl rfl dX0_settleCall_9 ?_
  refine zv_aload_n G rfl rfl dX0_settleCall_10 ?_
  have kj56 : ∀ v4 : Int, v4 = (if ¬ (v3 = 0) then 1 else 0) → ZV Γ u2 19 [(2, ar v3), (0, ar p), (1, ar x1)] (ai v4 :: ar p :: []) := by
    intro v4 ev4
    have h := h v4 ev4
    have rv4 : zr v4 := by rw [ev4]; exact (zr_ite (zr_k 1 (by decide) (by decide)) (zr_k 0 (by decide) (by decide)))
    have bv4 : v4 = 0 ∨ v4 = 1 := by rw [ev4]; exact (zb_ite (Or.inr rfl) (Or.inl rfl))
    refine zv_iconst (a := 4) G (by decide) dX0_settleCall_19 ?_
    refine zv_aload_n G rfl rfl dX0_settleCall_20 ?_
    have o5 := h.1
    have h := h.2
    refine zc_get (f := 64) (v := ai (fI u2 64 x1)) G o5 rfl q818 (Or.inl rfl) (cV_I (by decide) (by decide)) dX0_settleCall_21 ?_
    refine zv_callV (as := [ar p, ai v4, ai 4, ai (fI u2 64 x1)]) (st := []) G M (zc_eV (C := zcn 1) G q235 q237 qs5 (Or.inl ⟨rfl, rfl⟩) q238 md_X0_need (zc_rc G (zne tu2 tu2.1 (by decide)) tu2.1 (by decide) (by decide) rfl) rfl dX0_settleCall_24) (S 10 _ rfl _ _ _ h (zoks_cons trivial (zoks_cons rv4 (zoks_cons (zr_k 4 (by decide) (by decide)) (zoks_cons (hu2.i 64 _ (by decide)) zoks_nil))))) (Or.inl ⟨rfl, rfl⟩) (zc_hk q238 q143) (by decide) (Nat.le_of_ble_eq_true rfl) (fun u6 h => ?_) (fun x54 u55 h => ?_)
    rotate_left
    · exact zx_leave G M rfl h
    refine zc_wk G hp (fun hu6 tu6 => ?_)
    refine zv_aload_n G rfl rfl dX0_settleCall_27 ?_
    refine zv_aload_n G rfl rfl dX0_settleCall_28 ?_
    have o8 := h.1
    have h := h.2
    refine zc_get (f := 46) (v := ai (fI u6 46 v3)) G o8 rfl q750 (Or.inl rfl) (cV_I (by decide) (by decide)) dX0_settleCall_29 ?_
    refine zv_aload_n G rfl rfl dX0_settleCall_32 ?_
    have o9 := h.1
    have h := h.2
    refine zc_get (f := 62) (v := ar (fR u6 62 x1)) G o9 rfl q816 (Or.inl rfl) (cV_R rfl) dX0_settleCall_33 ?_
    have o10 := h.1
    have h := h.2
    refine zc_alen G o10 dX0_settleCall_36 ?_
    have kj52 : ∀ v11 : Int, v11 = (if (fI u6 46 v3) = ((ln u6 (fR u6 62 x1) : Nat) : Int) then 1 else 0) → ZV Γ u6 45 [(2, ar v3), (0, ar p), (1, ar x1)] (ai v11 :: ar p :: []) := by
      intro v11 ev11
      have h := h v11 ev11
      have rv11 : zr v11 := by rw [ev11]; exact (zr_ite (zr_k 1 (by decide) (by decide)) (zr_k 0 (by decide) (by decide)))
      have bv11 : v11 = 0 ∨ v11 = 1 := by rw [ev11]; exact (zb_ite (Or.inr rfl) (Or.inl rfl))
      refine zv_bipush (a := 6) G (by decide) dX0_settleCall_45 ?_
      refine zv_aload_n G rfl rfl dX0_settleCall_47 ?_
      have o12 := h.1
      have h := h.2
      refine zc_get (f := 64) (v := ai (fI u6 64 x1)) G o12 rfl q818 (Or.inl rfl) (cV_I (by decide) (by decide)) dX0_settleCall_48 ?_
      refine zv_callV (as := [ar p, ai v11, ai 6, ai (fI u6 64 x1)]) (st := []) G M (zc_eV (C := zcn 1) G q235 q237 qs5 (Or.inl ⟨rfl, rfl⟩) q238 md_X0_need (zc_rc G (zne tu6 tu6.1 (by decide)) tu6.1 (by decide) (by decide) rfl) rfl dX0_settleCall_51) (S 10 _ rfl _ _ _ h (zoks_cons trivial (zoks_cons rv11 (zoks_cons (zr_k 6 (by decide) (by decide)) (zoks_cons (hu6.i 64 _ (by decide)) zoks_nil))))) (Or.inl ⟨rfl, rfl⟩) (zc_hk q238 q143) (by decide) (Nat.le_of_ble_eq_true rfl) (fun u13 h => ?_) (fun x50 u51 h => ?_)
      rotate_left
      · exact zx_leave G M rfl h
      refine zc_wk G hp (fun hu13 tu13 => ?_)
      refine zv_iconst (a := 0) G (by decide) dX0_settleCall_54 ?_
      refine zv_istore_n G rfl (by decide) rfl dX0_settleCall_55 ?_
      exact zv_pick [0, 1, 2, 3] rfl (cpC_X0_settleCall_56 hp G M S hl hk (zr_k 0 (by decide) (by decide)) h)
    refine zv_icmp_ne (tgt := 44) G (hu6.i 46 _ (by decide)) (zc_lnr hu6 _) (by decide) dX0_settleCall_37 (fun c53 => ?_) (fun c53 => ?_)
    · refine zv_iconst (a := 0) G (by decide) dX0_settleCall_44 ?_
      exact kj52 _ (if_neg c53).symm
    · refine zv_iconst (a := 1) G (by decide) dX0_settleCall_40 ?_
      refine zv_goto (tgt := 45) G (by decide) dX0_settleCall_41 ?_
      exact kj52 _ (if_pos c53).symm
  refine zv_ifnull (tgt := 18) G (by decide) dX0_settleCall_11 (fun c57 => ?_) (fun c57 => ?_)
  · refine zv_iconst (a := 0) G (by decide) dX0_settleCall_18 ?_
    exact kj56 _ (if_neg (fun q => q c57)).symm
  · refine zv_iconst (a := 1) G (by decide) dX0_settleCall_14 ?_
    refine zv_goto (tgt := 19) G (by decide) dX0_settleCall_15 ?_
    exact kj56 _ (if_pos c57).symm
set_option maxHeartbeats 4000000 in
set_option maxRecDepth 100000 in
theorem cpC_X0_product_41 {Γ : ZG CW} {D : CD} {d p : Nat} (hp : D.K.1 = p) (G : ZOk Γ cX0_product RX0 6 (KnC D) (ZC D)) (M : ZRm Γ (d + 1) D.lim (Option.some Jvm.ClassFile.FieldType.int) "product" []) (S : SdC d D p Γ.l) (hl : Γ.l.stackTraces = false) (hk : 0 ≤ d) {x1 : Int} {w : CW} (rx1 : zr x1) (h : pC_X0_product_41 p (wpC p d) (fun v w => Γ.Q (.inl (some (ai v))) w) x1 w) : ZV Γ w 41 [(1, ai x1)] [] := by
  refine zc_wk G hp (fun hw tw => ?_)
  refine zv_iload_n G rfl rfl dX0_product_41 ?_
  exact zv_iret (ty := .int) rx1 G M rfl dX0_product_42 h
set_option maxHeartbeats 4000000 in
set_option maxRecDepth 100000 in
theorem cpC_X0_product_10 {Γ : ZG CW} {D : CD} {d p : Nat} (hp : D.K.1 = p) (G : ZOk Γ cX0_product RX0 6 (KnC D) (ZC D)) (M : ZRm Γ (d + 1) D.lim (Option.some Jvm.ClassFile.FieldType.int) "product" []) (S : SdC d D p Γ.l) (hl : Γ.l.stackTraces = false) (hk : 0 ≤ d) {x1 : Int} {x2 : Nat} {x3 : Int} {x4 : Int} {w : CW} (rx1 : zr x1) (rx3 : zr x3) (rx4 : zr x4) (h : pC_X0_product_10 p (wpC p d) (fun v w => Γ.Q (.inl (some (ai v))) w) x1 x2 x3 x4 w) : ZV Γ w 10 [(1, ai x1), (2, ar x2), (3, ai x3), (4, ai x4)] [] := by
  obtain ⟨I10, eI10⟩ : ∃ I : Int → Int → CW → Prop, I = (fun x1 x4 w => zr x1 → zr x4 → ZV Γ w 10 [(1, ai x1), (2, ar x2), (3, ai x3), (4, ai x4)] []) := ⟨_, rfl⟩
  have hI10 : ∀ (x1 : Int) (x4 : Int) (w : CW), I10 x1 x4 w → zr x1 → zr x4 → ZV Γ w 10 [(1, ai x1), (2, ar x2), (3, ai x3), (4, ai x4)] [] := by subst eI10; exact fun _ _ _ z => z
  have hJ10 : ∀ (x1 : Int) (x4 : Int) (w : CW), (zr x1 → zr x4 → ZV Γ w 10 [(1, ai x1), (2, ar x2), (3, ai x3), (4, ai x4)] []) → I10 x1 x4 w := by subst eI10; exact fun _ _ _ z => z
  refine hI10 x1 x4 w (h I10 (fun x1 x4 w h => hJ10 x1 x4 w (fun rx1 rx4 => ?_))) rx1 rx4
  refine zc_wk G hp (fun hw tw => ?_)
  refine zv_iload G rfl dX0_product_10 ?_
  refine zv_iload_n G rfl rfl dX0_product_12 ?_
  refine zv_icmp_ge (tgt := 41) G rx4 rx3 (by decide) dX0_product_13 (fun c3 => ?_) (fun c3 => ?_)
  · have h := h.1 c3
    exact zv_pick [1] rfl (cpC_X0_product_41 hp G M S hl hk rx1 h)
  · have h := h.2 c3
    refine zv_aload_n G rfl rfl dX0_product_16 ?_
    refine zv_iload G rfl dX0_product_17 ?_
    have o4 := h.1
    have h := h.2
    refine zc_aald G o4.1 rx4 o4.2.1 o4.2.2 dX0_product_19 ?_
    refine zv_astoreN G (by decide) dX0_product_20 (fun x5_5 ex5_5 => ?_)
    have h := h x5_5 ex5_5
    refine zv_bipush (a := 41) G (by decide) dX0_product_22 ?_
    refine zv_iload_n G rfl rfl dX0_product_24 ?_
    refine zv_aload G rfl dX0_product_25 ?_
    have kj10 : ∀ (v7 : Int) (u6 : CW), zr v7 → (
        ∀ x1_8 : Int, x1_8 = (if (w32 (x1 * v7)) < 41 then (w32 (x1 * v7)) else 41) →
        ∀ x4_9 : Int, x4_9 = w32 (x4 + 1) →
        I10 x1_8 x4_9 u6) → ZV Γ u6 30 [(5, ar x5_5), (1, ai x1), (2, ar x2), (3, ai x3), (4, ai x4)] [ai v7, ai x1, ai 41] := by
      intro v7 u6 rv7 h
      refine zc_wk G hp (fun hu6 tu6 => ?_)
      refine zv_imul G dX0_product_30 ?_
      refine zc_mmin G M q1086 q385 q153 q386 (zr_k 41 (by decide) (by decide)) (w32_r _) (Nat.le_of_ble_eq_true rfl) dX0_product_31 ?_
      refine zv_istore_nN G rfl (by decide) dX0_product_34 (fun x1_8 ex1_8 => ?_)
      have h := h x1_8 ex1_8
      have rx1_8 : zr x1_8 := by rw [ex1_8]; exact (zr_ite (w32_r _) (zr_k 41 (by decide) (by decide)))
      refine zv_iincN G rfl (by decide) dX0_product_35 (fun x4_9 ex4_9 => ?_)
      have h := h x4_9 ex4_9
      have rx4_9 : zr x4_9 := by rw [ex4_9]; exact w32_r _
      refine zv_goto (tgt := 10) G (by decide) dX0_product_38 ?_
      exact zv_pick [1, 2, 3, 4] rfl (hI10 _ _ _ h rx1_8 rx4_9)
    have h : wpC p d (vm0 (tg w x5_5)) [ar x5_5] w _ := h
    by_cases c11 : tg w x5_5 = 6
    · have e : vm0 (tg w x5_5) = 92 := by rw [c11]; rfl
      rw [e] at h
      exact zv_callI (as := [ar x5_5]) (st := [ai x1, ai 41]) G M (zc_eV (C := zcn 6) G q1068 q1069 q1071 (Or.inl ⟨rfl, rfl⟩) q1085 md_X6_ways (zc_rc G (zne tw c11 (by decide)) c11 (by decide) (by decide) rfl) rfl dX0_product_27) (S 92 _ rfl _ _ _ h (zoks_cons trivial zoks_nil)) (Or.inl ⟨rfl, rfl⟩) (zc_hk q1085 q162) (by decide) (Nat.le_of_ble_eq_true rfl) kj10 (fun _ _ h => h.elim)
    by_cases c12 : tg w x5_5 = 7
    · have e : vm0 (tg w x5_5) = 92 := by rw [c12]; rfl
      rw [e] at h
      exact zv_callI (as := [ar x5_5]) (st := [ai x1, ai 41]) G M (zc_eV (C := zcn 7) G q1068 q1069 q1082 (Or.inl ⟨rfl, rfl⟩) q1085 md_X6_ways (zc_rc G (zne tw c12 (by decide)) c12 (by decide) (by decide) rfl) rfl dX0_product_27) (S 92 _ rfl _ _ _ h (zoks_cons trivial zoks_nil)) (Or.inl ⟨rfl, rfl⟩) (zc_hk q1085 q162) (by decide) (Nat.le_of_ble_eq_true rfl) kj10 (fun _ _ h => h.elim)
    by_cases c13 : tg w x5_5 = 8
    · have e : vm0 (tg w x5_5) = 103 := by rw [c13]; rfl
      rw [e] at h
      exact zv_callI (as := [ar x5_5]) (st := [ai x1, ai 41]) G M (zc_eU (C := zcn 8) G q1068 q1070 (zc_declC G q1069 q1085) ⟨by decide, by decide⟩ q1080 q1076 md_X6_ways (zc_rc G (zne tw c13 (by decide)) c13 (by decide) (by decide) rfl) rfl dX0_product_27) (S 103 _ rfl _ _ _ h (zoks_cons trivial zoks_nil)) (Or.inl ⟨rfl, rfl⟩) (zc_hk q1077 q166) (by decide) (Nat.le_of_ble_eq_true rfl) kj10 (fun _ _ h => h.elim)
    by_cases c14 : tg w x5_5 = 9
    · have e : vm0 (tg w x5_5) = 108 := by rw [c14]; rfl
      rw [e] at h
      exact zv_callI (as := [ar x5_5]) (st := [ai x1, ai 41]) G M (zc_eU (C := zcn 9) G q1068 q1070 (zc_declC G q1069 q1085) ⟨by decide, by decide⟩ q1072 q1073 md_X6_ways (zc_rc G (zne tw c14 (by decide)) c14 (by decide) (by decide) rfl) rfl dX0_product_27) (S 108 _ rfl _ _ _ h (zoks_cons trivial zoks_nil)) (Or.inl ⟨rfl, rfl⟩) (zc_hk q1074 q167) (by decide) (Nat.le_of_ble_eq_true rfl) kj10 (fun _ _ h => h.elim)
    by_cases c15 : tg w x5_5 = 10
    · have e : vm0 (tg w x5_5) = 92 := by rw [c15]; rfl
      rw [e] at h
      exact zv_callI (as := [ar x5_5]) (st := [ai x1, ai 41]) G M (zc_eV (C := zcn 10) G q1068 q1069 q1084 (Or.inl ⟨rfl, rfl⟩) q1085 md_X6_ways (zc_rc G (zne tw c15 (by decide)) c15 (by decide) (by decide) rfl) rfl dX0_product_27) (S 92 _ rfl _ _ _ h (zoks_cons trivial zoks_nil)) (Or.inl ⟨rfl, rfl⟩) (zc_hk q1085 q162) (by decide) (Nat.le_of_ble_eq_true rfl) kj10 (fun _ _ h => h.elim)
    by_cases c16 : tg w x5_5 = 11
    · have e : vm0 (tg w x5_5) = 92 := by rw [c16]; rfl
      rw [e] at h
      exact zv_callI (as := [ar x5_5]) (st := [ai x1, ai 41]) G M (zc_eV (C := zcn 11) G q1068 q1069 q1083 (Or.inl ⟨rfl, rfl⟩) q1085 md_X6_ways (zc_rc G (zne tw c16 (by decide)) c16 (by decide) (by decide) rfl) rfl dX0_product_27) (S 92 _ rfl _ _ _ h (zoks_cons trivial zoks_nil)) (Or.inl ⟨rfl, rfl⟩) (zc_hk q1085 q162) (by decide) (Nat.le_of_ble_eq_true rfl) kj10 (fun _ _ h => h.elim)
    by_cases c17 : tg w x5_5 = 12
    · have e : vm0 (tg w x5_5) = 92 := by rw [c17]; rfl
      rw [e] at h
      exact zv_callI (as := [ar x5_5]) (st := [ai x1, ai 41]) G M (zc_eV (C := zcn 12) G q1068 q1069 q1081 (Or.inl ⟨rfl, rfl⟩) q1085 md_X6_ways (zc_rc G (zne tw c17 (by decide)) c17 (by decide) (by decide) rfl) rfl dX0_product_27) (S 92 _ rfl _ _ _ h (zoks_cons trivial zoks_nil)) (Or.inl ⟨rfl, rfl⟩) (zc_hk q1085 q162) (by decide) (Nat.le_of_ble_eq_true rfl) kj10 (fun _ _ h => h.elim)
    have e : vm0 (tg w x5_5) = 9999 := by unfold vm0; rw [if_neg c11, if_neg c12, if_neg c13, if_neg c14, if_neg c15, if_neg c16, if_neg c17]
    rw [e] at h
    exact (wpC_none h).elim
set_option maxHeartbeats 4000000 in
set_option maxRecDepth 100000 in
theorem cpC_X0_product_0 {Γ : ZG CW} {D : CD} {d p : Nat} (hp : D.K.1 = p) (G : ZOk Γ cX0_product RX0 6 (KnC D) (ZC D)) (M : ZRm Γ (d + 1) D.lim (Option.some Jvm.ClassFile.FieldType.int) "product" []) (S : SdC d D p Γ.l) (hl : Γ.l.stackTraces = false) (hk : 0 ≤ d) {x0 : Nat} {w : CW} (h : pC_X0_product_0 p (wpC p d) (fun v w => Γ.Q (.inl (some (ai v))) w) x0 w) : ZV Γ w 0 [(0, ar x0)] [] := by
  refine zc_wk G hp (fun hw tw => ?_)
  refine zv_iconst (a := 1) G (by decide) dX0_product_0 ?_
  refine zv_istore_n G rfl (by decide) rfl dX0_product_1 ?_
  refine zv_aload_n G rfl rfl dX0_product_2 ?_
  refine zv_astore_n G rfl (by decide) rfl dX0_product_3 ?_
  refine zv_aload_n G rfl rfl dX0_product_4 ?_
  have o1 := h.1
  have h := h.2
  refine zc_alen G o1 dX0_product_5 ?_
  refine zv_istore_nN G rfl (by decide) dX0_product_6 (fun x3_2 ex3_2 => ?_)
  have h := h x3_2 ex3_2
  have rx3_2 : zr x3_2 := by rw [ex3_2]; exact (zc_lnr hw _)
  refine zv_iconst (a := 0) G (by decide) dX0_product_7 ?_
  refine zv_istore G (by decide) rfl dX0_product_8 ?_
  exact zv_pick [1, 2, 3, 4] rfl (cpC_X0_product_10 hp G M S hl hk (zr_k 1 (by decide) (by decide)) rx3_2 (zr_k 0 (by decide) (by decide)) h)
set_option maxHeartbeats 4000000 in
set_option maxRecDepth 100000 in
theorem cpC_X0_clear_46 {Γ : ZG CW} {D : CD} {d p : Nat} (hp : D.K.1 = p) (G : ZOk Γ cX0_clear RX0 2 (KnC D) (ZC D)) (M : ZRm Γ (d + 1) D.lim (Option.none : Option Jvm.ClassFile.FieldType) "clear" []) (S : SdC d D p Γ.l) (hl : Γ.l.stackTraces = false) (hk : 0 ≤ d) {w : CW} (h : pC_X0_clear_46 p (wpC p d) (fun w => Γ.Q (.inl none) w) w) : ZV Γ w 46 [(0, ar p)] [] := by
  refine zc_wk G hp (fun hw tw => ?_)
  refine zv_aload_n G rfl rfl dX0_clear_46 ?_
  refine zv_iconst (a := 0) G (by decide) dX0_clear_47 ?_
  refine zc_putI (f := 1) G M (hPp tw rfl) rfl q2055 (Or.inl rfl) (Or.inl rfl) (zfty_1) rfl rfl (by decide) (by decide) (zr_k 0 (by decide) (by decide)) dX0_clear_48 (fun u3 eu3 => ?_)
  have h := h u3 eu3
  refine zc_wk G hp (fun hu3 tu3 => ?_)
  refine zv_aload_n G rfl rfl dX0_clear_51 ?_
  refine zv_iconst (a := 0) G (by decide) dX0_clear_52 ?_
  refine zc_putI (f := 6) G M (hPp tu3 rfl) rfl q2062 (Or.inl rfl) (Or.inl rfl) (zfty_6) rfl rfl (by decide) (by decide) (zr_k 0 (by decide) (by decide)) dX0_clear_53 (fun u4 eu4 => ?_)
  have h := h u4 eu4
  refine zc_wk G hp (fun hu4 tu4 => ?_)
  exact zv_vret G M dX0_clear_56 h
set_option maxHeartbeats 4000000 in
set_option maxRecDepth 100000 in
theorem cpC_X0_clear_25 {Γ : ZG CW} {D : CD} {d p : Nat} (hp : D.K.1 = p) (G : ZOk Γ cX0_clear RX0 2 (KnC D) (ZC D)) (M : ZRm Γ (d + 1) D.lim (Option.none : Option Jvm.ClassFile.FieldType) "clear" []) (S : SdC d D p Γ.l) (hl : Γ.l.stackTraces = false) (hk : 0 ≤ d) {x1 : Int} {w : CW} (rx1 : zr x1) (h : pC_X0_clear_25 p (wpC p d) (fun w => Γ.Q (.inl none) w) x1 w) : ZV Γ w 25 [(0, ar p), (1, ai x1)] [] := by
  obtain ⟨I25, eI25⟩ : ∃ I : Int → CW → Prop, I = (fun x1 w => zr x1 → ZV Γ w 25 [(0, ar p), (1, ai x1)] []) := ⟨_, rfl⟩
  have hI25 : ∀ (x1 : Int) (w : CW), I25 x1 w → zr x1 → ZV Γ w 25 [(0, ar p), (1, ai x1)] [] := by subst eI25; exact fun _ _ z => z
  have hJ25 : ∀ (x1 : Int) (w : CW), (zr x1 → ZV Γ w 25 [(0, ar p), (1, ai x1)] []) → I25 x1 w := by subst eI25; exact fun _ _ z => z
  refine hI25 x1 w (h I25 (fun x1 w h => hJ25 x1 w (fun rx1 => ?_))) rx1
  refine zc_wk G hp (fun hw tw => ?_)
  refine zv_iload_n G rfl rfl dX0_clear_25 ?_
  refine zv_aload_n G rfl rfl dX0_clear_26 ?_
  refine zc_get (f := 6) (v := ai (fI w 6 p)) G (hFp tw rfl) rfl q2062 (Or.inl rfl) (cV_I (by decide) (by decide)) dX0_clear_27 ?_
  refine zv_icmp_ge (tgt := 46) G rx1 (hw.i 6 _ (by decide)) (by decide) dX0_clear_30 (fun c2 => ?_) (fun c2 => ?_)
  · have h := h.1 c2
    exact zv_pick [0] rfl (cpC_X0_clear_46 hp G M S hl hk h)
  · have h := h.2 c2
    refine zv_aload_n G rfl rfl dX0_clear_33 ?_
    refine zc_get (f := 5) (v := ar (fR w 5 p)) G (hFp tw rfl) rfl q2061 (Or.inl rfl) (cV_R rfl) dX0_clear_34 ?_
    refine zv_iload_n G rfl rfl dX0_clear_37 ?_
    refine zv_null G dX0_clear_38 ?_
    have o6 := h.1
    have h := h.2
    refine zc_aast G o6.1 (Or.inl rfl) rx1 o6.2.1 o6.2.2 dX0_clear_39 (fun u5 eu5 => ?_)
    have h := h u5 eu5
    refine zc_wk G hp (fun hu5 tu5 => ?_)
    refine zv_iincN G rfl (by decide) dX0_clear_40 (fun x1_7 ex1_7 => ?_)
    have h := h x1_7 ex1_7
    have rx1_7 : zr x1_7 := by rw [ex1_7]; exact w32_r _
    refine zv_goto (tgt := 25) G (by decide) dX0_clear_43 ?_
    exact zv_pick [0, 1] rfl (hI25 _ _ h rx1_7)
set_option maxHeartbeats 4000000 in
set_option maxRecDepth 100000 in
theorem cpC_X0_clear_23 {Γ : ZG CW} {D : CD} {d p : Nat} (hp : D.K.1 = p) (G : ZOk Γ cX0_clear RX0 2 (KnC D) (ZC D)) (M : ZRm Γ (d + 1) D.lim (Option.none : Option Jvm.ClassFile.FieldType) "clear" []) (S : SdC d D p Γ.l) (hl : Γ.l.stackTraces = false) (hk : 0 ≤ d) {w : CW} (h : pC_X0_clear_23 p (wpC p d) (fun w => Γ.Q (.inl none) w) w) : ZV Γ w 23 [(0, ar p)] [] := by
  refine zc_wk G hp (fun hw tw => ?_)
  refine zv_iconst (a := 0) G (by decide) dX0_clear_23 ?_
  refine zv_istore_n G rfl (by decide) rfl dX0_clear_24 ?_
  exact zv_pick [0, 1] rfl (cpC_X0_clear_25 hp G M S hl hk (zr_k 0 (by decide) (by decide)) h)
set_option maxHeartbeats 4000000 in
set_option maxRecDepth 100000 in
theorem cpC_X0_clear_2 {Γ : ZG CW} {D : CD} {d p : Nat} (hp : D.K.1 = p) (G : ZOk Γ cX0_clear RX0 2 (KnC D) (ZC D)) (M : ZRm Γ (d + 1) D.lim (Option.none : Option Jvm.ClassFile.FieldType) "clear" []) (S : SdC d D p Γ.l) (hl : Γ.l.stackTraces = false) (hk : 0 ≤ d) {x1 : Int} {w : CW} (rx1 : zr x1) (h : pC_X0_clear_2 p (wpC p d) (fun w => Γ.Q (.inl none) w) x1 w) : ZV Γ w 2 [(0, ar p), (1, ai x1)] [] := by
  obtain ⟨I2, eI2⟩ : ∃ I : Int → CW → Prop, I = (fun x1 w => zr x1 → ZV Γ w 2 [(0, ar p), (1, ai x1)] []) := ⟨_, rfl⟩
  have hI2 : ∀ (x1 : Int) (w : CW), I2 x1 w → zr x1 → ZV Γ w 2 [(0, ar p), (1, ai x1)] [] := by subst eI2; exact fun _ _ z => z
  have hJ2 : ∀ (x1 : Int) (w : CW), (zr x1 → ZV Γ w 2 [(0, ar p), (1, ai x1)] []) → I2 x1 w := by subst eI2; exact fun _ _ z => z
  refine hI2 x1 w (h I2 (fun x1 w h => hJ2 x1 w (fun rx1 => ?_))) rx1
  refine zc_wk G hp (fun hw tw => ?_)
  refine zv_iload_n G rfl rfl dX0_clear_2 ?_
  refine zv_aload_n G rfl rfl dX0_clear_3 ?_
  refine zc_get (f := 1) (v := ai (fI w 1 p)) G (hFp tw rfl) rfl q2055 (Or.inl rfl) (cV_I (by decide) (by decide)) dX0_clear_4 ?_
  refine zv_icmp_ge (tgt := 23) G rx1 (hw.i 1 _ (by decide)) (by decide) dX0_clear_7 (fun c1 => ?_) (fun c1 => ?_)
  · have h := h.1 c1
    exact zv_pick [0] rfl (cpC_X0_clear_23 hp G M S hl hk h)
  · have h := h.2 c1
    refine zv_aload_n G rfl rfl dX0_clear_10 ?_
    refine zc_get (f := 0) (v := ar (fR w 0 p)) G (hFp tw rfl) rfl q2053 (Or.inl rfl) (cV_R rfl) dX0_clear_11 ?_
    refine zv_iload_n G rfl rfl dX0_clear_14 ?_
    refine zv_null G dX0_clear_15 ?_
    have o9 := h.1
    have h := h.2
    refine zc_aast G o9.1 (Or.inl rfl) rx1 o9.2.1 o9.2.2 dX0_clear_16 (fun u8 eu8 => ?_)
    have h := h u8 eu8
    refine zc_wk G hp (fun hu8 tu8 => ?_)
    refine zv_iincN G rfl (by decide) dX0_clear_17 (fun x1_10 ex1_10 => ?_)
    have h := h x1_10 ex1_10
    have rx1_10 : zr x1_10 := by rw [ex1_10]; exact w32_r _
    refine zv_goto (tgt := 2) G (by decide) dX0_clear_20 ?_
    exact zv_pick [0, 1] rfl (hI2 _ _ h rx1_10)
set_option maxHeartbeats 4000000 in
set_option maxRecDepth 100000 in
theorem cpC_X0_clear_0 {Γ : ZG CW} {D : CD} {d p : Nat} (hp : D.K.1 = p) (G : ZOk Γ cX0_clear RX0 2 (KnC D) (ZC D)) (M : ZRm Γ (d + 1) D.lim (Option.none : Option Jvm.ClassFile.FieldType) "clear" []) (S : SdC d D p Γ.l) (hl : Γ.l.stackTraces = false) (hk : 0 ≤ d) {w : CW} (h : pC_X0_clear_0 p (wpC p d) (fun w => Γ.Q (.inl none) w) w) : ZV Γ w 0 [(0, ar p)] [] := by
  refine zc_wk G hp (fun hw tw => ?_)
  refine zv_iconst (a := 0) G (by decide) dX0_clear_0 ?_
  refine zv_istore_n G rfl (by decide) rfl dX0_clear_1 ?_
  exact zv_pick [0, 1] rfl (cpC_X0_clear_2 hp G M S hl hk (zr_k 0 (by decide) (by decide)) h)
set_option maxHeartbeats 4000000 in
set_option maxRecDepth 100000 in
theorem cpC_X0_fault_0 {Γ : ZG CW} {D : CD} {d p : Nat} (hp : D.K.1 = p) (G : ZOk Γ cX0_fault RX0 1 (KnC D) (ZC D)) (M : ZRm Γ (d + 1) D.lim (Option.some Jvm.ClassFile.FieldType.int) "fault" []) (S : SdC d D p Γ.l) (hl : Γ.l.stackTraces = false) (hk : 0 ≤ d) {w : CW} (h : pC_X0_fault_0 p (wpC p d) (fun v w => Γ.Q (.inl (some (ai v))) w) w) : ZV Γ w 0 [(0, ar p)] [] := by
  refine zc_wk G hp (fun hw tw => ?_)
  refine zv_aload_n G rfl rfl dX0_fault_0 ?_
  refine zc_get (f := 21) (v := ai (fI w 21 p)) G (hFp tw rfl) rfl q2077 (Or.inl rfl) (cV_I (by decide) (by decide)) dX0_fault_1 ?_
  exact zv_iret (ty := .int) (hw.i 21 _ (by decide)) G M rfl dX0_fault_4 h
set_option maxHeartbeats 4000000 in
set_option maxRecDepth 100000 in
theorem cpC_X0_add_101 {Γ : ZG CW} {D : CD} {d p : Nat} (hp : D.K.1 = p) (G : ZOk Γ cX0_add RX0 4 (KnC D) (ZC D)) (M : ZRm Γ (d + 1) D.lim (Option.some Jvm.ClassFile.FieldType.int) "add" [(20, 76, 79, 61)]) (S : SdC d D p Γ.l) (hl : Γ.l.stackTraces = false) (hk : 0 ≤ d) {x2 : Int} {w : CW} (rx2 : zr x2) (h : pC_X0_add_101 p (wpC p d) (fun v w => Γ.Q (.inl (some (ai v))) w) x2 w) : ZV Γ w 101 [(0, ar p), (2, ai x2)] [] := by
  refine zc_wk G hp (fun hw tw => ?_)
  refine zv_aload_n G rfl rfl dX0_add_101 ?_
  refine zv_iconst (a := 0) G (by decide) dX0_add_102 ?_
  refine zc_putI (f := 8) G M (hPp tw rfl) rfl q2064 (Or.inl rfl) (Or.inl rfl) (zfty_8) rfl rfl (by decide) (by decide) (zr_k 0 (by decide) (by decide)) dX0_add_103 (fun u20 eu20 => ?_)
  have h := h u20 eu20
  refine zc_wk G hp (fun hu20 tu20 => ?_)
  refine zv_iload_n G rfl rfl dX0_add_106 ?_
  exact zv_iret (ty := .int) rx2 G M rfl dX0_add_107 h
set_option maxHeartbeats 4000000 in
set_option maxRecDepth 100000 in
theorem cpC_X0_add_79 {Γ : ZG CW} {D : CD} {d p : Nat} (hp : D.K.1 = p) (G : ZOk Γ cX0_add RX0 4 (KnC D) (ZC D)) (M : ZRm Γ (d + 1) D.lim (Option.some Jvm.ClassFile.FieldType.int) "add" [(20, 76, 79, 61)]) (S : SdC d D p Γ.l) (hl : Γ.l.stackTraces = false) (hk : 0 ≤ d) {x1 : Int} {s0 : Nat} {w : CW} (rx1 : zr x1) (h : pC_X0_add_79 p (wpC p d) (fun v w => Γ.Q (.inl (some (ai v))) w) x1 s0 w) : ZV Γ w 79 [(0, ar p), (1, ai x1)] [ar s0] := by
  refine zc_wk G hp (fun hw tw => ?_)
  refine zv_astore_n G rfl (by decide) rfl dX0_add_79 ?_
  refine zv_aload_n G rfl rfl dX0_add_80 ?_
  refine zv_aload_n G rfl rfl dX0_add_81 ?_
  have o23 := h.1
  have h := h.2
  refine zc_get (f := 35) (v := ai (fI w 35 s0)) G o23 rfl q289 (Or.inl rfl) (cV_I (by decide) (by decide)) dX0_add_82 ?_
  refine zc_putI (f := 21) G M (hPp tw rfl) rfl q2077 (Or.inl rfl) (Or.inl rfl) (zfty_21) rfl rfl (by decide) (by decide) (hw.i 35 _ (by decide)) dX0_add_85 (fun u24 eu24 => ?_)
  have h := h u24 eu24
  refine zc_wk G hp (fun hu24 tu24 => ?_)
  refine zv_aload_n G rfl rfl dX0_add_88 ?_
  refine zv_iload_n G rfl rfl dX0_add_89 ?_
  refine zc_putI (f := 1) G M (hPp tu24 rfl) rfl q2055 (Or.inl rfl) (Or.inl rfl) (zfty_1) rfl rfl (by decide) (by decide) rx1 dX0_add_90 (fun u25 eu25 => ?_)
  have h := h u25 eu25
  refine zc_wk G hp (fun hu25 tu25 => ?_)
  refine zv_bipush (a := (-10)) G (by decide) dX0_add_93 ?_
  refine zv_aload_n G rfl rfl dX0_add_95 ?_
  have o26 := h.1
  have h := h.2
  refine zc_get (f := 36) (v := ai (fI u25 36 s0)) G o26 rfl q291 (Or.inl rfl) (cV_I (by decide) (by decide)) dX0_add_96 ?_
  refine zv_isub G dX0_add_99 ?_
  refine zv_istore_nN G rfl (by decide) dX0_add_100 (fun x2_27 ex2_27 => ?_)
  have h := h x2_27 ex2_27
  have rx2_27 : zr x2_27 := by rw [ex2_27]; exact (w32_r _)
  exact zv_pick [0, 2] rfl (cpC_X0_add_101 hp G M S hl hk rx2_27 h)
set_option maxHeartbeats 4000000 in
set_option maxRecDepth 100000 in
theorem cpC_X0_add_0 {Γ : ZG CW} {D : CD} {d p : Nat} (hp : D.K.1 = p) (G : ZOk Γ cX0_add RX0 4 (KnC D) (ZC D)) (M : ZRm Γ (d + 1) D.lim (Option.some Jvm.ClassFile.FieldType.int) "add" [(20, 76, 79, 61)]) (S : SdC d D p Γ.l) (hl : Γ.l.stackTraces = false) (hk : 0 ≤ d) {w : CW} (h : pC_X0_add_0 p (wpC p d) (fun v w => Γ.Q (.inl (some (ai v))) w) w) : ZV Γ w 0 [(0, ar p)] [] := by
  refine zc_wk G hp (fun hw tw => ?_)
  refine zv_aload_n G rfl rfl dX0_add_0 ?_
  refine zc_get (f := 22) (v := ai (fI w 22 p)) G (hFp tw rfl) rfl q2078 (Or.inl rfl) (cV_I (by decide) (by decide)) dX0_add_1 ?_
  refine zv_if_ne (tgt := 10) G (hw.i 22 _ (by decide)) (by decide) dX0_add_4 (fun c1 => ?_) (fun c1 => ?_)
  · have h := h.2 c1
    refine zv_aload_n G rfl rfl dX0_add_10 ?_
    refine zv_iconst (a := 0) G (by decide) dX0_add_11 ?_
    refine zc_putI (f := 21) G M (hPp tw rfl) rfl q2077 (Or.inl rfl) (Or.inl rfl) (zfty_21) rfl rfl (by decide) (by decide) (zr_k 0 (by decide) (by decide)) dX0_add_12 (fun u2 eu2 => ?_)
    have h := h u2 eu2
    refine zc_wk G hp (fun hu2 tu2 => ?_)
    refine zv_aload_n G rfl rfl dX0_add_15 ?_
    refine zc_get (f := 1) (v := ai (fI u2 1 p)) G (hFp tu2 rfl) rfl q2055 (Or.inl rfl) (cV_I (by decide) (by decide)) dX0_add_16 ?_
    refine zv_istore_nN G rfl (by decide) dX0_add_19 (fun x1_3 ex1_3 => ?_)
    have h := h x1_3 ex1_3
    have rx1_3 : zr x1_3 := by rw [ex1_3]; exact (hu2.i 1 _ (by decide))
    refine zv_aload_n G rfl rfl dX0_add_20 ?_
    refine zv_callV (as := [ar p]) (st := []) G M (zc_eV (C := zcn 1) G q208 q210 qs0 (Or.inl ⟨rfl, rfl⟩) q212 md_X0_begin (zc_rc G (zne tu2 tu2.1 (by decide)) tu2.1 (by decide) (by decide) rfl) rfl dX0_add_21) (S 3 _ rfl _ _ _ h (zoks_cons trivial zoks_nil)) (Or.inl ⟨rfl, rfl⟩) (zc_hk q212 q143) (by decide) (Nat.le_of_ble_eq_true rfl) (fun u4 h => ?_) (fun x38 u39 h => ?_)
    rotate_left
    · have ht := h.1
      have h := h.2
      refine zx_catch G M (by rw [ht]; decide) (by rw [ht]; decide) (by rw [ht]; rfl) q206 (by decide) (by decide) ?_
      refine zc_wk G hp (fun hu39 tu39 => ?_)
      exact zv_pick [0, 1] rfl (cpC_X0_add_79 hp G M S hl hk rx1_3 h)
    refine zc_wk G hp (fun hu4 tu4 => ?_)
    refine zv_aload_n G rfl rfl dX0_add_24 ?_
    refine zv_aload_n G rfl rfl dX0_add_25 ?_
    refine zc_ldcsw (k := 3) G rfl dX0_add_26 ?_
    refine zv_callI (as := [ar p, ar (sr u4 3)]) (st := [ar p]) G M (zc_eV (C := zcn 1) G q647 q649 qs8 (Or.inl ⟨rfl, rfl⟩) q650 md_X0_isWord (zc_rc G (zne tu4 tu4.1 (by decide)) tu4.1 (by decide) (by decide) rfl) rfl dX0_add_29) (S 12 _ rfl _ _ _ h (zoks_cons trivial (zoks_cons trivial zoks_nil))) (Or.inl ⟨rfl, rfl⟩) (zc_hk q650 q143) (by decide) (Nat.le_of_ble_eq_true rfl) (fun v7 u6 rv7 h => ?_) (fun _ _ h => h.elim)
    refine zc_wk G hp (fun hu6 tu6 => ?_)
    refine zv_callV (as := [ar p, ai v7]) (st := []) G M (zc_eV (C := zcn 1) G q667 q669 qs10 (Or.inl ⟨rfl, rfl⟩) q670 md_X0_want (zc_rc G (zne tu6 tu6.1 (by decide)) tu6.1 (by decide) (by decide) rfl) rfl dX0_add_32) (S 14 _ rfl _ _ _ h (zoks_cons trivial (zoks_cons rv7 zoks_nil))) (Or.inl ⟨rfl, rfl⟩) (zc_hk q670 q143) (by decide) (Nat.le_of_ble_eq_true rfl) (fun u8 h => ?_) (fun x36 u37 h => ?_)
    rotate_left
    · have ht := h.1
      have h := h.2
      refine zx_catch G M (by rw [ht]; decide) (by rw [ht]; decide) (by rw [ht]; rfl) q206 (by decide) (by decide) ?_
      refine zc_wk G hp (fun hu37 tu37 => ?_)
      exact zv_pick [0, 1] rfl (cpC_X0_add_79 hp G M S hl hk rx1_3 h)
    refine zc_wk G hp (fun hu8 tu8 => ?_)
    refine zv_aload_n G rfl rfl dX0_add_35 ?_
    refine zv_callV (as := [ar p]) (st := []) G M (zc_eV (C := zcn 1) G q213 q215 qs1 (Or.inl ⟨rfl, rfl⟩) q216 md_X0_next (zc_rc G (zne tu8 tu8.1 (by decide)) tu8.1 (by decide) (by decide) rfl) rfl dX0_add_36) (S 4 _ rfl _ _ _ h (zoks_cons trivial zoks_nil)) (Or.inl ⟨rfl, rfl⟩) (zc_hk q216 q143) (by decide) (Nat.le_of_ble_eq_true rfl) (fun u10 h => ?_) (fun x34 u35 h => ?_)
    rotate_left
    · have ht := h.1
      have h := h.2
      refine zx_catch G M (by rw [ht]; decide) (by rw [ht]; decide) (by rw [ht]; rfl) q206 (by decide) (by decide) ?_
      refine zc_wk G hp (fun hu35 tu35 => ?_)
      exact zv_pick [0, 1] rfl (cpC_X0_add_79 hp G M S hl hk rx1_3 h)
    refine zc_wk G hp (fun hu10 tu10 => ?_)
    refine zv_aload_n G rfl rfl dX0_add_39 ?_
    refine zv_iconst (a := 1) G (by decide) dX0_add_40 ?_
    refine zv_callV (as := [ar p, ai 1]) (st := []) G M (zc_eV (C := zcn 1) G q663 q665 qs9 (Or.inl ⟨rfl, rfl⟩) q666 md_X0_readKind (zc_rc G (zne tu10 tu10.1 (by decide)) tu10.1 (by decide) (by decide) rfl) rfl dX0_add_41) (S 13 _ rfl _ _ _ h (zoks_cons trivial (zoks_cons (zr_k 1 (by decide) (by decide)) zoks_nil))) (Or.inl ⟨rfl, rfl⟩) (zc_hk q666 q143) (by decide) (Nat.le_of_ble_eq_true rfl) (fun u12 h => ?_) (fun x32 u33 h => ?_)
    rotate_left
    · have ht := h.1
      have h := h.2
      refine zx_catch G M (by rw [ht]; decide) (by rw [ht]; decide) (by rw [ht]; rfl) q206 (by decide) (by decide) ?_
      refine zc_wk G hp (fun hu33 tu33 => ?_)
      exact zv_pick [0, 1] rfl (cpC_X0_add_79 hp G M S hl hk rx1_3 h)
    refine zc_wk G hp (fun hu12 tu12 => ?_)
    refine zv_aload_n G rfl rfl dX0_add_44 ?_
    refine zv_callV (as := [ar p]) (st := []) G M (zc_eV (C := zcn 1) G q213 q215 qs1 (Or.inl ⟨rfl, rfl⟩) q216 md_X0_next (zc_rc G (zne tu12 tu12.1 (by decide)) tu12.1 (by decide) (by decide) rfl) rfl dX0_add_45) (S 4 _ rfl _ _ _ h (zoks_cons trivial zoks_nil)) (Or.inl ⟨rfl, rfl⟩) (zc_hk q216 q143) (by decide) (Nat.le_of_ble_eq_true rfl) (fun u14 h => ?_) (fun x30 u31 h => ?_)
    rotate_left
    · have ht := h.1
      have h := h.2
      refine zx_catch G M (by rw [ht]; decide) (by rw [ht]; decide) (by rw [ht]; rfl) q206 (by decide) (by decide) ?_
      refine zc_wk G hp (fun hu31 tu31 => ?_)
      exact zv_pick [0, 1] rfl (cpC_X0_add_79 hp G M S hl hk rx1_3 h)
    refine zc_wk G hp (fun hu14 tu14 => ?_)
    refine zv_aload_n G rfl rfl dX0_add_48 ?_
    refine zv_aload_n G rfl rfl dX0_add_49 ?_
    refine zc_get (f := 10) (v := ai (fI u14 10 p)) G (hFp tu14 rfl) rfl q2066 (Or.inl rfl) (cV_I (by decide) (by decide)) dX0_add_50 ?_
    have kj28 : ∀ v16 : Int, v16 = (if (fI u14 10 p) = 0 then 1 else 0) → ZV Γ u14 61 [(1, ai x1_3), (0, ar p)] (ai v16 :: ar p :: []) := by
      intro v16 ev16
      have h := h v16 ev16
      have rv16 : zr v16 := by rw [ev16]; exact (zr_ite (zr_k 1 (by decide) (by decide)) (zr_k 0 (by decide) (by decide)))
      have bv16 : v16 = 0 ∨ v16 = 1 := by rw [ev16]; exact (zb_ite (Or.inr rfl) (Or.inl rfl))
      refine zv_callV (as := [ar p, ai v16]) (st := []) G M (zc_eV (C := zcn 1) G q667 q669 qs10 (Or.inl ⟨rfl, rfl⟩) q670 md_X0_want (zc_rc G (zne tu14 tu14.1 (by decide)) tu14.1 (by decide) (by decide) rfl) rfl dX0_add_61) (S 14 _ rfl _ _ _ h (zoks_cons trivial (zoks_cons rv16 zoks_nil))) (Or.inl ⟨rfl, rfl⟩) (zc_hk q670 q143) (by decide) (Nat.le_of_ble_eq_true rfl) (fun u17 h => ?_) (fun x21 u22 h => ?_)
      rotate_left
      · have ht := h.1
        have h := h.2
        refine zx_catch G M (by rw [ht]; decide) (by rw [ht]; decide) (by rw [ht]; rfl) q206 (by decide) (by decide) ?_
        refine zc_wk G hp (fun hu22 tu22 => ?_)
        exact zv_pick [0, 1] rfl (cpC_X0_add_79 hp G M S hl hk rx1_3 h)
      refine zc_wk G hp (fun hu17 tu17 => ?_)
      refine zv_aload_n G rfl rfl dX0_add_64 ?_
      refine zv_dup G rfl dX0_add_65 ?_
      refine zc_get (f := 2) (v := ai (fI u17 2 p)) G (hFp tu17 rfl) rfl q2058 (Or.inl rfl) (cV_I (by decide) (by decide)) dX0_add_66 ?_
      refine zv_iconst (a := 1) G (by decide) dX0_add_69 ?_
      refine zv_iadd G dX0_add_70 ?_
      refine zc_putI (f := 2) G M (hPp tu17 rfl) rfl q2058 (Or.inl rfl) (Or.inl rfl) (zfty_2) rfl rfl (by decide) (by decide) (w32_r _) dX0_add_71 (fun u19 eu19 => ?_)
      have h := h u19 eu19
      refine zc_wk G hp (fun hu19 tu19 => ?_)
      refine zv_iload_n G rfl rfl dX0_add_74 ?_
      refine zv_istore_n G rfl (by decide) rfl dX0_add_75 ?_
      refine zv_goto (tgt := 101) G (by decide) dX0_add_76 ?_
      exact zv_pick [0, 2] rfl (cpC_X0_add_101 hp G M S hl hk rx1_3 h)
    refine zv_if_ne (tgt := 60) G (hu14.i 10 _ (by decide)) (by decide) dX0_add_53 (fun c29 => ?_) (fun c29 => ?_)
    · refine zv_iconst (a := 0) G (by decide) dX0_add_60 ?_
      exact kj28 _ (if_neg c29).symm
    · refine zv_iconst (a := 1) G (by decide) dX0_add_56 ?_
      refine zv_goto (tgt := 61) G (by decide) dX0_add_57 ?_
      exact kj28 _ (if_pos c29).symm
  · have h := h.1 c1
    refine zv_bipush (a := (-2)) G (by decide) dX0_add_7 ?_
    exact zv_iret (ty := .int) (zr_k (-2) (by decide) (by decide)) G M rfl dX0_add_9 h
set_option maxHeartbeats 4000000 in
set_option maxRecDepth 100000 in
theorem cpC_X0_remake_20 {Γ : ZG CW} {D : CD} {d p : Nat} (hp : D.K.1 = p) (G : ZOk Γ cX0_remake RX0 5 (KnC D) (ZC D)) (M : ZRm Γ (d + 1) D.lim (Option.some Jvm.ClassFile.FieldType.int) "remake" [(29, 41, 42, 443)]) (S : SdC d D p Γ.l) (hl : Γ.l.stackTraces = false) (hk : 0 ≤ d) {w : CW} (h : pC_X0_remake_20 p (wpC p d) (fun v w => Γ.Q (.inl (some (ai v))) w) w) : ZV Γ w 20 [] [] := by
  refine zc_wk G hp (fun hw tw => ?_)
  refine zv_iconst (a := (-1)) G (by decide) dX0_remake_20 ?_
  exact zv_iret (ty := .int) (zr_k (-1) (by decide) (by decide)) G M rfl dX0_remake_21 h
set_option maxHeartbeats 4000000 in
set_option maxRecDepth 100000 in
theorem cpC_X0_remake_42 {Γ : ZG CW} {D : CD} {d p : Nat} (hp : D.K.1 = p) (G : ZOk Γ cX0_remake RX0 5 (KnC D) (ZC D)) (M : ZRm Γ (d + 1) D.lim (Option.some Jvm.ClassFile.FieldType.int) "remake" [(29, 41, 42, 443)]) (S : SdC d D p Γ.l) (hl : Γ.l.stackTraces = false) (hk : 0 ≤ d) {s0 : Nat} {w : CW} (h : pC_X0_remake_42 p (wpC p d) (fun v w => Γ.Q (.inl (some (ai v))) w) s0 w) : ZV Γ w 42 [] [ar s0] := by
  refine zc_wk G hp (fun hw tw => ?_)
  refine zv_astore G (by decide) rfl dX0_remake_42 ?_
  refine zv_bipush (a := (-3)) G (by decide) dX0_remake_44 ?_
  exact zv_iret (ty := .int) (zr_k (-3) (by decide) (by decide)) G M rfl dX0_remake_46 h
set_option maxHeartbeats 4000000 in
set_option maxRecDepth 100000 in
theorem cpC_X0_remake_0 {Γ : ZG CW} {D : CD} {d p : Nat} (hp : D.K.1 = p) (G : ZOk Γ cX0_remake RX0 5 (KnC D) (ZC D)) (M : ZRm Γ (d + 1) D.lim (Option.some Jvm.ClassFile.FieldType.int) "remake" [(29, 41, 42, 443)]) (S : SdC d D p Γ.l) (hl : Γ.l.stackTraces = false) (hk : 0 ≤ d) {x1 : Int} {x2 : Int} {w : CW} (rx1 : zr x1) (rx2 : zr x2) (h : pC_X0_remake_0 p (wpC p d) (fun v w => Γ.Q (.inl (some (ai v))) w) x1 x2 w) : ZV Γ w 0 [(0, ar p), (1, ai x1), (2, ai x2)] [] := by
  refine zc_wk G hp (fun hw tw => ?_)
  refine zv_aload_n G rfl rfl dX0_remake_0 ?_
  refine zv_iload_n G rfl rfl dX0_remake_1 ?_
  refine zv_callI (as := [ar p, ai x1]) (st := []) G M (zc_eV (C := zcn 1) G q1551 q1553 qs54 (Or.inl ⟨rfl, rfl⟩) q1554 md_X0_isFunction (zc_rc G (zne tw tw.1 (by decide)) tw.1 (by decide) (by decide) rfl) rfl dX0_remake_2) (S 48 _ rfl _ _ _ h (zoks_cons trivial (zoks_cons rx1 zoks_nil))) (Or.inl ⟨rfl, rfl⟩) (zc_hk q1554 q143) (by decide) (Nat.le_of_ble_eq_true rfl) (fun v2 u1 rv2 h => ?_) (fun _ _ h => h.elim)
  refine zc_wk G hp (fun hu1 tu1 => ?_)
  refine zv_if_eq (tgt := 20) G rv2 (by decide) dX0_remake_5 (fun c3 => ?_) (fun c3 => ?_)
  · have h := h.1 c3
    exact zv_pick [] rfl (cpC_X0_remake_20 hp G M S hl hk h)
  · have h := h.2 c3
    refine zv_iload_n G rfl rfl dX0_remake_8 ?_
    refine zv_i2l G rx2 dX0_remake_9 ?_
    refine zv_lconst (a := 0) G (by decide) dX0_remake_10 ?_
    refine zv_ldc2 (a := 3) G (G.kn.2.1 _ q1555 _) (by decide) dX0_remake_11 ?_
    refine zv_callI (as := [al x2, al 0, al 3]) (st := []) G M (zc_eS G q199 q200 q143 q201 md_X0_isIn rfl dX0_remake_14) (S 1 _ rfl _ _ _ h (zoks_cons (zrl_i rx2) (zoks_cons (zrl_k 0 (by decide) (by decide)) (zoks_cons (zrl_k 3 (by decide) (by decide)) zoks_nil)))) (Or.inl ⟨rfl, rfl⟩) (zc_hk q201 q143) (by decide) (Nat.le_of_ble_eq_true rfl) (fun v5 u4 rv5 h => ?_) (fun _ _ h => h.elim)
    refine zc_wk G hp (fun hu4 tu4 => ?_)
    refine zv_if_ne (tgt := 22) G rv5 (by decide) dX0_remake_17 (fun c6 => ?_) (fun c6 => ?_)
    · have h := h.2 c6
      refine zv_aload_n G rfl rfl dX0_remake_22 ?_
      refine zc_get (f := 5) (v := ar (fR u4 5 p)) G (hFp tu4 rfl) rfl q2061 (Or.inl rfl) (cV_R rfl) dX0_remake_23 ?_
      refine zv_iload_n G rfl rfl dX0_remake_26 ?_
      have o7 := h.1
      have h := h.2
      refine zc_aald G o7.1 rx1 o7.2.1 o7.2.2 dX0_remake_27 ?_
      refine zv_astore_nN G rfl (by decide) dX0_remake_28 (fun x3_8 ex3_8 => ?_)
      have h := h x3_8 ex3_8
      refine zv_aload_n G rfl rfl dX0_remake_29 ?_
      refine zv_iload_n G rfl rfl dX0_remake_30 ?_
      have o18 := h.1
      have h := h.2
      refine zv_callV (as := [ar x3_8, ai x2]) (st := []) G M (zc_eV (C := zcn 4) G q1195 q1196 q1197 (Or.inl ⟨rfl, rfl⟩) q1198 md_X4_remake (zc_rc G (zne tu4 o18 (by decide)) o18 (by decide) (by decide) rfl) rfl dX0_remake_31) (S 88 _ rfl _ _ _ h (zoks_cons trivial (zoks_cons rx2 zoks_nil))) (Or.inl ⟨rfl, rfl⟩) (zc_hk q1198 q160) (by decide) (Nat.le_of_ble_eq_true rfl) (fun u9 h => ?_) (fun x16 u17 h => ?_)
      rotate_left
      · have ht := h.1
        have h := h.2
        refine zx_catch G M (by rw [ht]; decide) (by rw [ht]; decide) (by rw [ht]; rfl) q207 (by decide) (by decide) ?_
        refine zc_wk G hp (fun hu17 tu17 => ?_)
        exact zv_pick [] rfl (cpC_X0_remake_42 hp G M S hl hk h)
      refine zc_wk G hp (fun hu9 tu9 => ?_)
      refine zv_aload_n G rfl rfl dX0_remake_34 ?_
      have o11 := h.1
      have h := h.2
      refine zc_get (f := 52) (v := ar (fR u9 52 x3_8)) G o11 rfl q761 (Or.inl rfl) (cV_R rfl) dX0_remake_35 ?_
      have o14 := h.1
      have h := h.2
      have en15 : ZEn Γ u9 38 [(3, ar x3_8), (0, ar p), (1, ai x1), (2, ai x2)] yX21_many 3 [ar (fR u9 52 x3_8)] [] := by
        rcases o14 with z | z | z | z | z | z | z
        · exact (zc_eV (C := zcn 19) G q1556 q1557 q1564 (Or.inl ⟨rfl, rfl⟩) q1566 md_X21_many (zc_rc G (zne tu9 z (by decide)) z (by decide) (by decide) rfl) rfl dX0_remake_38)
        · exact (zc_eV (C := zcn 20) G q1556 q1557 q1559 (Or.inl ⟨rfl, rfl⟩) q1566 md_X21_many (zc_rc G (zne tu9 z (by decide)) z (by decide) (by decide) rfl) rfl dX0_remake_38)
        · exact (zc_eV (C := zcn 21) G q1556 q1557 q1560 (Or.inl ⟨rfl, rfl⟩) q1566 md_X21_many (zc_rc G (zne tu9 z (by decide)) z (by decide) (by decide) rfl) rfl dX0_remake_38)
        · exact (zc_eV (C := zcn 22) G q1556 q1557 q1561 (Or.inl ⟨rfl, rfl⟩) q1566 md_X21_many (zc_rc G (zne tu9 z (by decide)) z (by decide) (by decide) rfl) rfl dX0_remake_38)
        · exact (zc_eV (C := zcn 23) G q1556 q1557 q1563 (Or.inl ⟨rfl, rfl⟩) q1566 md_X21_many (zc_rc G (zne tu9 z (by decide)) z (by decide) (by decide) rfl) rfl dX0_remake_38)
        · exact (zc_eV (C := zcn 24) G q1556 q1557 q1562 (Or.inl ⟨rfl, rfl⟩) q1566 md_X21_many (zc_rc G (zne tu9 z (by decide)) z (by decide) (by decide) rfl) rfl dX0_remake_38)
        · exact (zc_eV (C := zcn 25) G q1556 q1557 q1565 (Or.inl ⟨rfl, rfl⟩) q1566 md_X21_many (zc_rc G (zne tu9 z (by decide)) z (by decide) (by decide) rfl) rfl dX0_remake_38)
      refine zv_callI (as := [ar (fR u9 52 x3_8)]) (st := []) G M en15 (S 153 _ rfl _ _ _ h (zoks_cons trivial zoks_nil)) (Or.inl ⟨rfl, rfl⟩) (zc_hk q1566 q177) (by decide) (Nat.le_of_ble_eq_true rfl) (fun v13 u12 rv13 h => ?_) (fun _ _ h => h.elim)
      refine zc_wk G hp (fun hu12 tu12 => ?_)
      exact zv_iret (ty := .int) rv13 G M rfl dX0_remake_41 h
    · have h := h.1 c6
      exact zv_pick [] rfl (cpC_X0_remake_20 hp G M S hl hk h)
set_option maxHeartbeats 4000000 in
set_option maxRecDepth 100000 in
theorem cpC_X0_isFunction_0 {Γ : ZG CW} {D : CD} {d p : Nat} (hp : D.K.1 = p) (G : ZOk Γ cX0_isFunction RX0 2 (KnC D) (ZC D)) (M : ZRm Γ (d + 1) D.lim (Option.some Jvm.ClassFile.FieldType.boolean) "isFunction" []) (S : SdC d D p Γ.l) (hl : Γ.l.stackTraces = false) (hk : 0 ≤ d) {x1 : Int} {w : CW} (rx1 : zr x1) (h : pC_X0_isFunction_0 p (wpC p d) (fun v w => Γ.Q (.inl (some (ai v))) w) x1 w) : ZV Γ w 0 [(0, ar p), (1, ai x1)] [] := by
  refine zc_wk G hp (fun hw tw => ?_)
  refine zv_iload_n G rfl rfl dX0_isFunction_0 ?_
  refine zv_i2l G rx1 dX0_isFunction_1 ?_
  refine zv_lconst (a := 0) G (by decide) dX0_isFunction_2 ?_
  refine zv_aload_n G rfl rfl dX0_isFunction_3 ?_
  refine zc_get (f := 6) (v := ai (fI w 6 p)) G (hFp tw rfl) rfl q2062 (Or.inl rfl) (cV_I (by decide) (by decide)) dX0_isFunction_4 ?_
  refine zv_iconst (a := 1) G (by decide) dX0_isFunction_7 ?_
  refine zv_isub G dX0_isFunction_8 ?_
  refine zv_i2l G (w32_r _) dX0_isFunction_9 ?_
  refine zv_callI (as := [al x1, al 0, al (w32 ((fI w 6 p) - 1))]) (st := []) G M (zc_eS G q199 q200 q143 q201 md_X0_isIn rfl dX0_isFunction_10) (S 1 _ rfl _ _ _ h (zoks_cons (zrl_i rx1) (zoks_cons (zrl_k 0 (by decide) (by decide)) (zoks_cons (zrl_i (w32_r _)) zoks_nil)))) (Or.inl ⟨rfl, rfl⟩) (zc_hk q201 q143) (by decide) (Nat.le_of_ble_eq_true rfl) (fun v2 u1 rv2 h => ?_) (fun _ _ h => h.elim)
  refine zc_wk G hp (fun hu1 tu1 => ?_)
  exact zv_iret (ty := .boolean) rv2 G M (zn_Z h.1) dX0_isFunction_13 h.2
set_option maxHeartbeats 4000000 in
set_option maxRecDepth 100000 in
theorem cpC_X0_kind_28 {Γ : ZG CW} {D : CD} {d p : Nat} (hp : D.K.1 = p) (G : ZOk Γ cX0_kind RX0 4 (KnC D) (ZC D)) (M : ZRm Γ (d + 1) D.lim (Option.some Jvm.ClassFile.FieldType.int) "kind" []) (S : SdC d D p Γ.l) (hl : Γ.l.stackTraces = false) (hk : 0 ≤ d) {w : CW} (h : pC_X0_kind_28 p (wpC p d) (fun v w => Γ.Q (.inl (some (ai v))) w) w) : ZV Γ w 28 [] [] := by
  refine zc_wk G hp (fun hw tw => ?_)
  refine zv_iconst (a := (-1)) G (by decide) dX0_kind_28 ?_
  exact zv_iret (ty := .int) (zr_k (-1) (by decide) (by decide)) G M rfl dX0_kind_29 h
set_option maxHeartbeats 4000000 in
set_option maxRecDepth 100000 in
theorem cpC_X0_kind_148 {Γ : ZG CW} {D : CD} {d p : Nat} (hp : D.K.1 = p) (G : ZOk Γ cX0_kind RX0 4 (KnC D) (ZC D)) (M : ZRm Γ (d + 1) D.lim (Option.some Jvm.ClassFile.FieldType.int) "kind" []) (S : SdC d D p Γ.l) (hl : Γ.l.stackTraces = false) (hk : 0 ≤ d) {x2 : Int} {x3 : Nat} {w : CW} (rx2 : zr x2) (h : pC_X0_kind_148 p (wpC p d) (fun v w => Γ.Q (.inl (some (ai v))) w) x2 x3 w) : ZV Γ w 148 [(2, ai x2), (3, ar x3)] [] := by
  refine zc_wk G hp (fun hw tw => ?_)
  refine zv_iload_n G rfl rfl dX0_kind_148 ?_
  refine zv_iconst (a := 3) G (by decide) dX0_kind_149 ?_
  refine zv_isub G dX0_kind_150 ?_
  refine zv_aload_n G rfl rfl dX0_kind_151 ?_
  have o9 := h.1
  have h := h.2
  refine zc_get (f := 42) (v := ai (fI w 42 x3)) G o9 rfl q694 (Or.inl rfl) (cV_I (by decide) (by decide)) dX0_kind_152 ?_
  have o11 := h.1
  have h := h.2
  have kj12 : ∀ v10 : Int, v10 = (if ¬ ((fI w 42 x3) ≤ (w32 (x2 - 3))) then aN w (fR w 41 x3) (w32 (x2 - 3)) else (-4)) → ZV Γ w 171 [(2, ai x2), (3, ar x3)] (ai v10 :: []) := by
    intro v10 ev10
    have h := h v10 ev10
    have rv10 : zr v10 := by rw [ev10]; exact (zr_ite (aN_r hw _ _) (zr_k (-4) (by decide) (by decide)))
    exact zv_iret (ty := .int) rv10 G M rfl dX0_kind_171 h
  refine zv_icmp_ge (tgt := 169) G (w32_r _) (hw.i 42 _ (by decide)) (by decide) dX0_kind_155 (fun c13 => ?_) (fun c13 => ?_)
  · refine zv_bipush (a := (-4)) G (by decide) dX0_kind_169 ?_
    exact kj12 _ (if_neg (fun q => q c13)).symm
  · refine zv_aload_n G rfl rfl dX0_kind_158 ?_
    refine zc_get (f := 41) (v := ar (fR w 41 x3)) G (o11 c13).1 rfl q693 (Or.inl rfl) (cV_R rfl) dX0_kind_159 ?_
    refine zv_iload_n G rfl rfl dX0_kind_162 ?_
    refine zv_iconst (a := 3) G (by decide) dX0_kind_163 ?_
    refine zv_isub G dX0_kind_164 ?_
    refine zc_ialdN G (o11 c13).2.1 (w32_r _) (o11 c13).2.2.1 (o11 c13).2.2.2 dX0_kind_165 ?_
    refine zv_goto (tgt := 171) G (by decide) dX0_kind_166 ?_
    exact kj12 _ (if_pos c13).symm
set_option maxHeartbeats 4000000 in
set_option maxRecDepth 100000 in
theorem cpC_X0_kind_0 {Γ : ZG CW} {D : CD} {d p : Nat} (hp : D.K.1 = p) (G : ZOk Γ cX0_kind RX0 4 (KnC D) (ZC D)) (M : ZRm Γ (d + 1) D.lim (Option.some Jvm.ClassFile.FieldType.int) "kind" []) (S : SdC d D p Γ.l) (hl : Γ.l.stackTraces = false) (hk : 0 ≤ d) {x1 : Int} {x2 : Int} {w : CW} (rx1 : zr x1) (rx2 : zr x2) (h : pC_X0_kind_0 p (wpC p d) (fun v w => Γ.Q (.inl (some (ai v))) w) x1 x2 w) : ZV Γ w 0 [(0, ar p), (1, ai x1), (2, ai x2)] [] := by
  refine zc_wk G hp (fun hw tw => ?_)
  refine zv_iload_n G rfl rfl dX0_kind_0 ?_
  refine zv_i2l G rx1 dX0_kind_1 ?_
  refine zv_lconst (a := 0) G (by decide) dX0_kind_2 ?_
  refine zv_aload_n G rfl rfl dX0_kind_3 ?_
  refine zc_get (f := 1) (v := ai (fI w 1 p)) G (hFp tw rfl) rfl q2055 (Or.inl rfl) (cV_I (by decide) (by decide)) dX0_kind_4 ?_
  refine zv_iconst (a := 1) G (by decide) dX0_kind_7 ?_
  refine zv_isub G dX0_kind_8 ?_
  refine zv_i2l G (w32_r _) dX0_kind_9 ?_
  refine zv_callI (as := [al x1, al 0, al (w32 ((fI w 1 p) - 1))]) (st := []) G M (zc_eS G q199 q200 q143 q201 md_X0_isIn rfl dX0_kind_10) (S 1 _ rfl _ _ _ h (zoks_cons (zrl_i rx1) (zoks_cons (zrl_k 0 (by decide) (by decide)) (zoks_cons (zrl_i (w32_r _)) zoks_nil)))) (Or.inl ⟨rfl, rfl⟩) (zc_hk q201 q143) (by decide) (Nat.le_of_ble_eq_true rfl) (fun v2 u1 rv2 h => ?_) (fun _ _ h => h.elim)
  refine zc_wk G hp (fun hu1 tu1 => ?_)
  refine zv_if_eq (tgt := 28) G rv2 (by decide) dX0_kind_13 (fun c3 => ?_) (fun c3 => ?_)
  · have h := h.1 c3
    exact zv_pick [] rfl (cpC_X0_kind_28 hp G M S hl hk h)
  · have h := h.2 c3
    refine zv_iload_n G rfl rfl dX0_kind_16 ?_
    refine zv_i2l G rx2 dX0_kind_17 ?_
    refine zv_lconst (a := 0) G (by decide) dX0_kind_18 ?_
    refine zv_ldc2 (a := 7) G (G.kn.2.1 _ q1572 _) (by decide) dX0_kind_19 ?_
    refine zv_callI (as := [al x2, al 0, al 7]) (st := []) G M (zc_eS G q199 q200 q143 q201 md_X0_isIn rfl dX0_kind_22) (S 1 _ rfl _ _ _ h (zoks_cons (zrl_i rx2) (zoks_cons (zrl_k 0 (by decide) (by decide)) (zoks_cons (zrl_k 7 (by decide) (by decide)) zoks_nil)))) (Or.inl ⟨rfl, rfl⟩) (zc_hk q201 q143) (by decide) (Nat.le_of_ble_eq_true rfl) (fun v5 u4 rv5 h => ?_) (fun _ _ h => h.elim)
    refine zc_wk G hp (fun hu4 tu4 => ?_)
    refine zv_if_ne (tgt := 30) G rv5 (by decide) dX0_kind_25 (fun c6 => ?_) (fun c6 => ?_)
    · have h := h.2 c6
      refine zv_aload_n G rfl rfl dX0_kind_30 ?_
      refine zc_get (f := 0) (v := ar (fR u4 0 p)) G (hFp tu4 rfl) rfl q2053 (Or.inl rfl) (cV_R rfl) dX0_kind_31 ?_
      refine zv_iload_n G rfl rfl dX0_kind_34 ?_
      have o7 := h.1
      have h := h.2
      refine zc_aald G o7.1 rx1 o7.2.1 o7.2.2 dX0_kind_35 ?_
      refine zv_astore_nN G rfl (by decide) dX0_kind_36 (fun x3_8 ex3_8 => ?_)
      have h := h x3_8 ex3_8
      refine zv_iload_n G rfl rfl dX0_kind_37 ?_
      by_cases c19 : x2 = 0
      · have h := h.1 c19
        refine zv_tswI (tgt := 84) G dX0_kind_38 0 rx2 (by omega) (by omega) rfl (by decide) ?_
        refine zv_aload_n G rfl rfl dX0_kind_84 ?_
        have o14 := h.1
        have h := h.2
        refine zc_get (f := 39) (v := ar (fR u4 39 x3_8)) G o14 rfl q688 (Or.inl rfl) (cV_R rfl) dX0_kind_85 ?_
        have o16 := h.1
        have h := h.2
        have kj17 : ∀ v15 : Int, v15 = (if (fR u4 39 x3_8) = 0 then (-4) else fI u4 37 (fR u4 39 x3_8)) → ZV Γ u4 103 [(3, ar x3_8), (0, ar p), (1, ai x1), (2, ai x2)] (ai v15 :: []) := by
          intro v15 ev15
          have h := h v15 ev15
          have rv15 : zr v15 := by rw [ev15]; exact (zr_ite (zr_k (-4) (by decide) (by decide)) (hu4.i 37 _ (by decide)))
          exact zv_iret (ty := .int) rv15 G M rfl dX0_kind_103 h
        refine zv_ifnonnull (tgt := 96) G (by decide) dX0_kind_88 (fun c18 => ?_) (fun c18 => ?_)
        · refine zv_aload_n G rfl rfl dX0_kind_96 ?_
          refine zc_get (f := 39) (v := ar (fR u4 39 x3_8)) G (o16 c18).1 rfl q688 (Or.inl rfl) (cV_R rfl) dX0_kind_97 ?_
          refine zc_get (f := 37) (v := ai (fI u4 37 (fR u4 39 x3_8))) G (o16 c18).2 rfl q684 (Or.inl rfl) (cV_I (by decide) (by decide)) dX0_kind_100 ?_
          exact kj17 _ (if_neg c18).symm
        · refine zv_bipush (a := (-4)) G (by decide) dX0_kind_91 ?_
          refine zv_goto (tgt := 103) G (by decide) dX0_kind_93 ?_
          exact kj17 _ (if_pos c18).symm
      by_cases c24 : x2 = 1
      · have h := h.2.1 c24
        refine zv_tswI (tgt := 104) G dX0_kind_38 1 rx2 (by omega) (by omega) rfl (by decide) ?_
        refine zv_aload_n G rfl rfl dX0_kind_104 ?_
        have o20 := h.1
        have h := h.2
        refine zc_get (f := 40) (v := ai (fI u4 40 x3_8)) G o20 rfl q690 (Or.inl rfl) (cV_I (by decide) (by decide)) dX0_kind_105 ?_
        have kj22 : ∀ v21 : Int, v21 = (if ¬ ((fI u4 40 x3_8) = 0) then 1 else 0) → ZV Γ u4 116 [(3, ar x3_8), (0, ar p), (1, ai x1), (2, ai x2)] (ai v21 :: []) := by
          intro v21 ev21
          have h := h v21 ev21
          have rv21 : zr v21 := by rw [ev21]; exact (zr_ite (zr_k 1 (by decide) (by decide)) (zr_k 0 (by decide) (by decide)))
          have bv21 : v21 = 0 ∨ v21 = 1 := by rw [ev21]; exact (zb_ite (Or.inr rfl) (Or.inl rfl))
          exact zv_iret (ty := .int) rv21 G M rfl dX0_kind_116 h
        refine zv_if_eq (tgt := 115) G (hu4.i 40 _ (by decide)) (by decide) dX0_kind_108 (fun c23 => ?_) (fun c23 => ?_)
        · refine zv_iconst (a := 0) G (by decide) dX0_kind_115 ?_
          exact kj22 _ (if_neg (fun q => q c23)).symm
        · refine zv_iconst (a := 1) G (by decide) dX0_kind_111 ?_
          refine zv_goto (tgt := 116) G (by decide) dX0_kind_112 ?_
          exact kj22 _ (if_pos c23).symm
      by_cases c26 : x2 = 2
      · have h := h.2.2.1 c26
        refine zv_tswI (tgt := 117) G dX0_kind_38 2 rx2 (by omega) (by omega) rfl (by decide) ?_
        refine zv_aload_n G rfl rfl dX0_kind_117 ?_
        have o25 := h.1
        have h := h.2
        refine zc_get (f := 42) (v := ai (fI u4 42 x3_8)) G o25 rfl q694 (Or.inl rfl) (cV_I (by decide) (by decide)) dX0_kind_118 ?_
        exact zv_iret (ty := .int) (hu4.i 42 _ (by decide)) G M rfl dX0_kind_121 h
      by_cases c32 : x2 = 7
      · have h := h.2.2.2.1 c32
        refine zv_tswI (tgt := 122) G dX0_kind_38 7 rx2 (by omega) (by omega) rfl (by decide) ?_
        refine zv_aload_n G rfl rfl dX0_kind_122 ?_
        refine zc_get (f := 6) (v := ai (fI u4 6 p)) G (hFp tu4 rfl) rfl q2062 (Or.inl rfl) (cV_I (by decide) (by decide)) dX0_kind_123 ?_
        have o28 := h.1
        have h := h.2
        have kj29 : ∀ v27 : Int, v27 = (if ¬ ((fI u4 6 p) ≤ 0) ∧ (¬ (x1 < (fI u4 54 (aR u4 (fR u4 5 p) 0)))) then 1 else 0) → ZV Γ u4 147 [(3, ar x3_8), (0, ar p), (1, ai x1), (2, ai x2)] (ai v27 :: []) := by
          intro v27 ev27
          have h := h v27 ev27
          have rv27 : zr v27 := by rw [ev27]; exact (zr_ite (zr_k 1 (by decide) (by decide)) (zr_k 0 (by decide) (by decide)))
          have bv27 : v27 = 0 ∨ v27 = 1 := by rw [ev27]; exact (zb_ite (Or.inr rfl) (Or.inl rfl))
          exact zv_iret (ty := .int) rv27 G M rfl dX0_kind_147 h
        refine zv_if_le (tgt := 146) G (hu4.i 6 _ (by decide)) (by decide) dX0_kind_126 (fun c30 => ?_) (fun c30 => ?_)
        · refine zv_iconst (a := 0) G (by decide) dX0_kind_146 ?_
          exact kj29 _ (if_neg (fun q => q.1 c30)).symm
        · refine zv_iload_n G rfl rfl dX0_kind_129 ?_
          refine zv_aload_n G rfl rfl dX0_kind_130 ?_
          refine zc_get (f := 5) (v := ar (fR u4 5 p)) G (hFp tu4 rfl) rfl q2061 (Or.inl rfl) (cV_R rfl) dX0_kind_131 ?_
          refine zv_iconst (a := 0) G (by decide) dX0_kind_134 ?_
          refine zc_aald G (o28 c30).1.1 (zr_k 0 (by decide) (by decide)) (o28 c30).1.2.1 (o28 c30).1.2.2 dX0_kind_135 ?_
          refine zc_get (f := 54) (v := ai (fI u4 54 (aR u4 (fR u4 5 p) 0))) G (o28 c30).2 rfl q765 (Or.inl rfl) (cV_I (by decide) (by decide)) dX0_kind_136 ?_
          refine zv_icmp_lt (tgt := 146) G rx1 (hu4.i 54 _ (by decide)) (by decide) dX0_kind_139 (fun c31 => ?_) (fun c31 => ?_)
          · refine zv_iconst (a := 0) G (by decide) dX0_kind_146 ?_
            exact kj29 _ (if_neg (fun q => (fun q => q c31) q.2)).symm
          · refine zv_iconst (a := 1) G (by decide) dX0_kind_142 ?_
            refine zv_goto (tgt := 147) G (by decide) dX0_kind_143 ?_
            exact kj29 _ (if_pos ⟨c30, c31⟩).symm
      have h := h.2.2.2.2 c19 c24 c26 c32
      have kd33 : ZV Γ u4 148 [(3, ar x3_8), (0, ar p), (1, ai x1), (2, ai x2)] [] := by
        exact zv_pick [2, 3] rfl (cpC_X0_kind_148 hp G M S hl hk rx2 h)
      by_cases c34 : x2 = 3
      · exact zv_tswI (tgt := 148) G dX0_kind_38 3 rx2 (by omega) (by omega) rfl (by decide) kd33
      by_cases c35 : x2 = 4
      · exact zv_tswI (tgt := 148) G dX0_kind_38 4 rx2 (by omega) (by omega) rfl (by decide) kd33
      by_cases c36 : x2 = 5
      · exact zv_tswI (tgt := 148) G dX0_kind_38 5 rx2 (by omega) (by omega) rfl (by decide) kd33
      by_cases c37 : x2 = 6
      · exact zv_tswI (tgt := 148) G dX0_kind_38 6 rx2 (by omega) (by omega) rfl (by decide) kd33
      exact zv_tswO (tgt := 148) G dX0_kind_38 rx2 (by omega) (by decide) kd33
    · have h := h.1 c6
      exact zv_pick [] rfl (cpC_X0_kind_28 hp G M S hl hk h)
set_option maxHeartbeats 4000000 in
set_option maxRecDepth 100000 in
theorem cpC_X0_kindNamed_0 {Γ : ZG CW} {D : CD} {d p : Nat} (hp : D.K.1 = p) (G : ZOk Γ cX0_kindNamed RX0 4 (KnC D) (ZC D)) (M : ZRm Γ (d + 1) D.lim (Option.some Jvm.ClassFile.FieldType.int) "kindNamed" []) (S : SdC d D p Γ.l) (hl : Γ.l.stackTraces = false) (hk : 0 ≤ d) {x1 : Int} {w : CW} (rx1 : zrl x1) (h : pC_X0_kindNamed_0 p (wpC p d) (fun v w => Γ.Q (.inl (some (ai v))) w) x1 w) : ZV Γ w 0 [(0, ar p), (1, al x1)] [] := by
  refine zc_wk G hp (fun hw tw => ?_)
  refine zv_aload_n G rfl rfl dX0_kindNamed_0 ?_
  refine zv_lload_n G rfl rfl dX0_kindNamed_1 ?_
  refine zv_callR (as := [ar p, al x1]) (st := []) G M (zc_eV (C := zcn 1) G q671 q673 qs11 (Or.inl ⟨rfl, rfl⟩) q674 md_X0_named (zc_rc G (zne tw tw.1 (by decide)) tw.1 (by decide) (by decide) rfl) rfl dX0_kindNamed_2) (S 15 _ rfl _ _ _ h (zoks_cons trivial (zoks_cons rx1 zoks_nil))) (Or.inl ⟨rfl, rfl⟩) (zc_hk q674 q143) (by decide) (Nat.le_of_ble_eq_true rfl) (fun v2 u1 h => ?_) (fun _ _ h => h.elim)
  refine zc_wk G hp (fun hu1 tu1 => ?_)
  refine zv_astore_n G rfl (by decide) rfl dX0_kindNamed_5 ?_
  refine zv_aload_n G rfl rfl dX0_kindNamed_6 ?_
  have o4 := h.1
  have h := h.2
  have kj5 : ∀ v3 : Int, v3 = (if v2 = 0 then (-4) else fI u1 37 v2) → ZV Γ u1 19 [(3, ar v2), (0, ar p), (1, al x1)] (ai v3 :: []) := by
    intro v3 ev3
    have h := h v3 ev3
    have rv3 : zr v3 := by rw [ev3]; exact (zr_ite (zr_k (-4) (by decide) (by decide)) (hu1.i 37 _ (by decide)))
    exact zv_iret (ty := .int) rv3 G M rfl dX0_kindNamed_19 h
  refine zv_ifnonnull (tgt := 15) G (by decide) dX0_kindNamed_7 (fun c6 => ?_) (fun c6 => ?_)
  · refine zv_aload_n G rfl rfl dX0_kindNamed_15 ?_
    refine zc_get (f := 37) (v := ai (fI u1 37 v2)) G (o4 c6) rfl q684 (Or.inl rfl) (cV_I (by decide) (by decide)) dX0_kindNamed_16 ?_
    exact kj5 _ (if_neg c6).symm
  · refine zv_bipush (a := (-4)) G (by decide) dX0_kindNamed_10 ?_
    refine zv_goto (tgt := 19) G (by decide) dX0_kindNamed_12 ?_
    exact kj5 _ (if_pos c6).symm
set_option maxHeartbeats 4000000 in
set_option maxRecDepth 100000 in
theorem cpC_X0_function_20 {Γ : ZG CW} {D : CD} {d p : Nat} (hp : D.K.1 = p) (G : ZOk Γ cX0_function RX0 4 (KnC D) (ZC D)) (M : ZRm Γ (d + 1) D.lim (Option.some Jvm.ClassFile.FieldType.int) "function" []) (S : SdC d D p Γ.l) (hl : Γ.l.stackTraces = false) (hk : 0 ≤ d) {w : CW} (h : pC_X0_function_20 p (wpC p d) (fun v w => Γ.Q (.inl (some (ai v))) w) w) : ZV Γ w 20 [] [] := by
  refine zc_wk G hp (fun hw tw => ?_)
  refine zv_iconst (a := (-1)) G (by decide) dX0_function_20 ?_
  exact zv_iret (ty := .int) (zr_k (-1) (by decide) (by decide)) G M rfl dX0_function_21 h
set_option maxHeartbeats 4000000 in
set_option maxRecDepth 100000 in
theorem cpC_X0_function_0 {Γ : ZG CW} {D : CD} {d p : Nat} (hp : D.K.1 = p) (G : ZOk Γ cX0_function RX0 4 (KnC D) (ZC D)) (M : ZRm Γ (d + 1) D.lim (Option.some Jvm.ClassFile.FieldType.int) "function" []) (S : SdC d D p Γ.l) (hl : Γ.l.stackTraces = false) (hk : 0 ≤ d) {x1 : Int} {x2 : Int} {w : CW} (rx1 : zr x1) (rx2 : zr x2) (h : pC_X0_function_0 p (wpC p d) (fun v w => Γ.Q (.inl (some (ai v))) w) x1 x2 w) : ZV Γ w 0 [(0, ar p), (1, ai x1), (2, ai x2)] [] := by
  refine zc_wk G hp (fun hw tw => ?_)
  refine zv_aload_n G rfl rfl dX0_function_0 ?_
  refine zv_iload_n G rfl rfl dX0_function_1 ?_
  refine zv_callI (as := [ar p, ai x1]) (st := []) G M (zc_eV (C := zcn 1) G q1551 q1553 qs54 (Or.inl ⟨rfl, rfl⟩) q1554 md_X0_isFunction (zc_rc G (zne tw tw.1 (by decide)) tw.1 (by decide) (by decide) rfl) rfl dX0_function_2) (S 48 _ rfl _ _ _ h (zoks_cons trivial (zoks_cons rx1 zoks_nil))) (Or.inl ⟨rfl, rfl⟩) (zc_hk q1554 q143) (by decide) (Nat.le_of_ble_eq_true rfl) (fun v2 u1 rv2 h => ?_) (fun _ _ h => h.elim)
  refine zc_wk G hp (fun hu1 tu1 => ?_)
  refine zv_if_eq (tgt := 20) G rv2 (by decide) dX0_function_5 (fun c3 => ?_) (fun c3 => ?_)
  · have h := h.1 c3
    exact zv_pick [] rfl (cpC_X0_function_20 hp G M S hl hk h)
  · have h := h.2 c3
    refine zv_iload_n G rfl rfl dX0_function_8 ?_
    refine zv_i2l G rx2 dX0_function_9 ?_
    refine zv_lconst (a := 0) G (by decide) dX0_function_10 ?_
    refine zv_ldc2 (a := 8) G (G.kn.2.1 _ q198 _) (by decide) dX0_function_11 ?_
    refine zv_callI (as := [al x2, al 0, al 8]) (st := []) G M (zc_eS G q199 q200 q143 q201 md_X0_isIn rfl dX0_function_14) (S 1 _ rfl _ _ _ h (zoks_cons (zrl_i rx2) (zoks_cons (zrl_k 0 (by decide) (by decide)) (zoks_cons (zrl_k 8 (by decide) (by decide)) zoks_nil)))) (Or.inl ⟨rfl, rfl⟩) (zc_hk q201 q143) (by decide) (Nat.le_of_ble_eq_true rfl) (fun v5 u4 rv5 h => ?_) (fun _ _ h => h.elim)
    refine zc_wk G hp (fun hu4 tu4 => ?_)
    refine zv_if_ne (tgt := 22) G rv5 (by decide) dX0_function_17 (fun c6 => ?_) (fun c6 => ?_)
    · have h := h.2 c6
      refine zv_aload_n G rfl rfl dX0_function_22 ?_
      refine zc_get (f := 5) (v := ar (fR u4 5 p)) G (hFp tu4 rfl) rfl q2061 (Or.inl rfl) (cV_R rfl) dX0_function_23 ?_
      refine zv_iload_n G rfl rfl dX0_function_26 ?_
      have o7 := h.1
      have h := h.2
      refine zc_aald G o7.1 rx1 o7.2.1 o7.2.2 dX0_function_27 ?_
      refine zv_astore_nN G rfl (by decide) dX0_function_28 (fun x3_8 ex3_8 => ?_)
      have h := h x3_8 ex3_8
      refine zv_iload_n G rfl rfl dX0_function_29 ?_
      by_cases c15 : x2 = 0
      · have h := h.1 c15
        refine zv_tswI (tgt := 68) G dX0_function_30 0 rx2 (by omega) (by omega) rfl (by decide) ?_
        refine zv_aload_n G rfl rfl dX0_function_68 ?_
        have o14 := h.1
        have h := h.2
        refine zc_get (f := 46) (v := ai (fI u4 46 x3_8)) G o14 rfl q750 (Or.inl rfl) (cV_I (by decide) (by decide)) dX0_function_69 ?_
        exact zv_iret (ty := .int) (hu4.i 46 _ (by decide)) G M rfl dX0_function_72 h
      by_cases c17 : x2 = 1
      · have h := h.2.1 c17
        refine zv_tswI (tgt := 73) G dX0_function_30 1 rx2 (by omega) (by omega) rfl (by decide) ?_
        refine zv_aload_n G rfl rfl dX0_function_73 ?_
        have o16 := h.1
        have h := h.2
        refine zc_get (f := 48) (v := ai (fI u4 48 x3_8)) G o16 rfl q754 (Or.inl rfl) (cV_I (by decide) (by decide)) dX0_function_74 ?_
        exact zv_iret (ty := .int) (hu4.i 48 _ (by decide)) G M rfl dX0_function_77 h
      by_cases c20 : x2 = 2
      · have h := h.2.2.1 c20
        refine zv_tswI (tgt := 78) G dX0_function_30 2 rx2 (by omega) (by omega) rfl (by decide) ?_
        refine zv_aload_n G rfl rfl dX0_function_78 ?_
        have o18 := h.1
        have h := h.2
        refine zc_get (f := 49) (v := ar (fR u4 49 x3_8)) G o18 rfl q756 (Or.inl rfl) (cV_R rfl) dX0_function_79 ?_
        have o19 := h.1
        have h := h.2
        refine zc_alen G o19 dX0_function_82 ?_
        exact zv_iret (ty := .int) (zc_lnr hu4 _) G M rfl dX0_function_83 h
      by_cases c26 : x2 = 3
      · have h := h.2.2.2.1 c26
        refine zv_tswI (tgt := 84) G dX0_function_30 3 rx2 (by omega) (by omega) rfl (by decide) ?_
        refine zv_aload_n G rfl rfl dX0_function_84 ?_
        have o21 := h.1
        have h := h.2
        refine zc_get (f := 52) (v := ar (fR u4 52 x3_8)) G o21 rfl q761 (Or.inl rfl) (cV_R rfl) dX0_function_85 ?_
        have o24 := h.1
        have h := h.2
        have en25 : ZEn Γ u4 88 [(3, ar x3_8), (0, ar p), (1, ai x1), (2, ai x2)] yX21_many 3 [ar (fR u4 52 x3_8)] [] := by
          rcases o24 with z | z | z | z | z | z | z
          · exact (zc_eV (C := zcn 19) G q1556 q1557 q1564 (Or.inl ⟨rfl, rfl⟩) q1566 md_X21_many (zc_rc G (zne tu4 z (by decide)) z (by decide) (by decide) rfl) rfl dX0_function_88)
          · exact (zc_eV (C := zcn 20) G q1556 q1557 q1559 (Or.inl ⟨rfl, rfl⟩) q1566 md_X21_many (zc_rc G (zne tu4 z (by decide)) z (by decide) (by decide) rfl) rfl dX0_function_88)
          · exact (zc_eV (C := zcn 21) G q1556 q1557 q1560 (Or.inl ⟨rfl, rfl⟩) q1566 md_X21_many (zc_rc G (zne tu4 z (by decide)) z (by decide) (by decide) rfl) rfl dX0_function_88)
          · exact (zc_eV (C := zcn 22) G q1556 q1557 q1561 (Or.inl ⟨rfl, rfl⟩) q1566 md_X21_many (zc_rc G (zne tu4 z (by decide)) z (by decide) (by decide) rfl) rfl dX0_function_88)
          · exact (zc_eV (C := zcn 23) G q1556 q1557 q1563 (Or.inl ⟨rfl, rfl⟩) q1566 md_X21_many (zc_rc G (zne tu4 z (by decide)) z (by decide) (by decide) rfl) rfl dX0_function_88)
          · exact (zc_eV (C := zcn 24) G q1556 q1557 q1562 (Or.inl ⟨rfl, rfl⟩) q1566 md_X21_many (zc_rc G (zne tu4 z (by decide)) z (by decide) (by decide) rfl) rfl dX0_function_88)
          · exact (zc_eV (C := zcn 25) G q1556 q1557 q1565 (Or.inl ⟨rfl, rfl⟩) q1566 md_X21_many (zc_rc G (zne tu4 z (by decide)) z (by decide) (by decide) rfl) rfl dX0_function_88)
        refine zv_callI (as := [ar (fR u4 52 x3_8)]) (st := []) G M en25 (S 153 _ rfl _ _ _ h (zoks_cons trivial zoks_nil)) (Or.inl ⟨rfl, rfl⟩) (zc_hk q1566 q177) (by decide) (Nat.le_of_ble_eq_true rfl) (fun v23 u22 rv23 h => ?_) (fun _ _ h => h.elim)
        refine zc_wk G hp (fun hu22 tu22 => ?_)
        exact zv_iret (ty := .int) rv23 G M rfl dX0_function_91 h
      by_cases c28 : x2 = 4
      · have h := h.2.2.2.2.1 c28
        refine zv_tswI (tgt := 92) G dX0_function_30 4 rx2 (by omega) (by omega) rfl (by decide) ?_
        refine zv_aload_n G rfl rfl dX0_function_92 ?_
        have o27 := h.1
        have h := h.2
        refine zc_get (f := 53) (v := ai (fI u4 53 x3_8)) G o27 rfl q763 (Or.inl rfl) (cV_I (by decide) (by decide)) dX0_function_93 ?_
        exact zv_iret (ty := .int) (hu4.i 53 _ (by decide)) G M rfl dX0_function_96 h
      by_cases c34 : x2 = 5
      · have h := h.2.2.2.2.2.1 c34
        refine zv_tswI (tgt := 97) G dX0_function_30 5 rx2 (by omega) (by omega) rfl (by decide) ?_
        refine zv_aload_n G rfl rfl dX0_function_97 ?_
        have o29 := h.1
        have h := h.2
        refine zc_get (f := 52) (v := ar (fR u4 52 x3_8)) G o29 rfl q761 (Or.inl rfl) (cV_R rfl) dX0_function_98 ?_
        have o32 := h.1
        have h := h.2
        have en33 : ZEn Γ u4 101 [(3, ar x3_8), (0, ar p), (1, ai x1), (2, ai x2)] yX21_depth 3 [ar (fR u4 52 x3_8)] [] := by
          rcases o32 with z | z | z | z | z | z | z
          · exact (zc_eV (C := zcn 19) G q1581 q1582 q1589 (Or.inl ⟨rfl, rfl⟩) q1591 md_X21_depth (zc_rc G (zne tu4 z (by decide)) z (by decide) (by decide) rfl) rfl dX0_function_101)
          · exact (zc_eV (C := zcn 20) G q1581 q1582 q1584 (Or.inl ⟨rfl, rfl⟩) q1591 md_X21_depth (zc_rc G (zne tu4 z (by decide)) z (by decide) (by decide) rfl) rfl dX0_function_101)
          · exact (zc_eV (C := zcn 21) G q1581 q1582 q1585 (Or.inl ⟨rfl, rfl⟩) q1591 md_X21_depth (zc_rc G (zne tu4 z (by decide)) z (by decide) (by decide) rfl) rfl dX0_function_101)
          · exact (zc_eV (C := zcn 22) G q1581 q1582 q1586 (Or.inl ⟨rfl, rfl⟩) q1591 md_X21_depth (zc_rc G (zne tu4 z (by decide)) z (by decide) (by decide) rfl) rfl dX0_function_101)
          · exact (zc_eV (C := zcn 23) G q1581 q1582 q1588 (Or.inl ⟨rfl, rfl⟩) q1591 md_X21_depth (zc_rc G (zne tu4 z (by decide)) z (by decide) (by decide) rfl) rfl dX0_function_101)
          · exact (zc_eV (C := zcn 24) G q1581 q1582 q1587 (Or.inl ⟨rfl, rfl⟩) q1591 md_X21_depth (zc_rc G (zne tu4 z (by decide)) z (by decide) (by decide) rfl) rfl dX0_function_101)
          · exact (zc_eV (C := zcn 25) G q1581 q1582 q1590 (Or.inl ⟨rfl, rfl⟩) q1591 md_X21_depth (zc_rc G (zne tu4 z (by decide)) z (by decide) (by decide) rfl) rfl dX0_function_101)
        refine zv_callI (as := [ar (fR u4 52 x3_8)]) (st := []) G M en33 (S 154 _ rfl _ _ _ h (zoks_cons trivial zoks_nil)) (Or.inl ⟨rfl, rfl⟩) (zc_hk q1591 q177) (by decide) (Nat.le_of_ble_eq_true rfl) (fun v31 u30 rv31 h => ?_) (fun _ _ h => h.elim)
        refine zc_wk G hp (fun hu30 tu30 => ?_)
        exact zv_iret (ty := .int) rv31 G M rfl dX0_function_104 h
      have h := h.2.2.2.2.2.2 c15 c17 c20 c26 c28 c34
      refine zv_tswO (tgt := 105) G dX0_function_30 rx2 (by omega) (by decide) ?_
      refine zv_iload_n G rfl rfl dX0_function_105 ?_
      refine zv_bipush (a := 6) G (by decide) dX0_function_106 ?_
      refine zv_isub G dX0_function_108 ?_
      refine zv_aload_n G rfl rfl dX0_function_109 ?_
      have o9 := h.1
      have h := h.2
      refine zc_get (f := 46) (v := ai (fI u4 46 x3_8)) G o9 rfl q750 (Or.inl rfl) (cV_I (by decide) (by decide)) dX0_function_110 ?_
      have o11 := h.1
      have h := h.2
      have kj12 : ∀ v10 : Int, v10 = (if ¬ ((fI u4 46 x3_8) ≤ (w32 (x2 - 6))) then aN u4 (fR u4 45 x3_8) (w32 (x2 - 6)) else (-4)) → ZV Γ u4 130 [(3, ar x3_8), (0, ar p), (1, ai x1), (2, ai x2)] (ai v10 :: []) := by
        intro v10 ev10
        have h := h v10 ev10
        have rv10 : zr v10 := by rw [ev10]; exact (zr_ite (aN_r hu4 _ _) (zr_k (-4) (by decide) (by decide)))
        exact zv_iret (ty := .int) rv10 G M rfl dX0_function_130 h
      refine zv_icmp_ge (tgt := 128) G (w32_r _) (hu4.i 46 _ (by decide)) (by decide) dX0_function_113 (fun c13 => ?_) (fun c13 => ?_)
      · refine zv_bipush (a := (-4)) G (by decide) dX0_function_128 ?_
        exact kj12 _ (if_neg (fun q => q c13)).symm
      · refine zv_aload_n G rfl rfl dX0_function_116 ?_
        refine zc_get (f := 45) (v := ar (fR u4 45 x3_8)) G (o11 c13).1 rfl q748 (Or.inl rfl) (cV_R rfl) dX0_function_117 ?_
        refine zv_iload_n G rfl rfl dX0_function_120 ?_
        refine zv_bipush (a := 6) G (by decide) dX0_function_121 ?_
        refine zv_isub G dX0_function_123 ?_
        refine zc_ialdN G (o11 c13).2.1 (w32_r _) (o11 c13).2.2.1 (o11 c13).2.2.2 dX0_function_124 ?_
        refine zv_goto (tgt := 130) G (by decide) dX0_function_125 ?_
        exact kj12 _ (if_pos c13).symm
    · have h := h.1 c6
      exact zv_pick [] rfl (cpC_X0_function_20 hp G M S hl hk h)
end ZCC1
