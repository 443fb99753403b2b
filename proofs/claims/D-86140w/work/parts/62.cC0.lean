/-! walks of the component's methods, printed by tools/comp.py -/
section ZCC0
set_option maxHeartbeats 4000000 in
set_option maxRecDepth 100000 in
theorem cpC_X0_feed_73 {Γ : ZG CW} {D : CD} {d p : Nat} (hp : D.K.1 = p) (G : ZOk Γ cX0_feed RX0 5 (KnC D) (ZC D)) (M : ZRm Γ (d + 1) D.lim (Option.some Jvm.ClassFile.FieldType.int) "feed" []) (S : SdC d D p Γ.l) (hl : Γ.l.stackTraces = false) (hk : 0 ≤ d) {w : CW} (h : pC_X0_feed_73 p (wpC p d) (fun v w => Γ.Q (.inl (some (ai v))) w) w) : ZV Γ w 73 [(0, ar p)] [] := by
  refine zc_wk G hp (fun hw tw => ?_)
  refine zv_aload_n G rfl rfl dX0_feed_73 ?_
  refine zc_get (f := 8) (v := ai (fI w 8 p)) G (hFp tw rfl) rfl q2064 (Or.inl rfl) (cV_I (by decide) (by decide)) dX0_feed_74 ?_
  exact zv_iret (ty := .int) (hw.i 8 _ (by decide)) G M rfl dX0_feed_77 h
set_option maxHeartbeats 4000000 in
set_option maxRecDepth 100000 in
theorem cpC_X0_feed_34 {Γ : ZG CW} {D : CD} {d p : Nat} (hp : D.K.1 = p) (G : ZOk Γ cX0_feed RX0 5 (KnC D) (ZC D)) (M : ZRm Γ (d + 1) D.lim (Option.some Jvm.ClassFile.FieldType.int) "feed" []) (S : SdC d D p Γ.l) (hl : Γ.l.stackTraces = false) (hk : 0 ≤ d) {x1 : Int} {x4 : Int} {w : CW} (rx1 : zrl x1) (rx4 : zr x4) (h : pC_X0_feed_34 p (wpC p d) (fun v w => Γ.Q (.inl (some (ai v))) w) x1 x4 w) : ZV Γ w 34 [(0, ar p), (1, al x1), (4, ai x4)] [] := by
  obtain ⟨I34, eI34⟩ : ∃ I : Int → CW → Prop, I = (fun x4 w => zr x4 → ZV Γ w 34 [(0, ar p), (1, al x1), (4, ai x4)] []) := ⟨_, rfl⟩
  have hI34 : ∀ (x4 : Int) (w : CW), I34 x4 w → zr x4 → ZV Γ w 34 [(0, ar p), (1, al x1), (4, ai x4)] [] := by subst eI34; exact fun _ _ z => z
  have hJ34 : ∀ (x4 : Int) (w : CW), (zr x4 → ZV Γ w 34 [(0, ar p), (1, al x1), (4, ai x4)] []) → I34 x4 w := by subst eI34; exact fun _ _ z => z
  refine hI34 x4 w (h I34 (fun x4 w h => hJ34 x4 w (fun rx4 => ?_))) rx4
  refine zc_wk G hp (fun hw tw => ?_)
  refine zv_iload G rfl dX0_feed_34 ?_
  refine zv_if_lt (tgt := 73) G rx4 (by decide) dX0_feed_36 (fun c6 => ?_) (fun c6 => ?_)
  · have h := h.1 c6
    exact zv_pick [0] rfl (cpC_X0_feed_73 hp G M S hl hk h)
  · have h := h.2 c6
    refine zv_aload_n G rfl rfl dX0_feed_39 ?_
    refine zc_get (f := 7) (v := ar (fR w 7 p)) G (hFp tw rfl) rfl q2063 (Or.inl rfl) (cV_R rfl) dX0_feed_40 ?_
    refine zv_aload_n G rfl rfl dX0_feed_43 ?_
    refine zc_get (f := 8) (v := ai (fI w 8 p)) G (hFp tw rfl) rfl q2064 (Or.inl rfl) (cV_I (by decide) (by decide)) dX0_feed_44 ?_
    refine zv_lload_n G rfl rfl dX0_feed_47 ?_
    refine zv_bipush (a := 8) G (by decide) dX0_feed_48 ?_
    refine zv_iload G rfl dX0_feed_50 ?_
    refine zv_imul G dX0_feed_52 ?_
    refine zv_lshr G dX0_feed_53 ?_
    refine zv_l2i G dX0_feed_54 ?_
    refine zv_i2b G dX0_feed_55 ?_
    have o8 := h.1
    have h := h.2
    refine zc_bast G o8.1 (hw.i 8 _ (by decide)) o8.2.1 o8.2.2 dX0_feed_56 (fun u7 eu7 => ?_)
    have h := h u7 eu7
    refine zc_wk G hp (fun hu7 tu7 => ?_)
    refine zv_aload_n G rfl rfl dX0_feed_57 ?_
    refine zv_dup G rfl dX0_feed_58 ?_
    refine zc_get (f := 8) (v := ai (fI u7 8 p)) G (hFp tu7 rfl) rfl q2064 (Or.inl rfl) (cV_I (by decide) (by decide)) dX0_feed_59 ?_
    refine zv_iconst (a := 1) G (by decide) dX0_feed_62 ?_
    refine zv_iadd G dX0_feed_63 ?_
    refine zc_putI (f := 8) G M (hPp tu7 rfl) rfl q2064 (Or.inl rfl) (Or.inl rfl) (zfty_8) rfl rfl (by decide) (by decide) (w32_r _) dX0_feed_64 (fun u9 eu9 => ?_)
    have h := h u9 eu9
    refine zc_wk G hp (fun hu9 tu9 => ?_)
    refine zv_iincN G rfl (by decide) dX0_feed_67 (fun x4_10 ex4_10 => ?_)
    have h := h x4_10 ex4_10
    have rx4_10 : zr x4_10 := by rw [ex4_10]; exact w32_r _
    refine zv_goto (tgt := 34) G (by decide) dX0_feed_70 ?_
    exact zv_pick [0, 1, 4] rfl (hI34 _ _ h rx4_10)
set_option maxHeartbeats 4000000 in
set_option maxRecDepth 100000 in
theorem cpC_X0_feed_0 {Γ : ZG CW} {D : CD} {d p : Nat} (hp : D.K.1 = p) (G : ZOk Γ cX0_feed RX0 5 (KnC D) (ZC D)) (M : ZRm Γ (d + 1) D.lim (Option.some Jvm.ClassFile.FieldType.int) "feed" []) (S : SdC d D p Γ.l) (hl : Γ.l.stackTraces = false) (hk : 0 ≤ d) {x1 : Int} {x3 : Int} {w : CW} (rx1 : zrl x1) (rx3 : zr x3) (h : pC_X0_feed_0 p (wpC p d) (fun v w => Γ.Q (.inl (some (ai v))) w) x1 x3 w) : ZV Γ w 0 [(0, ar p), (1, al x1), (3, ai x3)] [] := by
  refine zc_wk G hp (fun hw tw => ?_)
  refine zv_iload_n G rfl rfl dX0_feed_0 ?_
  refine zv_i2l G rx3 dX0_feed_1 ?_
  refine zv_lconst (a := 1) G (by decide) dX0_feed_2 ?_
  refine zv_ldc2 (a := 8) G (G.kn.2.1 _ q198 _) (by decide) dX0_feed_3 ?_
  refine zv_callI (as := [al x3, al 1, al 8]) (st := []) G M (zc_eS G q199 q200 q143 q201 md_X0_isIn rfl dX0_feed_6) (S 1 _ rfl _ _ _ h (zoks_cons (zrl_i rx3) (zoks_cons (zrl_k 1 (by decide) (by decide)) (zoks_cons (zrl_k 8 (by decide) (by decide)) zoks_nil)))) (Or.inl ⟨rfl, rfl⟩) (zc_hk q201 q143) (by decide) (Nat.le_of_ble_eq_true rfl) (fun v2 u1 rv2 h => ?_) (fun _ _ h => h.elim)
  refine zc_wk G hp (fun hu1 tu1 => ?_)
  refine zv_if_ne (tgt := 14) G rv2 (by decide) dX0_feed_9 (fun c3 => ?_) (fun c3 => ?_)
  · have h := h.2 c3
    refine zv_aload_n G rfl rfl dX0_feed_14 ?_
    refine zc_get (f := 8) (v := ai (fI u1 8 p)) G (hFp tu1 rfl) rfl q2064 (Or.inl rfl) (cV_I (by decide) (by decide)) dX0_feed_15 ?_
    refine zv_iload_n G rfl rfl dX0_feed_18 ?_
    refine zv_iadd G dX0_feed_19 ?_
    refine zv_sipush (a := 1600) G (by decide) dX0_feed_20 ?_
    refine zv_icmp_le (tgt := 29) G (w32_r _) (zr_k 1600 (by decide) (by decide)) (by decide) dX0_feed_23 (fun c4 => ?_) (fun c4 => ?_)
    · have h := h.1 c4
      refine zv_iload_n G rfl rfl dX0_feed_29 ?_
      refine zv_iconst (a := 1) G (by decide) dX0_feed_30 ?_
      refine zv_isub G dX0_feed_31 ?_
      refine zv_istoreN G (by decide) dX0_feed_32 (fun x4_5 ex4_5 => ?_)
      have h := h x4_5 ex4_5
      have rx4_5 : zr x4_5 := by rw [ex4_5]; exact (w32_r _)
      exact zv_pick [0, 1, 4] rfl (cpC_X0_feed_34 hp G M S hl hk rx1 rx4_5 h)
    · have h := h.2 c4
      refine zv_bipush (a := (-3)) G (by decide) dX0_feed_26 ?_
      exact zv_iret (ty := .int) (zr_k (-3) (by decide) (by decide)) G M rfl dX0_feed_28 h
  · have h := h.1 c3
    refine zv_iconst (a := (-1)) G (by decide) dX0_feed_12 ?_
    exact zv_iret (ty := .int) (zr_k (-1) (by decide) (by decide)) G M rfl dX0_feed_13 h
set_option maxHeartbeats 4000000 in
set_option maxRecDepth 100000 in
theorem cpC_X0_isIn_0 {Γ : ZG CW} {D : CD} {d p : Nat} (hp : D.K.1 = p) (G : ZOk Γ cX0_isIn RX0 6 (KnC D) (ZC D)) (M : ZRm Γ (d + 1) D.lim (Option.some Jvm.ClassFile.FieldType.boolean) "isIn" []) (S : SdC d D p Γ.l) (hl : Γ.l.stackTraces = false) (hk : 0 ≤ d) {x0 : Int} {x2 : Int} {x4 : Int} {w : CW} (rx0 : zrl x0) (rx2 : zrl x2) (rx4 : zrl x4) (h : pC_X0_isIn_0 p (wpC p d) (fun v w => Γ.Q (.inl (some (ai v))) w) x0 x2 x4 w) : ZV Γ w 0 [(0, al x0), (2, al x2), (4, al x4)] [] := by
  refine zc_wk G hp (fun hw tw => ?_)
  refine zv_lload_n G rfl rfl dX0_isIn_0 ?_
  refine zv_lload_n G rfl rfl dX0_isIn_1 ?_
  refine zv_lcmp G rx0 rx2 dX0_isIn_2 ?_
  have kj2 : ∀ v1 : Int, v1 = (if ¬ (x0 < x2) ∧ (¬ (x4 < x0)) then 1 else 0) → ZV Γ w 18 [(0, al x0), (2, al x2), (4, al x4)] (ai v1 :: []) := by
    intro v1 ev1
    have h := h v1 ev1
    have rv1 : zr v1 := by rw [ev1]; exact (zr_ite (zr_k 1 (by decide) (by decide)) (zr_k 0 (by decide) (by decide)))
    have bv1 : v1 = 0 ∨ v1 = 1 := by rw [ev1]; exact (zb_ite (Or.inr rfl) (Or.inl rfl))
    exact zv_iret (ty := .boolean) rv1 G M (zn_Z bv1) dX0_isIn_18 h
  refine zv_lif_lt (tgt := 17) G (by decide) dX0_isIn_3 (fun c3 => ?_) (fun c3 => ?_)
  · refine zv_iconst (a := 0) G (by decide) dX0_isIn_17 ?_
    exact kj2 _ (if_neg (fun q => q.1 c3)).symm
  · refine zv_lload_n G rfl rfl dX0_isIn_6 ?_
    refine zv_lload G rfl dX0_isIn_7 ?_
    refine zv_lcmp G rx0 rx4 dX0_isIn_9 ?_
    refine zv_lif_gt (tgt := 17) G (by decide) dX0_isIn_10 (fun c4 => ?_) (fun c4 => ?_)
    · refine zv_iconst (a := 0) G (by decide) dX0_isIn_17 ?_
      exact kj2 _ (if_neg (fun q => (fun q => q c4) q.2)).symm
    · refine zv_iconst (a := 1) G (by decide) dX0_isIn_13 ?_
      refine zv_goto (tgt := 18) G (by decide) dX0_isIn_14 ?_
      exact kj2 _ (if_pos ⟨c3, c4⟩).symm
set_option maxHeartbeats 4000000 in
set_option maxRecDepth 100000 in
theorem cpC_X0_read_162 {Γ : ZG CW} {D : CD} {d p : Nat} (hp : D.K.1 = p) (G : ZOk Γ cX0_read RX0 3 (KnC D) (ZC D)) (M : ZRm Γ (d + 1) D.lim (Option.some Jvm.ClassFile.FieldType.int) "read" [(15, 127, 130, 61), (15, 127, 154, 443)]) (S : SdC d D p Γ.l) (hl : Γ.l.stackTraces = false) (hk : 0 ≤ d) {x1 : Int} {w : CW} (rx1 : zr x1) (h : pC_X0_read_162 p (wpC p d) (fun v w => Γ.Q (.inl (some (ai v))) w) x1 w) : ZV Γ w 162 [(0, ar p), (1, ai x1)] [] := by
  refine zc_wk G hp (fun hw tw => ?_)
  refine zv_aload_n G rfl rfl dX0_read_162 ?_
  refine zv_iconst (a := 0) G (by decide) dX0_read_163 ?_
  refine zc_putI (f := 8) G M (hPp tw rfl) rfl q2064 (Or.inl rfl) (Or.inl rfl) (zfty_8) rfl rfl (by decide) (by decide) (zr_k 0 (by decide) (by decide)) dX0_read_164 (fun u19 eu19 => ?_)
  have h := h u19 eu19
  refine zc_wk G hp (fun hu19 tu19 => ?_)
  refine zv_iload_n G rfl rfl dX0_read_167 ?_
  exact zv_iret (ty := .int) rx1 G M rfl dX0_read_168 h
set_option maxHeartbeats 4000000 in
set_option maxRecDepth 100000 in
theorem cpC_X0_read_117 {Γ : ZG CW} {D : CD} {d p : Nat} (hp : D.K.1 = p) (G : ZOk Γ cX0_read RX0 3 (KnC D) (ZC D)) (M : ZRm Γ (d + 1) D.lim (Option.some Jvm.ClassFile.FieldType.int) "read" [(15, 127, 130, 61), (15, 127, 154, 443)]) (S : SdC d D p Γ.l) (hl : Γ.l.stackTraces = false) (hk : 0 ≤ d) {w : CW} (h : pC_X0_read_117 p (wpC p d) (fun v w => Γ.Q (.inl (some (ai v))) w) w) : ZV Γ w 117 [(0, ar p)] [] := by
  refine zc_wk G hp (fun hw tw => ?_)
  refine zv_aload_n G rfl rfl dX0_read_117 ?_
  refine zv_iconst (a := 1) G (by decide) dX0_read_118 ?_
  refine zc_putI (f := 22) G M (hPp tw rfl) rfl q2078 (Or.inl rfl) (Or.inl rfl) (zfty_22) (zn_Z (Or.inr rfl)) (zf_Z (Or.inr rfl)) (by decide) (by decide) (zr_k 1 (by decide) (by decide)) dX0_read_119 (fun u17 eu17 => ?_)
  have h := h u17 eu17
  refine zc_wk G hp (fun hu17 tu17 => ?_)
  refine zv_aload_n G rfl rfl dX0_read_122 ?_
  refine zc_get (f := 6) (v := ai (fI u17 6 p)) G (hFp tu17 rfl) rfl q2062 (Or.inl rfl) (cV_I (by decide) (by decide)) dX0_read_123 ?_
  refine zv_istore_nN G rfl (by decide) dX0_read_126 (fun x1_18 ex1_18 => ?_)
  have h := h x1_18 ex1_18
  have rx1_18 : zr x1_18 := by rw [ex1_18]; exact (hu17.i 6 _ (by decide))
  refine zv_goto (tgt := 162) G (by decide) dX0_read_127 ?_
  exact zv_pick [0, 1] rfl (cpC_X0_read_162 hp G M S hl hk rx1_18 h)
set_option maxHeartbeats 4000000 in
set_option maxRecDepth 100000 in
theorem cpC_X0_read_130 {Γ : ZG CW} {D : CD} {d p : Nat} (hp : D.K.1 = p) (G : ZOk Γ cX0_read RX0 3 (KnC D) (ZC D)) (M : ZRm Γ (d + 1) D.lim (Option.some Jvm.ClassFile.FieldType.int) "read" [(15, 127, 130, 61), (15, 127, 154, 443)]) (S : SdC d D p Γ.l) (hl : Γ.l.stackTraces = false) (hk : 0 ≤ d) {s0 : Nat} {w : CW} (h : pC_X0_read_130 p (wpC p d) (fun v w => Γ.Q (.inl (some (ai v))) w) s0 w) : ZV Γ w 130 [(0, ar p)] [ar s0] := by
  refine zc_wk G hp (fun hw tw => ?_)
  refine zv_astore_n G rfl (by decide) rfl dX0_read_130 ?_
  refine zv_aload_n G rfl rfl dX0_read_131 ?_
  refine zv_aload_n G rfl rfl dX0_read_132 ?_
  have o29 := h.1
  have h := h.2
  refine zc_get (f := 35) (v := ai (fI w 35 s0)) G o29 rfl q289 (Or.inl rfl) (cV_I (by decide) (by decide)) dX0_read_133 ?_
  refine zc_putI (f := 21) G M (hPp tw rfl) rfl q2077 (Or.inl rfl) (Or.inl rfl) (zfty_21) rfl rfl (by decide) (by decide) (hw.i 35 _ (by decide)) dX0_read_136 (fun u30 eu30 => ?_)
  have h := h u30 eu30
  refine zc_wk G hp (fun hu30 tu30 => ?_)
  refine zv_aload_n G rfl rfl dX0_read_139 ?_
  refine zv_callV (as := [ar p]) (st := []) G M (zc_eV (C := zcn 1) G q1535 q1537 qs53 (Or.inl ⟨rfl, rfl⟩) q1538 md_X0_clear (zc_rc G (zne tu30 tu30.1 (by decide)) tu30.1 (by decide) (by decide) rfl) rfl dX0_read_140) (S 44 _ rfl _ _ _ h (zoks_cons trivial zoks_nil)) (Or.inl ⟨rfl, rfl⟩) (zc_hk q1538 q143) (by decide) (Nat.le_of_ble_eq_true rfl) (fun u31 h => ?_) (fun _ _ h => h.elim)
  refine zc_wk G hp (fun hu31 tu31 => ?_)
  refine zv_bipush (a := (-10)) G (by decide) dX0_read_143 ?_
  refine zv_aload_n G rfl rfl dX0_read_145 ?_
  have o33 := h.1
  have h := h.2
  refine zc_get (f := 36) (v := ai (fI u31 36 s0)) G o33 rfl q291 (Or.inl rfl) (cV_I (by decide) (by decide)) dX0_read_146 ?_
  refine zv_isub G dX0_read_149 ?_
  refine zv_istore_nN G rfl (by decide) dX0_read_150 (fun x1_34 ex1_34 => ?_)
  have h := h x1_34 ex1_34
  have rx1_34 : zr x1_34 := by rw [ex1_34]; exact (w32_r _)
  refine zv_goto (tgt := 162) G (by decide) dX0_read_151 ?_
  exact zv_pick [0, 1] rfl (cpC_X0_read_162 hp G M S hl hk rx1_34 h)
set_option maxHeartbeats 4000000 in
set_option maxRecDepth 100000 in
theorem cpC_X0_read_154 {Γ : ZG CW} {D : CD} {d p : Nat} (hp : D.K.1 = p) (G : ZOk Γ cX0_read RX0 3 (KnC D) (ZC D)) (M : ZRm Γ (d + 1) D.lim (Option.some Jvm.ClassFile.FieldType.int) "read" [(15, 127, 130, 61), (15, 127, 154, 443)]) (S : SdC d D p Γ.l) (hl : Γ.l.stackTraces = false) (hk : 0 ≤ d) {s0 : Nat} {w : CW} (h : pC_X0_read_154 p (wpC p d) (fun v w => Γ.Q (.inl (some (ai v))) w) s0 w) : ZV Γ w 154 [(0, ar p)] [ar s0] := by
  refine zc_wk G hp (fun hw tw => ?_)
  refine zv_astore_n G rfl (by decide) rfl dX0_read_154 ?_
  refine zv_aload_n G rfl rfl dX0_read_155 ?_
  refine zv_callV (as := [ar p]) (st := []) G M (zc_eV (C := zcn 1) G q1535 q1537 qs53 (Or.inl ⟨rfl, rfl⟩) q1538 md_X0_clear (zc_rc G (zne tw tw.1 (by decide)) tw.1 (by decide) (by decide) rfl) rfl dX0_read_156) (S 44 _ rfl _ _ _ h (zoks_cons trivial zoks_nil)) (Or.inl ⟨rfl, rfl⟩) (zc_hk q1538 q143) (by decide) (Nat.le_of_ble_eq_true rfl) (fun u35 h => ?_) (fun _ _ h => h.elim)
  refine zc_wk G hp (fun hu35 tu35 => ?_)
  refine zv_bipush (a := (-3)) G (by decide) dX0_read_159 ?_
  refine zv_istore_n G rfl (by decide) rfl dX0_read_161 ?_
  exact zv_pick [0, 1] rfl (cpC_X0_read_162 hp G M S hl hk (zr_k (-3) (by decide) (by decide)) h)
set_option maxHeartbeats 4000000 in
set_option maxRecDepth 100000 in
theorem cpC_X0_read_84 {Γ : ZG CW} {D : CD} {d p : Nat} (hp : D.K.1 = p) (G : ZOk Γ cX0_read RX0 3 (KnC D) (ZC D)) (M : ZRm Γ (d + 1) D.lim (Option.some Jvm.ClassFile.FieldType.int) "read" [(15, 127, 130, 61), (15, 127, 154, 443)]) (S : SdC d D p Γ.l) (hl : Γ.l.stackTraces = false) (hk : 0 ≤ d) {x2 : Int} {w : CW} (rx2 : zr x2) (h : pC_X0_read_84 p (wpC p d) (fun v w => Γ.Q (.inl (some (ai v))) w) x2 w) : ZV Γ w 84 [(0, ar p), (2, ai x2)] [] := by
  obtain ⟨I84, eI84⟩ : ∃ I : Int → CW → Prop, I = (fun x2 w => zr x2 → ZV Γ w 84 [(0, ar p), (2, ai x2)] []) := ⟨_, rfl⟩
  have hI84 : ∀ (x2 : Int) (w : CW), I84 x2 w → zr x2 → ZV Γ w 84 [(0, ar p), (2, ai x2)] [] := by subst eI84; exact fun _ _ z => z
  have hJ84 : ∀ (x2 : Int) (w : CW), (zr x2 → ZV Γ w 84 [(0, ar p), (2, ai x2)] []) → I84 x2 w := by subst eI84; exact fun _ _ z => z
  refine hI84 x2 w (h I84 (fun x2 w h => hJ84 x2 w (fun rx2 => ?_))) rx2
  refine zc_wk G hp (fun hw tw => ?_)
  refine zv_iload_n G rfl rfl dX0_read_84 ?_
  refine zv_aload_n G rfl rfl dX0_read_85 ?_
  refine zc_get (f := 6) (v := ai (fI w 6 p)) G (hFp tw rfl) rfl q2062 (Or.inl rfl) (cV_I (by decide) (by decide)) dX0_read_86 ?_
  refine zv_icmp_ge (tgt := 117) G rx2 (hw.i 6 _ (by decide)) (by decide) dX0_read_89 (fun c16 => ?_) (fun c16 => ?_)
  · have h := h.1 c16
    exact zv_pick [0] rfl (cpC_X0_read_117 hp G M S hl hk h)
  · have h := h.2 c16
    refine zv_aload_n G rfl rfl dX0_read_92 ?_
    refine zc_get (f := 5) (v := ar (fR w 5 p)) G (hFp tw rfl) rfl q2061 (Or.inl rfl) (cV_R rfl) dX0_read_93 ?_
    refine zv_iload_n G rfl rfl dX0_read_96 ?_
    have o20 := h.1
    have h := h.2
    refine zc_aald G o20.1 rx2 o20.2.1 o20.2.2 dX0_read_97 ?_
    have o38 := h.1
    have h := h.2
    refine zv_callV (as := [ar (aR w (fR w 5 p) x2)]) (st := []) G M (zc_eV (C := zcn 4) G q1087 q1088 q1089 (Or.inl ⟨rfl, rfl⟩) q1090 md_X4_lay (zc_rc G (zne tw o38 (by decide)) o38 (by decide) (by decide) rfl) rfl dX0_read_98) (S 86 _ rfl _ _ _ h (zoks_cons trivial zoks_nil)) (Or.inl ⟨rfl, rfl⟩) (zc_hk q1090 q160) (by decide) (Nat.le_of_ble_eq_true rfl) (fun u21 h => ?_) (fun _ _ h => h.elim)
    refine zc_wk G hp (fun hu21 tu21 => ?_)
    refine zv_aload_n G rfl rfl dX0_read_101 ?_
    refine zc_get (f := 5) (v := ar (fR u21 5 p)) G (hFp tu21 rfl) rfl q2061 (Or.inl rfl) (cV_R rfl) dX0_read_102 ?_
    refine zv_iload_n G rfl rfl dX0_read_105 ?_
    have o23 := h.1
    have h := h.2
    refine zc_aald G o23.1 rx2 o23.2.1 o23.2.2 dX0_read_106 ?_
    refine zv_iconst (a := 0) G (by decide) dX0_read_107 ?_
    have o37 := h.1
    have h := h.2
    refine zv_callV (as := [ar (aR u21 (fR u21 5 p) x2), ai 0]) (st := []) G M (zc_eV (C := zcn 4) G q1195 q1196 q1197 (Or.inl ⟨rfl, rfl⟩) q1198 md_X4_remake (zc_rc G (zne tu21 o37 (by decide)) o37 (by decide) (by decide) rfl) rfl dX0_read_108) (S 88 _ rfl _ _ _ h (zoks_cons trivial (zoks_cons (zr_k 0 (by decide) (by decide)) zoks_nil))) (Or.inl ⟨rfl, rfl⟩) (zc_hk q1198 q160) (by decide) (Nat.le_of_ble_eq_true rfl) (fun u24 h => ?_) (fun x27 u28 h => ?_)
    rotate_left
    · by_cases ht : tg u28 x27 = 2
      · have h := h.1 ht
        refine zx_catch G M (by rw [ht]; decide) (by rw [ht]; decide) (by rw [ht]; rfl) q206 (by decide) (by decide) ?_
        refine zc_wk G hp (fun hu28 tu28 => ?_)
        exact zv_pick [0] rfl (cpC_X0_read_130 hp G M S hl hk h)
      · have h := h.2 ht
        have ht := h.1
        have h := h.2
        refine zx_catch2 G M (by rw [ht]; decide) (by rw [ht]; decide) (by rw [ht]; rfl) (by rw [ht]; decide) q206 (by decide) (by decide) q207 (by decide) (by decide) ?_
        refine zc_wk G hp (fun hu28 tu28 => ?_)
        exact zv_pick [0] rfl (cpC_X0_read_154 hp G M S hl hk h)
    refine zc_wk G hp (fun hu24 tu24 => ?_)
    refine zv_iincN G rfl (by decide) dX0_read_111 (fun x2_26 ex2_26 => ?_)
    have h := h x2_26 ex2_26
    have rx2_26 : zr x2_26 := by rw [ex2_26]; exact w32_r _
    refine zv_goto (tgt := 84) G (by decide) dX0_read_114 ?_
    exact zv_pick [0, 2] rfl (hI84 _ _ h rx2_26)
set_option maxHeartbeats 4000000 in
set_option maxRecDepth 100000 in
theorem cpC_X0_read_62 {Γ : ZG CW} {D : CD} {d p : Nat} (hp : D.K.1 = p) (G : ZOk Γ cX0_read RX0 3 (KnC D) (ZC D)) (M : ZRm Γ (d + 1) D.lim (Option.some Jvm.ClassFile.FieldType.int) "read" [(15, 127, 130, 61), (15, 127, 154, 443)]) (S : SdC d D p Γ.l) (hl : Γ.l.stackTraces = false) (hk : 0 ≤ d) {w : CW} (h : pC_X0_read_62 p (wpC p d) (fun v w => Γ.Q (.inl (some (ai v))) w) w) : ZV Γ w 62 [(0, ar p)] [] := by
  refine zc_wk G hp (fun hw tw => ?_)
  refine zv_aload_n G rfl rfl dX0_read_62 ?_
  refine zv_aload_n G rfl rfl dX0_read_63 ?_
  refine zc_get (f := 10) (v := ai (fI w 10 p)) G (hFp tw rfl) rfl q2066 (Or.inl rfl) (cV_I (by decide) (by decide)) dX0_read_64 ?_
  have kj43 : ∀ v11 : Int, v11 = (if (fI w 10 p) = 0 then 1 else 0) → ZV Γ w 75 [(0, ar p)] (ai v11 :: ar p :: []) := by
    intro v11 ev11
    have h := h v11 ev11
    have rv11 : zr v11 := by rw [ev11]; exact (zr_ite (zr_k 1 (by decide) (by decide)) (zr_k 0 (by decide) (by decide)))
    have bv11 : v11 = 0 ∨ v11 = 1 := by rw [ev11]; exact (zb_ite (Or.inr rfl) (Or.inl rfl))
    refine zv_callV (as := [ar p, ai v11]) (st := []) G M (zc_eV (C := zcn 1) G q667 q669 qs10 (Or.inl ⟨rfl, rfl⟩) q670 md_X0_want (zc_rc G (zne tw tw.1 (by decide)) tw.1 (by decide) (by decide) rfl) rfl dX0_read_75) (S 14 _ rfl _ _ _ h (zoks_cons trivial (zoks_cons rv11 zoks_nil))) (Or.inl ⟨rfl, rfl⟩) (zc_hk q670 q143) (by decide) (Nat.le_of_ble_eq_true rfl) (fun u12 h => ?_) (fun x41 u42 h => ?_)
    rotate_left
    · by_cases ht : tg u42 x41 = 2
      · have h := h.1 ht
        refine zx_catch G M (by rw [ht]; decide) (by rw [ht]; decide) (by rw [ht]; rfl) q206 (by decide) (by decide) ?_
        refine zc_wk G hp (fun hu42 tu42 => ?_)
        exact zv_pick [0] rfl (cpC_X0_read_130 hp G M S hl hk h)
      · have h := h.2 ht
        have ht := h.1
        have h := h.2
        refine zx_catch2 G M (by rw [ht]; decide) (by rw [ht]; decide) (by rw [ht]; rfl) (by rw [ht]; decide) q206 (by decide) (by decide) q207 (by decide) (by decide) ?_
        refine zc_wk G hp (fun hu42 tu42 => ?_)
        exact zv_pick [0] rfl (cpC_X0_read_154 hp G M S hl hk h)
    refine zc_wk G hp (fun hu12 tu12 => ?_)
    refine zv_aload_n G rfl rfl dX0_read_78 ?_
    refine zv_callV (as := [ar p]) (st := []) G M (zc_eV (C := zcn 1) G q1053 q1055 qs36 (Or.inl ⟨rfl, rfl⟩) q1056 md_X0_settle (zc_rc G (zne tu12 tu12.1 (by decide)) tu12.1 (by decide) (by decide) rfl) rfl dX0_read_79) (S 41 _ rfl _ _ _ h (zoks_cons trivial zoks_nil)) (Or.inl ⟨rfl, rfl⟩) (zc_hk q1056 q143) (by decide) (Nat.le_of_ble_eq_true rfl) (fun u14 h => ?_) (fun x39 u40 h => ?_)
    rotate_left
    · by_cases ht : tg u40 x39 = 2
      · have h := h.1 ht
        refine zx_catch G M (by rw [ht]; decide) (by rw [ht]; decide) (by rw [ht]; rfl) q206 (by decide) (by decide) ?_
        refine zc_wk G hp (fun hu40 tu40 => ?_)
        exact zv_pick [0] rfl (cpC_X0_read_130 hp G M S hl hk h)
      · have h := h.2 ht
        have ht := h.1
        have h := h.2
        refine zx_catch2 G M (by rw [ht]; decide) (by rw [ht]; decide) (by rw [ht]; rfl) (by rw [ht]; decide) q206 (by decide) (by decide) q207 (by decide) (by decide) ?_
        refine zc_wk G hp (fun hu40 tu40 => ?_)
        exact zv_pick [0] rfl (cpC_X0_read_154 hp G M S hl hk h)
    refine zc_wk G hp (fun hu14 tu14 => ?_)
    refine zv_iconst (a := 0) G (by decide) dX0_read_82 ?_
    refine zv_istore_n G rfl (by decide) rfl dX0_read_83 ?_
    exact zv_pick [0, 2] rfl (cpC_X0_read_84 hp G M S hl hk (zr_k 0 (by decide) (by decide)) h)
  refine zv_if_ne (tgt := 74) G (hw.i 10 _ (by decide)) (by decide) dX0_read_67 (fun c44 => ?_) (fun c44 => ?_)
  · refine zv_iconst (a := 0) G (by decide) dX0_read_74 ?_
    exact kj43 _ (if_neg c44).symm
  · refine zv_iconst (a := 1) G (by decide) dX0_read_70 ?_
    refine zv_goto (tgt := 75) G (by decide) dX0_read_71 ?_
    exact kj43 _ (if_pos c44).symm
set_option maxHeartbeats 4000000 in
set_option maxRecDepth 100000 in
theorem cpC_X0_read_45 {Γ : ZG CW} {D : CD} {d p : Nat} (hp : D.K.1 = p) (G : ZOk Γ cX0_read RX0 3 (KnC D) (ZC D)) (M : ZRm Γ (d + 1) D.lim (Option.some Jvm.ClassFile.FieldType.int) "read" [(15, 127, 130, 61), (15, 127, 154, 443)]) (S : SdC d D p Γ.l) (hl : Γ.l.stackTraces = false) (hk : 0 ≤ d) {w : CW} (h : pC_X0_read_45 p (wpC p d) (fun v w => Γ.Q (.inl (some (ai v))) w) w) : ZV Γ w 45 [(0, ar p)] [] := by
  obtain ⟨I45, eI45⟩ : ∃ I : CW → Prop, I = (fun w => ZV Γ w 45 [(0, ar p)] []) := ⟨_, rfl⟩
  have hI45 : ∀ (w : CW), I45 w → ZV Γ w 45 [(0, ar p)] [] := by subst eI45; exact fun _ z => z
  have hJ45 : ∀ (w : CW), (ZV Γ w 45 [(0, ar p)] []) → I45 w := by subst eI45; exact fun _ z => z
  refine hI45 w (h I45 (fun w h => hJ45 w ?_)) 
  refine zc_wk G hp (fun hw tw => ?_)
  refine zv_aload_n G rfl rfl dX0_read_45 ?_
  refine zc_ldcsw (k := 8) G rfl dX0_read_46 ?_
  refine zv_callI (as := [ar p, ar (sr w 8)]) (st := []) G M (zc_eV (C := zcn 1) G q647 q649 qs8 (Or.inl ⟨rfl, rfl⟩) q650 md_X0_isWord (zc_rc G (zne tw tw.1 (by decide)) tw.1 (by decide) (by decide) rfl) rfl dX0_read_49) (S 12 _ rfl _ _ _ h (zoks_cons trivial (zoks_cons trivial zoks_nil))) (Or.inl ⟨rfl, rfl⟩) (zc_hk q650 q143) (by decide) (Nat.le_of_ble_eq_true rfl) (fun v9 u8 rv9 h => ?_) (fun _ _ h => h.elim)
  refine zc_wk G hp (fun hu8 tu8 => ?_)
  refine zv_if_eq (tgt := 62) G rv9 (by decide) dX0_read_52 (fun c10 => ?_) (fun c10 => ?_)
  · have h := h.1 c10
    exact zv_pick [0] rfl (cpC_X0_read_62 hp G M S hl hk h)
  · have h := h.2 c10
    refine zv_aload_n G rfl rfl dX0_read_55 ?_
    refine zv_callV (as := [ar p]) (st := []) G M (zc_eV (C := zcn 1) G q725 q727 qs15 (Or.inl ⟨rfl, rfl⟩) q728 md_X0_readFunction (zc_rc G (zne tu8 tu8.1 (by decide)) tu8.1 (by decide) (by decide) rfl) rfl dX0_read_56) (S 19 _ rfl _ _ _ h (zoks_cons trivial zoks_nil)) (Or.inl ⟨rfl, rfl⟩) (zc_hk q728 q143) (by decide) (Nat.le_of_ble_eq_true rfl) (fun u45 h => ?_) (fun x47 u48 h => ?_)
    rotate_left
    · by_cases ht : tg u48 x47 = 2
      · have h := h.1 ht
        refine zx_catch G M (by rw [ht]; decide) (by rw [ht]; decide) (by rw [ht]; rfl) q206 (by decide) (by decide) ?_
        refine zc_wk G hp (fun hu48 tu48 => ?_)
        exact zv_pick [0] rfl (cpC_X0_read_130 hp G M S hl hk h)
      · have h := h.2 ht
        have ht := h.1
        have h := h.2
        refine zx_catch2 G M (by rw [ht]; decide) (by rw [ht]; decide) (by rw [ht]; rfl) (by rw [ht]; decide) q206 (by decide) (by decide) q207 (by decide) (by decide) ?_
        refine zc_wk G hp (fun hu48 tu48 => ?_)
        exact zv_pick [0] rfl (cpC_X0_read_154 hp G M S hl hk h)
    refine zc_wk G hp (fun hu45 tu45 => ?_)
    refine zv_goto (tgt := 45) G (by decide) dX0_read_59 ?_
    exact zv_pick [0] rfl (hI45 _ h )
set_option maxHeartbeats 4000000 in
set_option maxRecDepth 100000 in
theorem cpC_X0_read_19 {Γ : ZG CW} {D : CD} {d p : Nat} (hp : D.K.1 = p) (G : ZOk Γ cX0_read RX0 3 (KnC D) (ZC D)) (M : ZRm Γ (d + 1) D.lim (Option.some Jvm.ClassFile.FieldType.int) "read" [(15, 127, 130, 61), (15, 127, 154, 443)]) (S : SdC d D p Γ.l) (hl : Γ.l.stackTraces = false) (hk : 0 ≤ d) {w : CW} (h : pC_X0_read_19 p (wpC p d) (fun v w => Γ.Q (.inl (some (ai v))) w) w) : ZV Γ w 19 [(0, ar p)] [] := by
  obtain ⟨I19, eI19⟩ : ∃ I : CW → Prop, I = (fun w => ZV Γ w 19 [(0, ar p)] []) := ⟨_, rfl⟩
  have hI19 : ∀ (w : CW), I19 w → ZV Γ w 19 [(0, ar p)] [] := by subst eI19; exact fun _ z => z
  have hJ19 : ∀ (w : CW), (ZV Γ w 19 [(0, ar p)] []) → I19 w := by subst eI19; exact fun _ z => z
  refine hI19 w (h I19 (fun w h => hJ19 w ?_)) 
  refine zc_wk G hp (fun hw tw => ?_)
  refine zv_aload_n G rfl rfl dX0_read_19 ?_
  refine zc_ldcsw (k := 3) G rfl dX0_read_20 ?_
  refine zv_callI (as := [ar p, ar (sr w 3)]) (st := []) G M (zc_eV (C := zcn 1) G q647 q649 qs8 (Or.inl ⟨rfl, rfl⟩) q650 md_X0_isWord (zc_rc G (zne tw tw.1 (by decide)) tw.1 (by decide) (by decide) rfl) rfl dX0_read_23) (S 12 _ rfl _ _ _ h (zoks_cons trivial (zoks_cons trivial zoks_nil))) (Or.inl ⟨rfl, rfl⟩) (zc_hk q650 q143) (by decide) (Nat.le_of_ble_eq_true rfl) (fun v6 u5 rv6 h => ?_) (fun _ _ h => h.elim)
  refine zc_wk G hp (fun hu5 tu5 => ?_)
  refine zv_if_eq (tgt := 45) G rv6 (by decide) dX0_read_26 (fun c7 => ?_) (fun c7 => ?_)
  · have h := h.1 c7
    exact zv_pick [0] rfl (cpC_X0_read_45 hp G M S hl hk h)
  · have h := h.2 c7
    refine zv_aload_n G rfl rfl dX0_read_29 ?_
    refine zv_callV (as := [ar p]) (st := []) G M (zc_eV (C := zcn 1) G q213 q215 qs1 (Or.inl ⟨rfl, rfl⟩) q216 md_X0_next (zc_rc G (zne tu5 tu5.1 (by decide)) tu5.1 (by decide) (by decide) rfl) rfl dX0_read_30) (S 4 _ rfl _ _ _ h (zoks_cons trivial zoks_nil)) (Or.inl ⟨rfl, rfl⟩) (zc_hk q216 q143) (by decide) (Nat.le_of_ble_eq_true rfl) (fun u49 h => ?_) (fun x59 u60 h => ?_)
    rotate_left
    · by_cases ht : tg u60 x59 = 2
      · have h := h.1 ht
        refine zx_catch G M (by rw [ht]; decide) (by rw [ht]; decide) (by rw [ht]; rfl) q206 (by decide) (by decide) ?_
        refine zc_wk G hp (fun hu60 tu60 => ?_)
        exact zv_pick [0] rfl (cpC_X0_read_130 hp G M S hl hk h)
      · have h := h.2 ht
        have ht := h.1
        have h := h.2
        refine zx_catch2 G M (by rw [ht]; decide) (by rw [ht]; decide) (by rw [ht]; rfl) (by rw [ht]; decide) q206 (by decide) (by decide) q207 (by decide) (by decide) ?_
        refine zc_wk G hp (fun hu60 tu60 => ?_)
        exact zv_pick [0] rfl (cpC_X0_read_154 hp G M S hl hk h)
    refine zc_wk G hp (fun hu49 tu49 => ?_)
    refine zv_aload_n G rfl rfl dX0_read_33 ?_
    refine zv_iconst (a := 0) G (by decide) dX0_read_34 ?_
    refine zv_callV (as := [ar p, ai 0]) (st := []) G M (zc_eV (C := zcn 1) G q663 q665 qs9 (Or.inl ⟨rfl, rfl⟩) q666 md_X0_readKind (zc_rc G (zne tu49 tu49.1 (by decide)) tu49.1 (by decide) (by decide) rfl) rfl dX0_read_35) (S 13 _ rfl _ _ _ h (zoks_cons trivial (zoks_cons (zr_k 0 (by decide) (by decide)) zoks_nil))) (Or.inl ⟨rfl, rfl⟩) (zc_hk q666 q143) (by decide) (Nat.le_of_ble_eq_true rfl) (fun u51 h => ?_) (fun x57 u58 h => ?_)
    rotate_left
    · by_cases ht : tg u58 x57 = 2
      · have h := h.1 ht
        refine zx_catch G M (by rw [ht]; decide) (by rw [ht]; decide) (by rw [ht]; rfl) q206 (by decide) (by decide) ?_
        refine zc_wk G hp (fun hu58 tu58 => ?_)
        exact zv_pick [0] rfl (cpC_X0_read_130 hp G M S hl hk h)
      · have h := h.2 ht
        have ht := h.1
        have h := h.2
        refine zx_catch2 G M (by rw [ht]; decide) (by rw [ht]; decide) (by rw [ht]; rfl) (by rw [ht]; decide) q206 (by decide) (by decide) q207 (by decide) (by decide) ?_
        refine zc_wk G hp (fun hu58 tu58 => ?_)
        exact zv_pick [0] rfl (cpC_X0_read_154 hp G M S hl hk h)
    refine zc_wk G hp (fun hu51 tu51 => ?_)
    refine zv_aload_n G rfl rfl dX0_read_38 ?_
    refine zv_callV (as := [ar p]) (st := []) G M (zc_eV (C := zcn 1) G q213 q215 qs1 (Or.inl ⟨rfl, rfl⟩) q216 md_X0_next (zc_rc G (zne tu51 tu51.1 (by decide)) tu51.1 (by decide) (by decide) rfl) rfl dX0_read_39) (S 4 _ rfl _ _ _ h (zoks_cons trivial zoks_nil)) (Or.inl ⟨rfl, rfl⟩) (zc_hk q216 q143) (by decide) (Nat.le_of_ble_eq_true rfl) (fun u53 h => ?_) (fun x55 u56 h => ?_)
    rotate_left
    · by_cases ht : tg u56 x55 = 2
      · have h := h.1 ht
        refine zx_catch G M (by rw [ht]; decide) (by rw [ht]; decide) (by rw [ht]; rfl) q206 (by decide) (by decide) ?_
        refine zc_wk G hp (fun hu56 tu56 => ?_)
        exact zv_pick [0] rfl (cpC_X0_read_130 hp G M S hl hk h)
      · have h := h.2 ht
        have ht := h.1
        have h := h.2
        refine zx_catch2 G M (by rw [ht]; decide) (by rw [ht]; decide) (by rw [ht]; rfl) (by rw [ht]; decide) q206 (by decide) (by decide) q207 (by decide) (by decide) ?_
        refine zc_wk G hp (fun hu56 tu56 => ?_)
        exact zv_pick [0] rfl (cpC_X0_read_154 hp G M S hl hk h)
    refine zc_wk G hp (fun hu53 tu53 => ?_)
    refine zv_goto (tgt := 19) G (by decide) dX0_read_42 ?_
    exact zv_pick [0] rfl (hI19 _ h )
set_option maxHeartbeats 4000000 in
set_option maxRecDepth 100000 in
theorem cpC_X0_read_0 {Γ : ZG CW} {D : CD} {d p : Nat} (hp : D.K.1 = p) (G : ZOk Γ cX0_read RX0 3 (KnC D) (ZC D)) (M : ZRm Γ (d + 1) D.lim (Option.some Jvm.ClassFile.FieldType.int) "read" [(15, 127, 130, 61), (15, 127, 154, 443)]) (S : SdC d D p Γ.l) (hl : Γ.l.stackTraces = false) (hk : 0 ≤ d) {w : CW} (h : pC_X0_read_0 p (wpC p d) (fun v w => Γ.Q (.inl (some (ai v))) w) w) : ZV Γ w 0 [(0, ar p)] [] := by
  refine zc_wk G hp (fun hw tw => ?_)
  refine zv_aload_n G rfl rfl dX0_read_0 ?_
  refine zc_get (f := 22) (v := ai (fI w 22 p)) G (hFp tw rfl) rfl q2078 (Or.inl rfl) (cV_I (by decide) (by decide)) dX0_read_1 ?_
  refine zv_if_eq (tgt := 10) G (hw.i 22 _ (by decide)) (by decide) dX0_read_4 (fun c1 => ?_) (fun c1 => ?_)
  · have h := h.1 c1
    refine zv_aload_n G rfl rfl dX0_read_10 ?_
    refine zv_iconst (a := 0) G (by decide) dX0_read_11 ?_
    refine zc_putI (f := 21) G M (hPp tw rfl) rfl q2077 (Or.inl rfl) (Or.inl rfl) (zfty_21) rfl rfl (by decide) (by decide) (zr_k 0 (by decide) (by decide)) dX0_read_12 (fun u2 eu2 => ?_)
    have h := h u2 eu2
    refine zc_wk G hp (fun hu2 tu2 => ?_)
    refine zv_aload_n G rfl rfl dX0_read_15 ?_
    refine zv_callV (as := [ar p]) (st := []) G M (zc_eV (C := zcn 1) G q208 q210 qs0 (Or.inl ⟨rfl, rfl⟩) q212 md_X0_begin (zc_rc G (zne tu2 tu2.1 (by decide)) tu2.1 (by decide) (by decide) rfl) rfl dX0_read_16) (S 3 _ rfl _ _ _ h (zoks_cons trivial zoks_nil)) (Or.inl ⟨rfl, rfl⟩) (zc_hk q212 q143) (by decide) (Nat.le_of_ble_eq_true rfl) (fun u3 h => ?_) (fun x61 u62 h => ?_)
    rotate_left
    · by_cases ht : tg u62 x61 = 2
      · have h := h.1 ht
        refine zx_catch G M (by rw [ht]; decide) (by rw [ht]; decide) (by rw [ht]; rfl) q206 (by decide) (by decide) ?_
        refine zc_wk G hp (fun hu62 tu62 => ?_)
        exact zv_pick [0] rfl (cpC_X0_read_130 hp G M S hl hk h)
      · have h := h.2 ht
        have ht := h.1
        have h := h.2
        refine zx_catch2 G M (by rw [ht]; decide) (by rw [ht]; decide) (by rw [ht]; rfl) (by rw [ht]; decide) q206 (by decide) (by decide) q207 (by decide) (by decide) ?_
        refine zc_wk G hp (fun hu62 tu62 => ?_)
        exact zv_pick [0] rfl (cpC_X0_read_154 hp G M S hl hk h)
    refine zc_wk G hp (fun hu3 tu3 => ?_)
    exact zv_pick [0] rfl (cpC_X0_read_19 hp G M S hl hk h)
  · have h := h.2 c1
    refine zv_bipush (a := (-2)) G (by decide) dX0_read_7 ?_
    exact zv_iret (ty := .int) (zr_k (-2) (by decide) (by decide)) G M rfl dX0_read_9 h
set_option maxHeartbeats 4000000 in
set_option maxRecDepth 100000 in
theorem cpC_X0_begin_0 {Γ : ZG CW} {D : CD} {d p : Nat} (hp : D.K.1 = p) (G : ZOk Γ cX0_begin RX0 1 (KnC D) (ZC D)) (M : ZRm Γ (d + 1) D.lim (Option.none : Option Jvm.ClassFile.FieldType) "begin" []) (S : SdC d D p Γ.l) (hl : Γ.l.stackTraces = false) (hk : 0 ≤ d) {w : CW} (h : pC_X0_begin_0 p (wpC p d) (fun w => Γ.Q (.inl none) w) (fun x w => Γ.Q (.inr x) w) w) : ZV Γ w 0 [(0, ar p)] [] := by
  refine zc_wk G hp (fun hw tw => ?_)
  refine zv_aload_n G rfl rfl dX0_begin_0 ?_
  refine zv_iconst (a := 0) G (by decide) dX0_begin_1 ?_
  refine zc_putI (f := 9) G M (hPp tw rfl) rfl q2065 (Or.inl rfl) (Or.inl rfl) (zfty_9) rfl rfl (by decide) (by decide) (zr_k 0 (by decide) (by decide)) dX0_begin_2 (fun u1 eu1 => ?_)
  have h := h u1 eu1
  refine zc_wk G hp (fun hu1 tu1 => ?_)
  refine zv_aload_n G rfl rfl dX0_begin_5 ?_
  refine zv_callV (as := [ar p]) (st := []) G M (zc_eV (C := zcn 1) G q213 q215 qs1 (Or.inl ⟨rfl, rfl⟩) q216 md_X0_next (zc_rc G (zne tu1 tu1.1 (by decide)) tu1.1 (by decide) (by decide) rfl) rfl dX0_begin_6) (S 4 _ rfl _ _ _ h (zoks_cons trivial zoks_nil)) (Or.inl ⟨rfl, rfl⟩) (zc_hk q216 q143) (by decide) (Nat.le_of_ble_eq_true rfl) (fun u2 h => ?_) (fun x4 u5 h => ?_)
  rotate_left
  · exact zx_leave G M rfl h
  refine zc_wk G hp (fun hu2 tu2 => ?_)
  exact zv_vret G M dX0_begin_9 h
set_option maxHeartbeats 4000000 in
set_option maxRecDepth 100000 in
theorem cpC_X0_next_260 {Γ : ZG CW} {D : CD} {d p : Nat} (hp : D.K.1 = p) (G : ZOk Γ cX0_next RX0 3 (KnC D) (ZC D)) (M : ZRm Γ (d + 1) D.lim (Option.none : Option Jvm.ClassFile.FieldType) "next" []) (S : SdC d D p Γ.l) (hl : Γ.l.stackTraces = false) (hk : 0 ≤ d) {w : CW} (h : pC_X0_next_260 p (wpC p d) (fun w => Γ.Q (.inl none) w) (fun x w => Γ.Q (.inr x) w) w) : ZV Γ w 260 [] [] := by
  refine zc_wk G hp (fun hw tw => ?_)
  exact zv_vret G M dX0_next_260 h
set_option maxHeartbeats 4000000 in
set_option maxRecDepth 100000 in
theorem cpC_X0_next_63 {Γ : ZG CW} {D : CD} {d p : Nat} (hp : D.K.1 = p) (G : ZOk Γ cX0_next RX0 3 (KnC D) (ZC D)) (M : ZRm Γ (d + 1) D.lim (Option.none : Option Jvm.ClassFile.FieldType) "next" []) (S : SdC d D p Γ.l) (hl : Γ.l.stackTraces = false) (hk : 0 ≤ d) {x1 : Int} {w : CW} (rx1 : zr x1) (h : pC_X0_next_63 p (wpC p d) (fun w => Γ.Q (.inl none) w) (fun x w => Γ.Q (.inr x) w) x1 w) : ZV Γ w 63 [(0, ar p), (1, ai x1)] [] := by
  refine zc_wk G hp (fun hw tw => ?_)
  refine zv_aload_n G rfl rfl dX0_next_63 ?_
  refine zv_iload_n G rfl rfl dX0_next_64 ?_
  refine zv_callI (as := [ai x1]) (st := [ar p]) G M (zc_eS G q225 q226 q143 q227 md_X0_isSmall rfl dX0_next_65) (S 7 _ rfl _ _ _ h (zoks_cons rx1 zoks_nil)) (Or.inl ⟨rfl, rfl⟩) (zc_hk q227 q143) (by decide) (Nat.le_of_ble_eq_true rfl) (fun v10 u9 rv10 h => ?_) (fun _ _ h => h.elim)
  refine zc_wk G hp (fun hu9 tu9 => ?_)
  refine zv_callV (as := [ar p, ai v10]) (st := []) G M (zc_eV (C := zcn 1) G q228 q230 qs4 (Or.inl ⟨rfl, rfl⟩) q231 md_X0_readLetters (zc_rc G (zne tu9 tu9.1 (by decide)) tu9.1 (by decide) (by decide) rfl) rfl dX0_next_68) (S 8 _ rfl _ _ _ h (zoks_cons trivial (zoks_cons rv10 zoks_nil))) (Or.inl ⟨rfl, rfl⟩) (zc_hk q231 q143) (by decide) (Nat.le_of_ble_eq_true rfl) (fun u11 h => ?_) (fun x13 u14 h => ?_)
  rotate_left
  · exact zx_leave G M rfl h
  refine zc_wk G hp (fun hu11 tu11 => ?_)
  refine zv_goto (tgt := 260) G (by decide) dX0_next_71 ?_
  exact zv_pick [] rfl (cpC_X0_next_260 hp G M S hl hk h)
set_option maxHeartbeats 4000000 in
set_option maxRecDepth 100000 in
theorem cpC_X0_next_222 {Γ : ZG CW} {D : CD} {d p : Nat} (hp : D.K.1 = p) (G : ZOk Γ cX0_next RX0 3 (KnC D) (ZC D)) (M : ZRm Γ (d + 1) D.lim (Option.none : Option Jvm.ClassFile.FieldType) "next" []) (S : SdC d D p Γ.l) (hl : Γ.l.stackTraces = false) (hk : 0 ≤ d) {x1 : Int} {s0 : Int} {s1 : Nat} {w : CW} (rx1 : zr x1) (rs0 : zr s0) (h : pC_X0_next_222 p (wpC p d) (fun w => Γ.Q (.inl none) w) (fun x w => Γ.Q (.inr x) w) x1 s0 s1 w) : ZV Γ w 222 [(0, ar p), (1, ai x1)] [ai s0, ar s1] := by
  refine zc_wk G hp (fun hw tw => ?_)
  refine zv_iconst (a := 1) G (by decide) dX0_next_222 ?_
  refine zv_aload_n G rfl rfl dX0_next_223 ?_
  refine zc_get (f := 11) (v := ai (fI w 11 p)) G (hFp tw rfl) rfl q2067 (Or.inl rfl) (cV_I (by decide) (by decide)) dX0_next_224 ?_
  have o30 := h.1
  have h := h.2
  refine zv_callV (as := [ar s1, ai s0, ai 1, ai (fI w 11 p)]) (st := []) G M (zc_eV (C := zcn 1) G q235 q237 qs5 (Or.inl ⟨rfl, rfl⟩) q238 md_X0_need (zc_rc G (zne tw o30 (by decide)) o30 (by decide) (by decide) rfl) rfl dX0_next_227) (S 10 _ rfl _ _ _ h (zoks_cons trivial (zoks_cons rs0 (zoks_cons (zr_k 1 (by decide) (by decide)) (zoks_cons (hw.i 11 _ (by decide)) zoks_nil))))) (Or.inl ⟨rfl, rfl⟩) (zc_hk q238 q143) (by decide) (Nat.le_of_ble_eq_true rfl) (fun u20 h => ?_) (fun x28 u29 h => ?_)
  rotate_left
  · exact zx_leave G M rfl h
  refine zc_wk G hp (fun hu20 tu20 => ?_)
  refine zv_aload_n G rfl rfl dX0_next_230 ?_
  refine zv_iconst (a := 5) G (by decide) dX0_next_231 ?_
  refine zc_putI (f := 10) G M (hPp tu20 rfl) rfl q2066 (Or.inl rfl) (Or.inl rfl) (zfty_10) rfl rfl (by decide) (by decide) (zr_k 5 (by decide) (by decide)) dX0_next_232 (fun u22 eu22 => ?_)
  have h := h u22 eu22
  refine zc_wk G hp (fun hu22 tu22 => ?_)
  refine zv_aload_n G rfl rfl dX0_next_235 ?_
  refine zv_iload_n G rfl rfl dX0_next_236 ?_
  refine zc_putI (f := 14) G M (hPp tu22 rfl) rfl q2070 (Or.inl rfl) (Or.inl rfl) (zfty_14) rfl rfl (by decide) (by decide) rx1 dX0_next_237 (fun u23 eu23 => ?_)
  have h := h u23 eu23
  refine zc_wk G hp (fun hu23 tu23 => ?_)
  refine zv_aload_n G rfl rfl dX0_next_240 ?_
  refine zv_dup G rfl dX0_next_241 ?_
  refine zc_get (f := 9) (v := ai (fI u23 9 p)) G (hFp tu23 rfl) rfl q2065 (Or.inl rfl) (cV_I (by decide) (by decide)) dX0_next_242 ?_
  refine zv_iload_n G rfl rfl dX0_next_245 ?_
  refine zv_bipush (a := 46) G (by decide) dX0_next_246 ?_
  have kj26 : ∀ v24 : Int, v24 = (if ¬ (x1 = 46) then 1 else 2) → ZV Γ u23 256 [(0, ar p), (1, ai x1)] (ai v24 :: ai (fI u23 9 p) :: ar p :: []) := by
    intro v24 ev24
    have h := h v24 ev24
    have rv24 : zr v24 := by rw [ev24]; exact (zr_ite (zr_k 1 (by decide) (by decide)) (zr_k 2 (by decide) (by decide)))
    refine zv_iadd G dX0_next_256 ?_
    refine zc_putI (f := 9) G M (hPp tu23 rfl) rfl q2065 (Or.inl rfl) (Or.inl rfl) (zfty_9) rfl rfl (by decide) (by decide) (w32_r _) dX0_next_257 (fun u25 eu25 => ?_)
    have h := h u25 eu25
    refine zc_wk G hp (fun hu25 tu25 => ?_)
    exact zv_pick [] rfl (cpC_X0_next_260 hp G M S hl hk h)
  refine zv_icmp_ne (tgt := 255) G rx1 (zr_k 46 (by decide) (by decide)) (by decide) dX0_next_248 (fun c27 => ?_) (fun c27 => ?_)
  · refine zv_iconst (a := 1) G (by decide) dX0_next_255 ?_
    exact kj26 _ (if_pos c27).symm
  · refine zv_iconst (a := 2) G (by decide) dX0_next_251 ?_
    refine zv_goto (tgt := 256) G (by decide) dX0_next_252 ?_
    exact kj26 _ (if_neg (fun q => q c27)).symm
set_option maxHeartbeats 4000000 in
set_option maxRecDepth 100000 in
theorem cpC_X0_next_221 {Γ : ZG CW} {D : CD} {d p : Nat} (hp : D.K.1 = p) (G : ZOk Γ cX0_next RX0 3 (KnC D) (ZC D)) (M : ZRm Γ (d + 1) D.lim (Option.none : Option Jvm.ClassFile.FieldType) "next" []) (S : SdC d D p Γ.l) (hl : Γ.l.stackTraces = false) (hk : 0 ≤ d) {x1 : Int} {s0 : Nat} {w : CW} (rx1 : zr x1) (h : pC_X0_next_221 p (wpC p d) (fun w => Γ.Q (.inl none) w) (fun x w => Γ.Q (.inr x) w) x1 s0 w) : ZV Γ w 221 [(0, ar p), (1, ai x1)] [ar s0] := by
  refine zc_wk G hp (fun hw tw => ?_)
  refine zv_iconst (a := 0) G (by decide) dX0_next_221 ?_
  exact zv_pick [0, 1] rfl (cpC_X0_next_222 hp G M S hl hk rx1 (zr_k 0 (by decide) (by decide)) h)
set_option maxHeartbeats 4000000 in
set_option maxRecDepth 100000 in
theorem cpC_X0_next_217 {Γ : ZG CW} {D : CD} {d p : Nat} (hp : D.K.1 = p) (G : ZOk Γ cX0_next RX0 3 (KnC D) (ZC D)) (M : ZRm Γ (d + 1) D.lim (Option.none : Option Jvm.ClassFile.FieldType) "next" []) (S : SdC d D p Γ.l) (hl : Γ.l.stackTraces = false) (hk : 0 ≤ d) {x1 : Int} {s0 : Nat} {w : CW} (rx1 : zr x1) (h : pC_X0_next_217 p (wpC p d) (fun w => Γ.Q (.inl none) w) (fun x w => Γ.Q (.inr x) w) x1 s0 w) : ZV Γ w 217 [(0, ar p), (1, ai x1)] [ar s0] := by
  refine zc_wk G hp (fun hw tw => ?_)
  refine zv_iconst (a := 1) G (by decide) dX0_next_217 ?_
  refine zv_goto (tgt := 222) G (by decide) dX0_next_218 ?_
  exact zv_pick [0, 1] rfl (cpC_X0_next_222 hp G M S hl hk rx1 (zr_k 1 (by decide) (by decide)) h)
set_option maxHeartbeats 4000000 in
set_option maxRecDepth 100000 in
theorem cpC_X0_next_166 {Γ : ZG CW} {D : CD} {d p : Nat} (hp : D.K.1 = p) (G : ZOk Γ cX0_next RX0 3 (KnC D) (ZC D)) (M : ZRm Γ (d + 1) D.lim (Option.none : Option Jvm.ClassFile.FieldType) "next" []) (S : SdC d D p Γ.l) (hl : Γ.l.stackTraces = false) (hk : 0 ≤ d) {w : CW} (h : pC_X0_next_166 p (wpC p d) (fun w => Γ.Q (.inl none) w) (fun x w => Γ.Q (.inr x) w) w) : ZV Γ w 166 [] [] := by
  refine zc_wk G hp (fun hw tw => ?_)
  refine zv_goto (tgt := 260) G (by decide) dX0_next_166 ?_
  exact zv_pick [] rfl (cpC_X0_next_260 hp G M S hl hk h)
set_option maxHeartbeats 4000000 in
set_option maxRecDepth 100000 in
theorem cpC_X0_next_93 {Γ : ZG CW} {D : CD} {d p : Nat} (hp : D.K.1 = p) (G : ZOk Γ cX0_next RX0 3 (KnC D) (ZC D)) (M : ZRm Γ (d + 1) D.lim (Option.none : Option Jvm.ClassFile.FieldType) "next" []) (S : SdC d D p Γ.l) (hl : Γ.l.stackTraces = false) (hk : 0 ≤ d) {x2 : Int} {w : CW} (rx2 : zr x2) (h : pC_X0_next_93 p (wpC p d) (fun w => Γ.Q (.inl none) w) (fun x w => Γ.Q (.inr x) w) x2 w) : ZV Γ w 93 [(0, ar p), (2, ai x2)] [] := by
  obtain ⟨I93, eI93⟩ : ∃ I : Int → CW → Prop, I = (fun x2 w => zr x2 → ZV Γ w 93 [(0, ar p), (2, ai x2)] []) := ⟨_, rfl⟩
  have hI93 : ∀ (x2 : Int) (w : CW), I93 x2 w → zr x2 → ZV Γ w 93 [(0, ar p), (2, ai x2)] [] := by subst eI93; exact fun _ _ z => z
  have hJ93 : ∀ (x2 : Int) (w : CW), (zr x2 → ZV Γ w 93 [(0, ar p), (2, ai x2)] []) → I93 x2 w := by subst eI93; exact fun _ _ z => z
  refine hI93 x2 w (h I93 (fun x2 w h => hJ93 x2 w (fun rx2 => ?_))) rx2
  refine zc_wk G hp (fun hw tw => ?_)
  refine zv_aload_n G rfl rfl dX0_next_93 ?_
  refine zv_aload_n G rfl rfl dX0_next_94 ?_
  refine zc_get (f := 9) (v := ai (fI w 9 p)) G (hFp tw rfl) rfl q2065 (Or.inl rfl) (cV_I (by decide) (by decide)) dX0_next_95 ?_
  refine zv_callI (as := [ar p, ai (fI w 9 p)]) (st := []) G M (zc_eV (C := zcn 1) G q221 q223 qs3 (Or.inl ⟨rfl, rfl⟩) q224 md_X0_unit (zc_rc G (zne tw tw.1 (by decide)) tw.1 (by decide) (by decide) rfl) rfl dX0_next_98) (S 6 _ rfl _ _ _ h (zoks_cons trivial (zoks_cons (hw.i 9 _ (by decide)) zoks_nil))) (Or.inl ⟨rfl, rfl⟩) (zc_hk q224 q143) (by decide) (Nat.le_of_ble_eq_true rfl) (fun v47 u46 rv47 h => ?_) (fun _ _ h => h.elim)
  refine zc_wk G hp (fun hu46 tu46 => ?_)
  refine zv_callI (as := [ai v47]) (st := []) G M (zc_eS G q232 q233 q143 q234 md_X0_isFigure rfl dX0_next_101) (S 9 _ rfl _ _ _ h (zoks_cons rv47 zoks_nil)) (Or.inl ⟨rfl, rfl⟩) (zc_hk q234 q143) (by decide) (Nat.le_of_ble_eq_true rfl) (fun v49 u48 rv49 h => ?_) (fun _ _ h => h.elim)
  refine zc_wk G hp (fun hu48 tu48 => ?_)
  refine zv_if_eq (tgt := 166) G rv49 (by decide) dX0_next_104 (fun c50 => ?_) (fun c50 => ?_)
  · have h := h.1 c50
    exact zv_pick [] rfl (cpC_X0_next_166 hp G M S hl hk h)
  · have h := h.2 c50
    refine zv_aload_n G rfl rfl dX0_next_107 ?_
    refine zv_iload_n G rfl rfl dX0_next_108 ?_
    refine zv_bipush (a := 9) G (by decide) dX0_next_109 ?_
    have kj61 : ∀ v51 : Int, v51 = (if ¬ (9 ≤ x2) then 1 else 0) → ZV Γ u48 119 [(0, ar p), (2, ai x2)] (ai v51 :: ar p :: []) := by
      intro v51 ev51
      have h := h v51 ev51
      have rv51 : zr v51 := by rw [ev51]; exact (zr_ite (zr_k 1 (by decide) (by decide)) (zr_k 0 (by decide) (by decide)))
      have bv51 : v51 = 0 ∨ v51 = 1 := by rw [ev51]; exact (zb_ite (Or.inr rfl) (Or.inl rfl))
      refine zv_iconst (a := 1) G (by decide) dX0_next_119 ?_
      refine zv_aload_n G rfl rfl dX0_next_120 ?_
      refine zc_get (f := 11) (v := ai (fI u48 11 p)) G (hFp tu48 rfl) rfl q2067 (Or.inl rfl) (cV_I (by decide) (by decide)) dX0_next_121 ?_
      refine zv_callV (as := [ar p, ai v51, ai 1, ai (fI u48 11 p)]) (st := []) G M (zc_eV (C := zcn 1) G q235 q237 qs5 (Or.inl ⟨rfl, rfl⟩) q238 md_X0_need (zc_rc G (zne tu48 tu48.1 (by decide)) tu48.1 (by decide) (by decide) rfl) rfl dX0_next_124) (S 10 _ rfl _ _ _ h (zoks_cons trivial (zoks_cons rv51 (zoks_cons (zr_k 1 (by decide) (by decide)) (zoks_cons (hu48.i 11 _ (by decide)) zoks_nil))))) (Or.inl ⟨rfl, rfl⟩) (zc_hk q238 q143) (by decide) (Nat.le_of_ble_eq_true rfl) (fun u52 h => ?_) (fun x59 u60 h => ?_)
      rotate_left
      · exact zx_leave G M rfl h
      refine zc_wk G hp (fun hu52 tu52 => ?_)
      refine zv_aload_n G rfl rfl dX0_next_127 ?_
      refine zv_bipush (a := 10) G (by decide) dX0_next_128 ?_
      refine zv_aload_n G rfl rfl dX0_next_130 ?_
      refine zc_get (f := 13) (v := ai (fI u52 13 p)) G (hFp tu52 rfl) rfl q2069 (Or.inl rfl) (cV_I (by decide) (by decide)) dX0_next_131 ?_
      refine zv_imul G dX0_next_134 ?_
      refine zv_aload_n G rfl rfl dX0_next_135 ?_
      refine zv_aload_n G rfl rfl dX0_next_136 ?_
      refine zc_get (f := 9) (v := ai (fI u52 9 p)) G (hFp tu52 rfl) rfl q2065 (Or.inl rfl) (cV_I (by decide) (by decide)) dX0_next_137 ?_
      refine zv_callI (as := [ar p, ai (fI u52 9 p)]) (st := [ai (w32 (10 * (fI u52 13 p))), ar p]) G M (zc_eV (C := zcn 1) G q221 q223 qs3 (Or.inl ⟨rfl, rfl⟩) q224 md_X0_unit (zc_rc G (zne tu52 tu52.1 (by decide)) tu52.1 (by decide) (by decide) rfl) rfl dX0_next_140) (S 6 _ rfl _ _ _ h (zoks_cons trivial (zoks_cons (hu52.i 9 _ (by decide)) zoks_nil))) (Or.inl ⟨rfl, rfl⟩) (zc_hk q224 q143) (by decide) (Nat.le_of_ble_eq_true rfl) (fun v55 u54 rv55 h => ?_) (fun _ _ h => h.elim)
      refine zc_wk G hp (fun hu54 tu54 => ?_)
      refine zv_iadd G dX0_next_143 ?_
      refine zv_bipush (a := 48) G (by decide) dX0_next_144 ?_
      refine zv_isub G dX0_next_146 ?_
      refine zc_putI (f := 13) G M (hPp tu54 rfl) rfl q2069 (Or.inl rfl) (Or.inl rfl) (zfty_13) rfl rfl (by decide) (by decide) (w32_r _) dX0_next_147 (fun u56 eu56 => ?_)
      have h := h u56 eu56
      refine zc_wk G hp (fun hu56 tu56 => ?_)
      refine zv_iincN G rfl (by decide) dX0_next_150 (fun x2_57 ex2_57 => ?_)
      have h := h x2_57 ex2_57
      have rx2_57 : zr x2_57 := by rw [ex2_57]; exact w32_r _
      refine zv_aload_n G rfl rfl dX0_next_153 ?_
      refine zv_dup G rfl dX0_next_154 ?_
      refine zc_get (f := 9) (v := ai (fI u56 9 p)) G (hFp tu56 rfl) rfl q2065 (Or.inl rfl) (cV_I (by decide) (by decide)) dX0_next_155 ?_
      refine zv_iconst (a := 1) G (by decide) dX0_next_158 ?_
      refine zv_iadd G dX0_next_159 ?_
      refine zc_putI (f := 9) G M (hPp tu56 rfl) rfl q2065 (Or.inl rfl) (Or.inl rfl) (zfty_9) rfl rfl (by decide) (by decide) (w32_r _) dX0_next_160 (fun u58 eu58 => ?_)
      have h := h u58 eu58
      refine zc_wk G hp (fun hu58 tu58 => ?_)
      refine zv_goto (tgt := 93) G (by decide) dX0_next_163 ?_
      exact zv_pick [0, 2] rfl (hI93 _ _ h rx2_57)
    refine zv_icmp_ge (tgt := 118) G rx2 (zr_k 9 (by decide) (by decide)) (by decide) dX0_next_111 (fun c62 => ?_) (fun c62 => ?_)
    · refine zv_iconst (a := 0) G (by decide) dX0_next_118 ?_
      exact kj61 _ (if_neg (fun q => q c62)).symm
    · refine zv_iconst (a := 1) G (by decide) dX0_next_114 ?_
      refine zv_goto (tgt := 119) G (by decide) dX0_next_115 ?_
      exact kj61 _ (if_pos c62).symm
set_option maxHeartbeats 4000000 in
set_option maxRecDepth 100000 in
theorem cpC_X0_next_74 {Γ : ZG CW} {D : CD} {d p : Nat} (hp : D.K.1 = p) (G : ZOk Γ cX0_next RX0 3 (KnC D) (ZC D)) (M : ZRm Γ (d + 1) D.lim (Option.none : Option Jvm.ClassFile.FieldType) "next" []) (S : SdC d D p Γ.l) (hl : Γ.l.stackTraces = false) (hk : 0 ≤ d) {x1 : Int} {w : CW} (rx1 : zr x1) (h : pC_X0_next_74 p (wpC p d) (fun w => Γ.Q (.inl none) w) (fun x w => Γ.Q (.inr x) w) x1 w) : ZV Γ w 74 [(0, ar p), (1, ai x1)] [] := by
  refine zc_wk G hp (fun hw tw => ?_)
  refine zv_iload_n G rfl rfl dX0_next_74 ?_
  refine zv_callI (as := [ai x1]) (st := []) G M (zc_eS G q232 q233 q143 q234 md_X0_isFigure rfl dX0_next_75) (S 9 _ rfl _ _ _ h (zoks_cons rx1 zoks_nil)) (Or.inl ⟨rfl, rfl⟩) (zc_hk q234 q143) (by decide) (Nat.le_of_ble_eq_true rfl) (fun v16 u15 rv16 h => ?_) (fun _ _ h => h.elim)
  refine zc_wk G hp (fun hu15 tu15 => ?_)
  refine zv_if_eq (tgt := 169) G rv16 (by decide) dX0_next_78 (fun c17 => ?_) (fun c17 => ?_)
  · have h := h.1 c17
    refine zv_iload_n G rfl rfl dX0_next_169 ?_
    refine zv_bipush (a := 39) G (by decide) dX0_next_170 ?_
    refine zv_icmp_ne (tgt := 182) G rx1 (zr_k 39 (by decide) (by decide)) (by decide) dX0_next_172 (fun c18 => ?_) (fun c18 => ?_)
    · have h := h.2 c18
      refine zv_aload_n G rfl rfl dX0_next_182 ?_
      refine zv_iload_n G rfl rfl dX0_next_183 ?_
      refine zv_if_le (tgt := 221) G rx1 (by decide) dX0_next_184 (fun c19 => ?_) (fun c19 => ?_)
      · have h := h.1 c19
        exact zv_pick [0, 1] rfl (cpC_X0_next_221 hp G M S hl hk rx1 h)
      · have h := h.2 c19
        refine zc_ldcs (k := 2) G rfl dX0_next_187 ?_
        refine zv_iload_n G rfl rfl dX0_next_189 ?_
        have o38 := h.1
        have h := h.2
        have en39 : ZEn Γ u15 190 [(0, ar p), (1, ai x1)] yJ4_indexOf_2 3 [ar (sr u15 2), ai x1] [ar p] := by
          rcases o38 with z | z
          · exact (zc_eV (C := zcn 32) G q600 q601 q602 (Or.inl ⟨rfl, rfl⟩) q603 md_J4_indexOf_2 (zc_rc G (zne tu15 z (by decide)) z (by decide) (by decide) rfl) rfl dX0_next_190)
          · exact (zc_eV (C := zcn 34) G q600 q601 q602 (Or.inl ⟨rfl, rfl⟩) q603 md_J4_indexOf_2 (zc_rc G (zne tu15 z (by decide)) z (by decide) (by decide) rfl) rfl dX0_next_190)
        refine zv_callI (as := [ar (sr u15 2), ai x1]) (st := [ar p]) G M en39 (S 231 _ rfl _ _ _ h (zoks_cons trivial (zoks_cons rx1 zoks_nil))) (Or.inl ⟨rfl, rfl⟩) (zc_hk q603 q150) (by decide) (Nat.le_of_ble_eq_true rfl) (fun v32 u31 rv32 h => ?_) (fun _ _ h => h.elim)
        refine zc_wk G hp (fun hu31 tu31 => ?_)
        refine zv_if_lt (tgt := 221) G rv32 (by decide) dX0_next_193 (fun c33 => ?_) (fun c33 => ?_)
        · have h := h.1 c33
          exact zv_pick [0, 1] rfl (cpC_X0_next_221 hp G M S hl hk rx1 h)
        · have h := h.2 c33
          refine zv_iload_n G rfl rfl dX0_next_196 ?_
          refine zv_bipush (a := 46) G (by decide) dX0_next_197 ?_
          refine zv_icmp_ne (tgt := 217) G rx1 (zr_k 46 (by decide) (by decide)) (by decide) dX0_next_199 (fun c34 => ?_) (fun c34 => ?_)
          · have h := h.2 c34
            exact zv_pick [0, 1] rfl (cpC_X0_next_217 hp G M S hl hk rx1 h)
          · have h := h.1 c34
            refine zv_aload_n G rfl rfl dX0_next_202 ?_
            refine zv_aload_n G rfl rfl dX0_next_203 ?_
            refine zc_get (f := 9) (v := ai (fI u31 9 p)) G (hFp tu31 rfl) rfl q2065 (Or.inl rfl) (cV_I (by decide) (by decide)) dX0_next_204 ?_
            refine zv_iconst (a := 1) G (by decide) dX0_next_207 ?_
            refine zv_iadd G dX0_next_208 ?_
            refine zv_callI (as := [ar p, ai (w32 ((fI u31 9 p) + 1))]) (st := [ar p]) G M (zc_eV (C := zcn 1) G q221 q223 qs3 (Or.inl ⟨rfl, rfl⟩) q224 md_X0_unit (zc_rc G (zne tu31 tu31.1 (by decide)) tu31.1 (by decide) (by decide) rfl) rfl dX0_next_209) (S 6 _ rfl _ _ _ h (zoks_cons trivial (zoks_cons (w32_r _) zoks_nil))) (Or.inl ⟨rfl, rfl⟩) (zc_hk q224 q143) (by decide) (Nat.le_of_ble_eq_true rfl) (fun v36 u35 rv36 h => ?_) (fun _ _ h => h.elim)
            refine zc_wk G hp (fun hu35 tu35 => ?_)
            refine zv_bipush (a := 46) G (by decide) dX0_next_212 ?_
            refine zv_icmp_ne (tgt := 221) G rv36 (zr_k 46 (by decide) (by decide)) (by decide) dX0_next_214 (fun c37 => ?_) (fun c37 => ?_)
            · have h := h.2 c37
              exact zv_pick [0, 1] rfl (cpC_X0_next_221 hp G M S hl hk rx1 h)
            · have h := h.1 c37
              exact zv_pick [0, 1] rfl (cpC_X0_next_217 hp G M S hl hk rx1 h)
    · have h := h.1 c18
      refine zv_aload_n G rfl rfl dX0_next_175 ?_
      refine zv_callV (as := [ar p]) (st := []) G M (zc_eV (C := zcn 1) G q595 q597 qs7 (Or.inl ⟨rfl, rfl⟩) q598 md_X0_quoted (zc_rc G (zne tu15 tu15.1 (by decide)) tu15.1 (by decide) (by decide) rfl) rfl dX0_next_176) (S 11 _ rfl _ _ _ h (zoks_cons trivial zoks_nil)) (Or.inl ⟨rfl, rfl⟩) (zc_hk q598 q143) (by decide) (Nat.le_of_ble_eq_true rfl) (fun u40 h => ?_) (fun x42 u43 h => ?_)
      rotate_left
      · exact zx_leave G M rfl h
      refine zc_wk G hp (fun hu40 tu40 => ?_)
      refine zv_goto (tgt := 260) G (by decide) dX0_next_179 ?_
      exact zv_pick [] rfl (cpC_X0_next_260 hp G M S hl hk h)
  · have h := h.2 c17
    refine zv_aload_n G rfl rfl dX0_next_81 ?_
    refine zv_iconst (a := 3) G (by decide) dX0_next_82 ?_
    refine zc_putI (f := 10) G M (hPp tu15 rfl) rfl q2066 (Or.inl rfl) (Or.inl rfl) (zfty_10) rfl rfl (by decide) (by decide) (zr_k 3 (by decide) (by decide)) dX0_next_83 (fun u44 eu44 => ?_)
    have h := h u44 eu44
    refine zc_wk G hp (fun hu44 tu44 => ?_)
    refine zv_aload_n G rfl rfl dX0_next_86 ?_
    refine zv_iconst (a := 0) G (by decide) dX0_next_87 ?_
    refine zc_putI (f := 13) G M (hPp tu44 rfl) rfl q2069 (Or.inl rfl) (Or.inl rfl) (zfty_13) rfl rfl (by decide) (by decide) (zr_k 0 (by decide) (by decide)) dX0_next_88 (fun u45 eu45 => ?_)
    have h := h u45 eu45
    refine zc_wk G hp (fun hu45 tu45 => ?_)
    refine zv_iconst (a := 0) G (by decide) dX0_next_91 ?_
    refine zv_istore_n G rfl (by decide) rfl dX0_next_92 ?_
    exact zv_pick [0, 2] rfl (cpC_X0_next_93 hp G M S hl hk (zr_k 0 (by decide) (by decide)) h)
set_option maxHeartbeats 4000000 in
set_option maxRecDepth 100000 in
theorem cpC_X0_next_44 {Γ : ZG CW} {D : CD} {d p : Nat} (hp : D.K.1 = p) (G : ZOk Γ cX0_next RX0 3 (KnC D) (ZC D)) (M : ZRm Γ (d + 1) D.lim (Option.none : Option Jvm.ClassFile.FieldType) "next" []) (S : SdC d D p Γ.l) (hl : Γ.l.stackTraces = false) (hk : 0 ≤ d) {x1 : Int} {w : CW} (rx1 : zr x1) (h : pC_X0_next_44 p (wpC p d) (fun w => Γ.Q (.inl none) w) (fun x w => Γ.Q (.inr x) w) x1 w) : ZV Γ w 44 [(0, ar p), (1, ai x1)] [] := by
  refine zc_wk G hp (fun hw tw => ?_)
  refine zv_iload_n G rfl rfl dX0_next_44 ?_
  refine zv_callI (as := [ai x1]) (st := []) G M (zc_eS G q225 q226 q143 q227 md_X0_isSmall rfl dX0_next_45) (S 7 _ rfl _ _ _ h (zoks_cons rx1 zoks_nil)) (Or.inl ⟨rfl, rfl⟩) (zc_hk q227 q143) (by decide) (Nat.le_of_ble_eq_true rfl) (fun v8 u7 rv8 h => ?_) (fun _ _ h => h.elim)
  refine zc_wk G hp (fun hu7 tu7 => ?_)
  have kt63 : ¬ (v8 = 0) ∨ (¬ (x1 < 65) ∧ (¬ (90 < x1))) → ZV Γ u7 63 [(0, ar p), (1, ai x1)] [] := by
    intro c65
    have h := h.1 c65
    exact zv_pick [0, 1] rfl (cpC_X0_next_63 hp G M S hl hk rx1 h)
  have kf64 : ¬ (¬ (v8 = 0) ∨ (¬ (x1 < 65) ∧ (¬ (90 < x1)))) → ZV Γ u7 74 [(0, ar p), (1, ai x1)] [] := by
    intro c65
    have h := h.2 c65
    exact zv_pick [0, 1] rfl (cpC_X0_next_74 hp G M S hl hk rx1 h)
  refine zv_if_ne (tgt := 63) G rv8 (by decide) dX0_next_48 (fun c66 => ?_) (fun c66 => ?_)
  · exact kt63 (Or.inl c66)
  · refine zv_iload_n G rfl rfl dX0_next_51 ?_
    refine zv_bipush (a := 65) G (by decide) dX0_next_52 ?_
    refine zv_icmp_lt (tgt := 74) G rx1 (zr_k 65 (by decide) (by decide)) (by decide) dX0_next_54 (fun c67 => ?_) (fun c67 => ?_)
    · exact kf64 (fun q => q.elim (fun z => z c66) (fun q => q.1 c67))
    · refine zv_iload_n G rfl rfl dX0_next_57 ?_
      refine zv_bipush (a := 90) G (by decide) dX0_next_58 ?_
      refine zv_icmp_gt (tgt := 74) G rx1 (zr_k 90 (by decide) (by decide)) (by decide) dX0_next_60 (fun c68 => ?_) (fun c68 => ?_)
      · exact kf64 (fun q => q.elim (fun z => z c66) (fun q => (fun q => q c68) q.2))
      · exact kt63 (Or.inr ⟨c67, c68⟩)
set_option maxHeartbeats 4000000 in
set_option maxRecDepth 100000 in
theorem cpC_X0_next_0 {Γ : ZG CW} {D : CD} {d p : Nat} (hp : D.K.1 = p) (G : ZOk Γ cX0_next RX0 3 (KnC D) (ZC D)) (M : ZRm Γ (d + 1) D.lim (Option.none : Option Jvm.ClassFile.FieldType) "next" []) (S : SdC d D p Γ.l) (hl : Γ.l.stackTraces = false) (hk : 0 ≤ d) {w : CW} (h : pC_X0_next_0 p (wpC p d) (fun w => Γ.Q (.inl none) w) (fun x w => Γ.Q (.inr x) w) w) : ZV Γ w 0 [(0, ar p)] [] := by
  refine zc_wk G hp (fun hw tw => ?_)
  refine zv_aload_n G rfl rfl dX0_next_0 ?_
  refine zv_callV (as := [ar p]) (st := []) G M (zc_eV (C := zcn 1) G q217 q219 qs2 (Or.inl ⟨rfl, rfl⟩) q220 md_X0_blanks (zc_rc G (zne tw tw.1 (by decide)) tw.1 (by decide) (by decide) rfl) rfl dX0_next_1) (S 5 _ rfl _ _ _ h (zoks_cons trivial zoks_nil)) (Or.inl ⟨rfl, rfl⟩) (zc_hk q220 q143) (by decide) (Nat.le_of_ble_eq_true rfl) (fun u1 h => ?_) (fun _ _ h => h.elim)
  refine zc_wk G hp (fun hu1 tu1 => ?_)
  refine zv_aload_n G rfl rfl dX0_next_4 ?_
  refine zv_aload_n G rfl rfl dX0_next_5 ?_
  refine zc_get (f := 9) (v := ai (fI u1 9 p)) G (hFp tu1 rfl) rfl q2065 (Or.inl rfl) (cV_I (by decide) (by decide)) dX0_next_6 ?_
  refine zc_putI (f := 11) G M (hPp tu1 rfl) rfl q2067 (Or.inl rfl) (Or.inl rfl) (zfty_11) rfl rfl (by decide) (by decide) (hu1.i 9 _ (by decide)) dX0_next_9 (fun u3 eu3 => ?_)
  have h := h u3 eu3
  refine zc_wk G hp (fun hu3 tu3 => ?_)
  refine zv_aload_n G rfl rfl dX0_next_12 ?_
  refine zv_aload_n G rfl rfl dX0_next_13 ?_
  refine zc_get (f := 9) (v := ai (fI u3 9 p)) G (hFp tu3 rfl) rfl q2065 (Or.inl rfl) (cV_I (by decide) (by decide)) dX0_next_14 ?_
  refine zv_callI (as := [ar p, ai (fI u3 9 p)]) (st := []) G M (zc_eV (C := zcn 1) G q221 q223 qs3 (Or.inl ⟨rfl, rfl⟩) q224 md_X0_unit (zc_rc G (zne tu3 tu3.1 (by decide)) tu3.1 (by decide) (by decide) rfl) rfl dX0_next_17) (S 6 _ rfl _ _ _ h (zoks_cons trivial (zoks_cons (hu3.i 9 _ (by decide)) zoks_nil))) (Or.inl ⟨rfl, rfl⟩) (zc_hk q224 q143) (by decide) (Nat.le_of_ble_eq_true rfl) (fun v5 u4 rv5 h => ?_) (fun _ _ h => h.elim)
  refine zc_wk G hp (fun hu4 tu4 => ?_)
  refine zv_istore_n G rfl (by decide) rfl dX0_next_20 ?_
  refine zv_iload_n G rfl rfl dX0_next_21 ?_
  have kt69 : ¬ (0 ≤ v5) ∧ ((fI u4 9 p) = (fI u4 8 p)) → ZV Γ u4 36 [(1, ai v5), (0, ar p)] [] := by
    intro c71
    have h := h.1 c71
    refine zv_aload_n G rfl rfl dX0_next_36 ?_
    refine zv_iconst (a := 0) G (by decide) dX0_next_37 ?_
    refine zc_putI (f := 10) G M (hPp tu4 rfl) rfl q2066 (Or.inl rfl) (Or.inl rfl) (zfty_10) rfl rfl (by decide) (by decide) (zr_k 0 (by decide) (by decide)) dX0_next_38 (fun u6 eu6 => ?_)
    have h := h u6 eu6
    refine zc_wk G hp (fun hu6 tu6 => ?_)
    refine zv_goto (tgt := 260) G (by decide) dX0_next_41 ?_
    exact zv_pick [] rfl (cpC_X0_next_260 hp G M S hl hk h)
  have kf70 : ¬ (¬ (0 ≤ v5) ∧ ((fI u4 9 p) = (fI u4 8 p))) → ZV Γ u4 44 [(1, ai v5), (0, ar p)] [] := by
    intro c71
    have h := h.2 c71
    exact zv_pick [0, 1] rfl (cpC_X0_next_44 hp G M S hl hk rv5 h)
  refine zv_if_ge (tgt := 44) G rv5 (by decide) dX0_next_22 (fun c72 => ?_) (fun c72 => ?_)
  · exact kf70 (fun q => q.1 c72)
  · refine zv_aload_n G rfl rfl dX0_next_25 ?_
    refine zc_get (f := 9) (v := ai (fI u4 9 p)) G (hFp tu4 rfl) rfl q2065 (Or.inl rfl) (cV_I (by decide) (by decide)) dX0_next_26 ?_
    refine zv_aload_n G rfl rfl dX0_next_29 ?_
    refine zc_get (f := 8) (v := ai (fI u4 8 p)) G (hFp tu4 rfl) rfl q2064 (Or.inl rfl) (cV_I (by decide) (by decide)) dX0_next_30 ?_
    refine zv_icmp_ne (tgt := 44) G (hu4.i 9 _ (by decide)) (hu4.i 8 _ (by decide)) (by decide) dX0_next_33 (fun c73 => ?_) (fun c73 => ?_)
    · exact kf70 (fun q => c73 q.2)
    · exact kt69 ⟨c72, c73⟩
set_option maxHeartbeats 4000000 in
set_option maxRecDepth 100000 in
theorem cpC_X0_blanks_26 {Γ : ZG CW} {D : CD} {d p : Nat} (hp : D.K.1 = p) (G : ZOk Γ cX0_blanks RX0 1 (KnC D) (ZC D)) (M : ZRm Γ (d + 1) D.lim (Option.none : Option Jvm.ClassFile.FieldType) "blanks" []) (S : SdC d D p Γ.l) (hl : Γ.l.stackTraces = false) (hk : 0 ≤ d) {I0 : CW → Prop} {w : CW} (hI0 : ∀ (w : CW), I0 w → ZV Γ w 0 [(0, ar p)] []) (h : pC_X0_blanks_26 p (wpC p d) (fun w => Γ.Q (.inl none) w) I0 w) : ZV Γ w 26 [(0, ar p)] [] := by
  refine zc_wk G hp (fun hw tw => ?_)
  refine zv_aload_n G rfl rfl dX0_blanks_26 ?_
  refine zv_dup G rfl dX0_blanks_27 ?_
  refine zc_get (f := 9) (v := ai (fI w 9 p)) G (hFp tw rfl) rfl q2065 (Or.inl rfl) (cV_I (by decide) (by decide)) dX0_blanks_28 ?_
  refine zv_iconst (a := 1) G (by decide) dX0_blanks_31 ?_
  refine zv_iadd G dX0_blanks_32 ?_
  refine zc_putI (f := 9) G M (hPp tw rfl) rfl q2065 (Or.inl rfl) (Or.inl rfl) (zfty_9) rfl rfl (by decide) (by decide) (w32_r _) dX0_blanks_33 (fun u4 eu4 => ?_)
  have h := h u4 eu4
  refine zc_wk G hp (fun hu4 tu4 => ?_)
  refine zv_goto (tgt := 0) G (by decide) dX0_blanks_36 ?_
  exact zv_pick [0] rfl (hI0 _ h )
set_option maxHeartbeats 4000000 in
set_option maxRecDepth 100000 in
theorem cpC_X0_blanks_39 {Γ : ZG CW} {D : CD} {d p : Nat} (hp : D.K.1 = p) (G : ZOk Γ cX0_blanks RX0 1 (KnC D) (ZC D)) (M : ZRm Γ (d + 1) D.lim (Option.none : Option Jvm.ClassFile.FieldType) "blanks" []) (S : SdC d D p Γ.l) (hl : Γ.l.stackTraces = false) (hk : 0 ≤ d) {w : CW} (h : pC_X0_blanks_39 p (wpC p d) (fun w => Γ.Q (.inl none) w) w) : ZV Γ w 39 [] [] := by
  refine zc_wk G hp (fun hw tw => ?_)
  exact zv_vret G M dX0_blanks_39 h
set_option maxHeartbeats 4000000 in
set_option maxRecDepth 100000 in
theorem cpC_X0_blanks_0 {Γ : ZG CW} {D : CD} {d p : Nat} (hp : D.K.1 = p) (G : ZOk Γ cX0_blanks RX0 1 (KnC D) (ZC D)) (M : ZRm Γ (d + 1) D.lim (Option.none : Option Jvm.ClassFile.FieldType) "blanks" []) (S : SdC d D p Γ.l) (hl : Γ.l.stackTraces = false) (hk : 0 ≤ d) {w : CW} (h : pC_X0_blanks_0 p (wpC p d) (fun w => Γ.Q (.inl none) w) w) : ZV Γ w 0 [(0, ar p)] [] := by
  obtain ⟨I0, eI0⟩ : ∃ I : CW → Prop, I = (fun w => ZV Γ w 0 [(0, ar p)] []) := ⟨_, rfl⟩
  have hI0 : ∀ (w : CW), I0 w → ZV Γ w 0 [(0, ar p)] [] := by subst eI0; exact fun _ z => z
  have hJ0 : ∀ (w : CW), (ZV Γ w 0 [(0, ar p)] []) → I0 w := by subst eI0; exact fun _ z => z
  refine hI0 w (h I0 (fun w h => hJ0 w ?_)) 
  refine zc_wk G hp (fun hw tw => ?_)
  refine zv_aload_n G rfl rfl dX0_blanks_0 ?_
  refine zv_aload_n G rfl rfl dX0_blanks_1 ?_
  refine zc_get (f := 9) (v := ai (fI w 9 p)) G (hFp tw rfl) rfl q2065 (Or.inl rfl) (cV_I (by decide) (by decide)) dX0_blanks_2 ?_
  refine zv_callI (as := [ar p, ai (fI w 9 p)]) (st := []) G M (zc_eV (C := zcn 1) G q221 q223 qs3 (Or.inl ⟨rfl, rfl⟩) q224 md_X0_unit (zc_rc G (zne tw tw.1 (by decide)) tw.1 (by decide) (by decide) rfl) rfl dX0_blanks_5) (S 6 _ rfl _ _ _ h (zoks_cons trivial (zoks_cons (hw.i 9 _ (by decide)) zoks_nil))) (Or.inl ⟨rfl, rfl⟩) (zc_hk q224 q143) (by decide) (Nat.le_of_ble_eq_true rfl) (fun v2 u1 rv2 h => ?_) (fun _ _ h => h.elim)
  refine zc_wk G hp (fun hu1 tu1 => ?_)
  refine zv_bipush (a := 32) G (by decide) dX0_blanks_8 ?_
  refine zv_icmp_eq (tgt := 26) G rv2 (zr_k 32 (by decide) (by decide)) (by decide) dX0_blanks_10 (fun c3 => ?_) (fun c3 => ?_)
  · have h := h.1 c3
    exact zv_pick [0] rfl (cpC_X0_blanks_26 hp G M S hl hk hI0 h)
  · have h := h.2 c3
    refine zv_aload_n G rfl rfl dX0_blanks_13 ?_
    refine zv_aload_n G rfl rfl dX0_blanks_14 ?_
    refine zc_get (f := 9) (v := ai (fI u1 9 p)) G (hFp tu1 rfl) rfl q2065 (Or.inl rfl) (cV_I (by decide) (by decide)) dX0_blanks_15 ?_
    refine zv_callI (as := [ar p, ai (fI u1 9 p)]) (st := []) G M (zc_eV (C := zcn 1) G q221 q223 qs3 (Or.inl ⟨rfl, rfl⟩) q224 md_X0_unit (zc_rc G (zne tu1 tu1.1 (by decide)) tu1.1 (by decide) (by decide) rfl) rfl dX0_blanks_18) (S 6 _ rfl _ _ _ h (zoks_cons trivial (zoks_cons (hu1.i 9 _ (by decide)) zoks_nil))) (Or.inl ⟨rfl, rfl⟩) (zc_hk q224 q143) (by decide) (Nat.le_of_ble_eq_true rfl) (fun v6 u5 rv6 h => ?_) (fun _ _ h => h.elim)
    refine zc_wk G hp (fun hu5 tu5 => ?_)
    refine zv_bipush (a := 10) G (by decide) dX0_blanks_21 ?_
    refine zv_icmp_ne (tgt := 39) G rv6 (zr_k 10 (by decide) (by decide)) (by decide) dX0_blanks_23 (fun c7 => ?_) (fun c7 => ?_)
    · have h := h.2 c7
      exact zv_pick [] rfl (cpC_X0_blanks_39 hp G M S hl hk h)
    · have h := h.1 c7
      exact zv_pick [0] rfl (cpC_X0_blanks_26 hp G M S hl hk hI0 h)
set_option maxHeartbeats 4000000 in
set_option maxRecDepth 100000 in
theorem cpC_X0_unit_0 {Γ : ZG CW} {D : CD} {d p : Nat} (hp : D.K.1 = p) (G : ZOk Γ cX0_unit RX0 2 (KnC D) (ZC D)) (M : ZRm Γ (d + 1) D.lim (Option.some Jvm.ClassFile.FieldType.int) "unit" []) (S : SdC d D p Γ.l) (hl : Γ.l.stackTraces = false) (hk : 0 ≤ d) {x1 : Int} {w : CW} (rx1 : zr x1) (h : pC_X0_unit_0 p (wpC p d) (fun v w => Γ.Q (.inl (some (ai v))) w) x1 w) : ZV Γ w 0 [(0, ar p), (1, ai x1)] [] := by
  refine zc_wk G hp (fun hw tw => ?_)
  refine zv_iload_n G rfl rfl dX0_unit_0 ?_
  refine zv_aload_n G rfl rfl dX0_unit_1 ?_
  refine zc_get (f := 8) (v := ai (fI w 8 p)) G (hFp tw rfl) rfl q2064 (Or.inl rfl) (cV_I (by decide) (by decide)) dX0_unit_2 ?_
  have o2 := h.1
  have h := h.2
  have kj3 : ∀ v1 : Int, v1 = (if ¬ ((fI w 8 p) ≤ x1) then aN w (fR w 7 p) x1 else (-1)) → ZV Γ w 18 [(0, ar p), (1, ai x1)] (ai v1 :: []) := by
    intro v1 ev1
    have h := h v1 ev1
    have rv1 : zr v1 := by rw [ev1]; exact (zr_ite (aN_r hw _ _) (zr_k (-1) (by decide) (by decide)))
    exact zv_iret (ty := .int) rv1 G M rfl dX0_unit_18 h
  refine zv_icmp_ge (tgt := 17) G rx1 (hw.i 8 _ (by decide)) (by decide) dX0_unit_5 (fun c4 => ?_) (fun c4 => ?_)
  · refine zv_iconst (a := (-1)) G (by decide) dX0_unit_17 ?_
    exact kj3 _ (if_neg (fun q => q c4)).symm
  · refine zv_aload_n G rfl rfl dX0_unit_8 ?_
    refine zc_get (f := 7) (v := ar (fR w 7 p)) G (hFp tw rfl) rfl q2063 (Or.inl rfl) (cV_R rfl) dX0_unit_9 ?_
    refine zv_iload_n G rfl rfl dX0_unit_12 ?_
    refine zc_baldN G (o2 c4).1 rx1 (o2 c4).2.1 (o2 c4).2.2 dX0_unit_13 ?_
    refine zv_goto (tgt := 18) G (by decide) dX0_unit_14 ?_
    exact kj3 _ (if_pos c4).symm
set_option maxHeartbeats 4000000 in
set_option maxRecDepth 100000 in
theorem cpC_X0_isSmall_0 {Γ : ZG CW} {D : CD} {d p : Nat} (hp : D.K.1 = p) (G : ZOk Γ cX0_isSmall RX0 1 (KnC D) (ZC D)) (M : ZRm Γ (d + 1) D.lim (Option.some Jvm.ClassFile.FieldType.boolean) "isSmall" []) (S : SdC d D p Γ.l) (hl : Γ.l.stackTraces = false) (hk : 0 ≤ d) {x0 : Int} {w : CW} (rx0 : zr x0) (h : pC_X0_isSmall_0 p (wpC p d) (fun v w => Γ.Q (.inl (some (ai v))) w) x0 w) : ZV Γ w 0 [(0, ai x0)] [] := by
  refine zc_wk G hp (fun hw tw => ?_)
  refine zv_iload_n G rfl rfl dX0_isSmall_0 ?_
  refine zv_bipush (a := 97) G (by decide) dX0_isSmall_1 ?_
  have kj2 : ∀ v1 : Int, v1 = (if ¬ (x0 < 97) ∧ (¬ (122 < x0)) then 1 else 0) → ZV Γ w 17 [(0, ai x0)] (ai v1 :: []) := by
    intro v1 ev1
    have h := h v1 ev1
    have rv1 : zr v1 := by rw [ev1]; exact (zr_ite (zr_k 1 (by decide) (by decide)) (zr_k 0 (by decide) (by decide)))
    have bv1 : v1 = 0 ∨ v1 = 1 := by rw [ev1]; exact (zb_ite (Or.inr rfl) (Or.inl rfl))
    exact zv_iret (ty := .boolean) rv1 G M (zn_Z bv1) dX0_isSmall_17 h
  refine zv_icmp_lt (tgt := 16) G rx0 (zr_k 97 (by decide) (by decide)) (by decide) dX0_isSmall_3 (fun c3 => ?_) (fun c3 => ?_)
  · refine zv_iconst (a := 0) G (by decide) dX0_isSmall_16 ?_
    exact kj2 _ (if_neg (fun q => q.1 c3)).symm
  · refine zv_iload_n G rfl rfl dX0_isSmall_6 ?_
    refine zv_bipush (a := 122) G (by decide) dX0_isSmall_7 ?_
    refine zv_icmp_gt (tgt := 16) G rx0 (zr_k 122 (by decide) (by decide)) (by decide) dX0_isSmall_9 (fun c4 => ?_) (fun c4 => ?_)
    · refine zv_iconst (a := 0) G (by decide) dX0_isSmall_16 ?_
      exact kj2 _ (if_neg (fun q => (fun q => q c4) q.2)).symm
    · refine zv_iconst (a := 1) G (by decide) dX0_isSmall_12 ?_
      refine zv_goto (tgt := 17) G (by decide) dX0_isSmall_13 ?_
      exact kj2 _ (if_pos ⟨c3, c4⟩).symm
set_option maxHeartbeats 4000000 in
set_option maxRecDepth 100000 in
theorem cpC_X0_readLetters_39 {Γ : ZG CW} {D : CD} {d p : Nat} (hp : D.K.1 = p) (G : ZOk Γ cX0_readLetters RX0 5 (KnC D) (ZC D)) (M : ZRm Γ (d + 1) D.lim (Option.none : Option Jvm.ClassFile.FieldType) "readLetters" []) (S : SdC d D p Γ.l) (hl : Γ.l.stackTraces = false) (hk : 0 ≤ d) {I7 : Int → CW → Prop} {x1 : Int} {x2 : Int} {w : CW} (hI7 : ∀ (x2 : Int) (w : CW), I7 x2 w → zr x2 → ZV Γ w 7 [(0, ar p), (1, ai x1), (2, ai x2)] []) (rx1 : zr x1) (rx2 : zr x2) (h : pC_X0_readLetters_39 p (wpC p d) (fun w => Γ.Q (.inl none) w) (fun x w => Γ.Q (.inr x) w) I7 x1 x2 w) : ZV Γ w 39 [(0, ar p), (1, ai x1), (2, ai x2)] [] := by
  refine zc_wk G hp (fun hw tw => ?_)
  refine zv_aload_n G rfl rfl dX0_readLetters_39 ?_
  refine zv_iload_n G rfl rfl dX0_readLetters_40 ?_
  refine zv_bipush (a := 8) G (by decide) dX0_readLetters_41 ?_
  have kj17 : ∀ v7 : Int, v7 = (if ¬ (8 ≤ x2) then 1 else 0) → ZV Γ w 51 [(0, ar p), (1, ai x1), (2, ai x2)] (ai v7 :: ar p :: []) := by
    intro v7 ev7
    have h := h v7 ev7
    have rv7 : zr v7 := by rw [ev7]; exact (zr_ite (zr_k 1 (by decide) (by decide)) (zr_k 0 (by decide) (by decide)))
    have bv7 : v7 = 0 ∨ v7 = 1 := by rw [ev7]; exact (zb_ite (Or.inr rfl) (Or.inl rfl))
    refine zv_iconst (a := 1) G (by decide) dX0_readLetters_51 ?_
    refine zv_aload_n G rfl rfl dX0_readLetters_52 ?_
    refine zc_get (f := 11) (v := ai (fI w 11 p)) G (hFp tw rfl) rfl q2067 (Or.inl rfl) (cV_I (by decide) (by decide)) dX0_readLetters_53 ?_
    refine zv_callV (as := [ar p, ai v7, ai 1, ai (fI w 11 p)]) (st := []) G M (zc_eV (C := zcn 1) G q235 q237 qs5 (Or.inl ⟨rfl, rfl⟩) q238 md_X0_need (zc_rc G (zne tw tw.1 (by decide)) tw.1 (by decide) (by decide) rfl) rfl dX0_readLetters_56) (S 10 _ rfl _ _ _ h (zoks_cons trivial (zoks_cons rv7 (zoks_cons (zr_k 1 (by decide) (by decide)) (zoks_cons (hw.i 11 _ (by decide)) zoks_nil))))) (Or.inl ⟨rfl, rfl⟩) (zc_hk q238 q143) (by decide) (Nat.le_of_ble_eq_true rfl) (fun u8 h => ?_) (fun x15 u16 h => ?_)
    rotate_left
    · exact zx_leave G M rfl h
    refine zc_wk G hp (fun hu8 tu8 => ?_)
    refine zv_aload_n G rfl rfl dX0_readLetters_59 ?_
    refine zv_aload_n G rfl rfl dX0_readLetters_60 ?_
    refine zc_get (f := 12) (v := al (fI u8 12 p)) G (hFp tu8 rfl) rfl q2068 (Or.inl rfl) (cV_L rfl) dX0_readLetters_61 ?_
    refine zv_bipush (a := 8) G (by decide) dX0_readLetters_64 ?_
    refine zv_lshl G dX0_readLetters_66 ?_
    refine zv_aload_n G rfl rfl dX0_readLetters_67 ?_
    refine zv_aload_n G rfl rfl dX0_readLetters_68 ?_
    refine zc_get (f := 9) (v := ai (fI u8 9 p)) G (hFp tu8 rfl) rfl q2065 (Or.inl rfl) (cV_I (by decide) (by decide)) dX0_readLetters_69 ?_
    refine zv_callI (as := [ar p, ai (fI u8 9 p)]) (st := [al (l_shl (fI u8 12 p) 8), ar p]) G M (zc_eV (C := zcn 1) G q221 q223 qs3 (Or.inl ⟨rfl, rfl⟩) q224 md_X0_unit (zc_rc G (zne tu8 tu8.1 (by decide)) tu8.1 (by decide) (by decide) rfl) rfl dX0_readLetters_72) (S 6 _ rfl _ _ _ h (zoks_cons trivial (zoks_cons (hu8.i 9 _ (by decide)) zoks_nil))) (Or.inl ⟨rfl, rfl⟩) (zc_hk q224 q143) (by decide) (Nat.le_of_ble_eq_true rfl) (fun v11 u10 rv11 h => ?_) (fun _ _ h => h.elim)
    refine zc_wk G hp (fun hu10 tu10 => ?_)
    refine zv_i2l G rv11 dX0_readLetters_75 ?_
    refine zv_lor G dX0_readLetters_76 ?_
    refine zc_putL (f := 12) G M (hPp tu10 rfl) rfl q2068 (Or.inl rfl) (Or.inl rfl) (zfty_12) rfl rfl rfl (by first | exact l_and_r _ _ | exact l_or_r _ _ | exact l_shl_r _ _ | exact l_shr_r _ _ | exact l_ushr_r _ _ | exact zrl_of _) dX0_readLetters_77 (fun u12 eu12 => ?_)
    have h := h u12 eu12
    refine zc_wk G hp (fun hu12 tu12 => ?_)
    refine zv_iincN G rfl (by decide) dX0_readLetters_80 (fun x2_13 ex2_13 => ?_)
    have h := h x2_13 ex2_13
    have rx2_13 : zr x2_13 := by rw [ex2_13]; exact w32_r _
    refine zv_aload_n G rfl rfl dX0_readLetters_83 ?_
    refine zv_dup G rfl dX0_readLetters_84 ?_
    refine zc_get (f := 9) (v := ai (fI u12 9 p)) G (hFp tu12 rfl) rfl q2065 (Or.inl rfl) (cV_I (by decide) (by decide)) dX0_readLetters_85 ?_
    refine zv_iconst (a := 1) G (by decide) dX0_readLetters_88 ?_
    refine zv_iadd G dX0_readLetters_89 ?_
    refine zc_putI (f := 9) G M (hPp tu12 rfl) rfl q2065 (Or.inl rfl) (Or.inl rfl) (zfty_9) rfl rfl (by decide) (by decide) (w32_r _) dX0_readLetters_90 (fun u14 eu14 => ?_)
    have h := h u14 eu14
    refine zc_wk G hp (fun hu14 tu14 => ?_)
    refine zv_goto (tgt := 7) G (by decide) dX0_readLetters_93 ?_
    exact zv_pick [0, 1, 2] rfl (hI7 _ _ h rx2_13)
  refine zv_icmp_ge (tgt := 50) G rx2 (zr_k 8 (by decide) (by decide)) (by decide) dX0_readLetters_43 (fun c18 => ?_) (fun c18 => ?_)
  · refine zv_iconst (a := 0) G (by decide) dX0_readLetters_50 ?_
    exact kj17 _ (if_neg (fun q => q c18)).symm
  · refine zv_iconst (a := 1) G (by decide) dX0_readLetters_46 ?_
    refine zv_goto (tgt := 51) G (by decide) dX0_readLetters_47 ?_
    exact kj17 _ (if_pos c18).symm
set_option maxHeartbeats 4000000 in
set_option maxRecDepth 100000 in
theorem cpC_X0_readLetters_184 {Γ : ZG CW} {D : CD} {d p : Nat} (hp : D.K.1 = p) (G : ZOk Γ cX0_readLetters RX0 5 (KnC D) (ZC D)) (M : ZRm Γ (d + 1) D.lim (Option.none : Option Jvm.ClassFile.FieldType) "readLetters" []) (S : SdC d D p Γ.l) (hl : Γ.l.stackTraces = false) (hk : 0 ≤ d) {w : CW} (h : pC_X0_readLetters_184 p (wpC p d) (fun w => Γ.Q (.inl none) w) (fun x w => Γ.Q (.inr x) w) w) : ZV Γ w 184 [] [] := by
  refine zc_wk G hp (fun hw tw => ?_)
  exact zv_vret G M dX0_readLetters_184 h
set_option maxHeartbeats 4000000 in
set_option maxRecDepth 100000 in
theorem cpC_X0_readLetters_157 {Γ : ZG CW} {D : CD} {d p : Nat} (hp : D.K.1 = p) (G : ZOk Γ cX0_readLetters RX0 5 (KnC D) (ZC D)) (M : ZRm Γ (d + 1) D.lim (Option.none : Option Jvm.ClassFile.FieldType) "readLetters" []) (S : SdC d D p Γ.l) (hl : Γ.l.stackTraces = false) (hk : 0 ≤ d) {x3 : Nat} {w : CW} (h : pC_X0_readLetters_157 p (wpC p d) (fun w => Γ.Q (.inl none) w) (fun x w => Γ.Q (.inr x) w) x3 w) : ZV Γ w 157 [(0, ar p), (3, ar x3)] [] := by
  refine zc_wk G hp (fun hw tw => ?_)
  refine zv_aload_n G rfl rfl dX0_readLetters_157 ?_
  refine zc_ldcs (k := 1) G rfl dX0_readLetters_158 ?_
  refine zv_aload_n G rfl rfl dX0_readLetters_160 ?_
  refine zv_bipush (a := 124) G (by decide) dX0_readLetters_161 ?_
  have o45 := h.1
  have h := h.2
  refine zv_callR (as := [ar x3, ai 124]) (st := [ar (sr w 1), ar p]) G M (zc_eV (C := zcn 31) G q468 q469 q470 (Or.inl ⟨rfl, rfl⟩) q471 md_J3_append_3 (zc_rc G (zne tw o45 (by decide)) o45 (by decide) (by decide) rfl) rfl dX0_readLetters_163) (S 218 _ rfl _ _ _ h (zoks_cons trivial (zoks_cons (zr_k 124 (by decide) (by decide)) zoks_nil))) (Or.inl ⟨rfl, rfl⟩) (zc_hk q471 q149) (by decide) (Nat.le_of_ble_eq_true rfl) (fun v33 u32 h => ?_) (fun _ _ h => h.elim)
  refine zc_wk G hp (fun hu32 tu32 => ?_)
  have o44 := h.1
  have h := h.2
  refine zv_callR (as := [ar v33]) (st := [ar (sr w 1), ar p]) G M (zc_eV (C := zcn 31) G q491 q492 q493 (Or.inl ⟨rfl, rfl⟩) q494 md_J3_toString (zc_rc G (zne tu32 o44 (by decide)) o44 (by decide) (by decide) rfl) rfl dX0_readLetters_166) (S 219 _ rfl _ _ _ h (zoks_cons trivial zoks_nil)) (Or.inl ⟨rfl, rfl⟩) (zc_hk q494 q149) (by decide) (Nat.le_of_ble_eq_true rfl) (fun v35 u34 h => ?_) (fun _ _ h => h.elim)
  refine zc_wk G hp (fun hu34 tu34 => ?_)
  have o42 := h.1
  have h := h.2
  have en43 : ZEn Γ u34 169 [(0, ar p), (3, ar x3)] yJ4_contains 3 [ar (sr w 1), ar v35] [ar p] := by
    rcases o42 with z | z
    · exact (zc_eV (C := zcn 32) G q551 q552 q553 (Or.inl ⟨rfl, rfl⟩) q554 md_J4_contains (zc_rc G (zne tu34 z (by decide)) z (by decide) (by decide) rfl) rfl dX0_readLetters_169)
    · exact (zc_eV (C := zcn 34) G q551 q552 q553 (Or.inl ⟨rfl, rfl⟩) q554 md_J4_contains (zc_rc G (zne tu34 z (by decide)) z (by decide) (by decide) rfl) rfl dX0_readLetters_169)
  refine zv_callI (as := [ar (sr w 1), ar v35]) (st := [ar p]) G M en43 (S 227 _ rfl _ _ _ h (zoks_cons trivial (zoks_cons trivial zoks_nil))) (Or.inl ⟨rfl, rfl⟩) (zc_hk q554 q150) (by decide) (Nat.le_of_ble_eq_true rfl) (fun v37 u36 rv37 h => ?_) (fun _ _ h => h.elim)
  refine zc_wk G hp (fun hu36 tu36 => ?_)
  have kj40 : ∀ v38 : Int, v38 = (if v37 = 0 then 1 else 6) → ZV Γ u36 181 [(0, ar p), (3, ar x3)] (ai v38 :: ar p :: []) := by
    intro v38 ev38
    have h := h v38 ev38
    have rv38 : zr v38 := by rw [ev38]; exact (zr_ite (zr_k 1 (by decide) (by decide)) (zr_k 6 (by decide) (by decide)))
    refine zc_putI (f := 10) G M (hPp tu36 rfl) rfl q2066 (Or.inl rfl) (Or.inl rfl) (zfty_10) rfl rfl (by decide) (by decide) rv38 dX0_readLetters_181 (fun u39 eu39 => ?_)
    have h := h u39 eu39
    refine zc_wk G hp (fun hu39 tu39 => ?_)
    exact zv_pick [] rfl (cpC_X0_readLetters_184 hp G M S hl hk h)
  refine zv_if_eq (tgt := 180) G rv37 (by decide) dX0_readLetters_172 (fun c41 => ?_) (fun c41 => ?_)
  · refine zv_iconst (a := 1) G (by decide) dX0_readLetters_180 ?_
    exact kj40 _ (if_pos c41).symm
  · refine zv_bipush (a := 6) G (by decide) dX0_readLetters_175 ?_
    refine zv_goto (tgt := 181) G (by decide) dX0_readLetters_177 ?_
    exact kj40 _ (if_neg c41).symm
set_option maxHeartbeats 4000000 in
set_option maxRecDepth 100000 in
theorem cpC_X0_readLetters_129 {Γ : ZG CW} {D : CD} {d p : Nat} (hp : D.K.1 = p) (G : ZOk Γ cX0_readLetters RX0 5 (KnC D) (ZC D)) (M : ZRm Γ (d + 1) D.lim (Option.none : Option Jvm.ClassFile.FieldType) "readLetters" []) (S : SdC d D p Γ.l) (hl : Γ.l.stackTraces = false) (hk : 0 ≤ d) {x3 : Nat} {x4 : Int} {w : CW} (rx4 : zr x4) (h : pC_X0_readLetters_129 p (wpC p d) (fun w => Γ.Q (.inl none) w) (fun x w => Γ.Q (.inr x) w) x3 x4 w) : ZV Γ w 129 [(0, ar p), (3, ar x3), (4, ai x4)] [] := by
  obtain ⟨I129, eI129⟩ : ∃ I : Int → CW → Prop, I = (fun x4 w => zr x4 → ZV Γ w 129 [(0, ar p), (3, ar x3), (4, ai x4)] []) := ⟨_, rfl⟩
  have hI129 : ∀ (x4 : Int) (w : CW), I129 x4 w → zr x4 → ZV Γ w 129 [(0, ar p), (3, ar x3), (4, ai x4)] [] := by subst eI129; exact fun _ _ z => z
  have hJ129 : ∀ (x4 : Int) (w : CW), (zr x4 → ZV Γ w 129 [(0, ar p), (3, ar x3), (4, ai x4)] []) → I129 x4 w := by subst eI129; exact fun _ _ z => z
  refine hI129 x4 w (h I129 (fun x4 w h => hJ129 x4 w (fun rx4 => ?_))) rx4
  refine zc_wk G hp (fun hw tw => ?_)
  refine zv_iload G rfl dX0_readLetters_129 ?_
  refine zv_aload_n G rfl rfl dX0_readLetters_131 ?_
  refine zc_get (f := 9) (v := ai (fI w 9 p)) G (hFp tw rfl) rfl q2065 (Or.inl rfl) (cV_I (by decide) (by decide)) dX0_readLetters_132 ?_
  refine zv_icmp_ge (tgt := 157) G rx4 (hw.i 9 _ (by decide)) (by decide) dX0_readLetters_135 (fun c31 => ?_) (fun c31 => ?_)
  · have h := h.1 c31
    exact zv_pick [0, 3] rfl (cpC_X0_readLetters_157 hp G M S hl hk h)
  · have h := h.2 c31
    refine zv_aload_n G rfl rfl dX0_readLetters_138 ?_
    refine zv_aload_n G rfl rfl dX0_readLetters_139 ?_
    refine zc_get (f := 7) (v := ar (fR w 7 p)) G (hFp tw rfl) rfl q2063 (Or.inl rfl) (cV_R rfl) dX0_readLetters_140 ?_
    refine zv_iload G rfl dX0_readLetters_143 ?_
    have o46 := h.1
    have h := h.2
    refine zc_baldN G o46.1 rx4 o46.2.1 o46.2.2 dX0_readLetters_145 ?_
    refine zv_i2c G dX0_readLetters_146 ?_
    have o50 := h.1
    have h := h.2
    refine zv_callR (as := [ar x3, ai (i_c (aN w (fR w 7 p) x4))]) (st := []) G M (zc_eV (C := zcn 31) G q468 q469 q470 (Or.inl ⟨rfl, rfl⟩) q471 md_J3_append_3 (zc_rc G (zne tw o50 (by decide)) o50 (by decide) (by decide) rfl) rfl dX0_readLetters_147) (S 218 _ rfl _ _ _ h (zoks_cons trivial (zoks_cons (by first | exact i_and_r _ _ | exact i_or_r _ _ | exact i_shl_r _ _ | exact i_shr_r _ _ | exact i_ushr_r _ _ | exact i_b_r _ | exact i_c_r _ | exact i_xor_r _ _ | exact i_div_r _ _ | exact i_rem_r _ _ | exact zr_of _) zoks_nil))) (Or.inl ⟨rfl, rfl⟩) (zc_hk q471 q149) (by decide) (Nat.le_of_ble_eq_true rfl) (fun v48 u47 h => ?_) (fun _ _ h => h.elim)
    refine zc_wk G hp (fun hu47 tu47 => ?_)
    refine zv_pop G rfl dX0_readLetters_150 ?_
    refine zv_iincN G rfl (by decide) dX0_readLetters_151 (fun x4_49 ex4_49 => ?_)
    have h := h x4_49 ex4_49
    have rx4_49 : zr x4_49 := by rw [ex4_49]; exact w32_r _
    refine zv_goto (tgt := 129) G (by decide) dX0_readLetters_154 ?_
    exact zv_pick [0, 3, 4] rfl (hI129 _ _ h rx4_49)
set_option maxHeartbeats 4000000 in
set_option maxRecDepth 100000 in
theorem cpC_X0_readLetters_96 {Γ : ZG CW} {D : CD} {d p : Nat} (hp : D.K.1 = p) (G : ZOk Γ cX0_readLetters RX0 5 (KnC D) (ZC D)) (M : ZRm Γ (d + 1) D.lim (Option.none : Option Jvm.ClassFile.FieldType) "readLetters" []) (S : SdC d D p Γ.l) (hl : Γ.l.stackTraces = false) (hk : 0 ≤ d) {x1 : Int} {w : CW} (rx1 : zr x1) (h : pC_X0_readLetters_96 p (wpC p d) (fun w => Γ.Q (.inl none) w) (fun x w => Γ.Q (.inr x) w) x1 w) : ZV Γ w 96 [(0, ar p), (1, ai x1)] [] := by
  refine zc_wk G hp (fun hw tw => ?_)
  refine zv_aload_n G rfl rfl dX0_readLetters_96 ?_
  refine zv_iload_n G rfl rfl dX0_readLetters_97 ?_
  have kj51 : ∀ v23 : Int, v23 = (if ¬ (x1 = 0) then 1 else 2) → ZV Γ w 106 [(0, ar p), (1, ai x1)] (ai v23 :: ar p :: []) := by
    intro v23 ev23
    have h := h v23 ev23
    have rv23 : zr v23 := by rw [ev23]; exact (zr_ite (zr_k 1 (by decide) (by decide)) (zr_k 2 (by decide) (by decide)))
    refine zc_putI (f := 10) G M (hPp tw rfl) rfl q2066 (Or.inl rfl) (Or.inl rfl) (zfty_10) rfl rfl (by decide) (by decide) rv23 dX0_readLetters_106 (fun u24 eu24 => ?_)
    have h := h u24 eu24
    refine zc_wk G hp (fun hu24 tu24 => ?_)
    refine zv_iload_n G rfl rfl dX0_readLetters_109 ?_
    refine zv_if_eq (tgt := 184) G rx1 (by decide) dX0_readLetters_110 (fun c25 => ?_) (fun c25 => ?_)
    · have h := h.1 c25
      exact zv_pick [] rfl (cpC_X0_readLetters_184 hp G M S hl hk h)
    · have h := h.2 c25
      have o27 := h.1
      have h := h.2
      refine zc_new (ci := 30) (t := 31) (n := 4) G M rfl rfl (by decide) rfl q309 q310 q149 o27 dX0_readLetters_113 (fun u26 eu26 => ?_)
      have h := h u26 eu26
      refine zc_wk G hp (fun hu26 tu26 => ?_)
      refine zv_dup G rfl dX0_readLetters_116 ?_
      refine zc_ldcs (k := 0) G rfl dX0_readLetters_117 ?_
      refine zv_callV (as := [ar (cz u24 + 1), ar (sr u26 0)]) (st := [ar (cz u24 + 1)]) G M (zc_eI G rfl q312 q313 q314 md_J3_init (Nat.succ_ne_zero _) rfl dX0_readLetters_119) (S 215 _ rfl _ _ _ h (zoks_cons trivial (zoks_cons trivial zoks_nil))) (Or.inl ⟨rfl, rfl⟩) (zc_hk q314 q149) (by decide) (Nat.le_of_ble_eq_true rfl) (fun u28 h => ?_) (fun _ _ h => h.elim)
      refine zc_wk G hp (fun hu28 tu28 => ?_)
      refine zv_astore_n G rfl (by decide) rfl dX0_readLetters_122 ?_
      refine zv_aload_n G rfl rfl dX0_readLetters_123 ?_
      refine zc_get (f := 11) (v := ai (fI u28 11 p)) G (hFp tu28 rfl) rfl q2067 (Or.inl rfl) (cV_I (by decide) (by decide)) dX0_readLetters_124 ?_
      refine zv_istoreN G (by decide) dX0_readLetters_127 (fun x4_30 ex4_30 => ?_)
      have h := h x4_30 ex4_30
      have rx4_30 : zr x4_30 := by rw [ex4_30]; exact (hu28.i 11 _ (by decide))
      exact zv_pick [0, 3, 4] rfl (cpC_X0_readLetters_129 hp G M S hl hk rx4_30 h)
  refine zv_if_eq (tgt := 105) G rx1 (by decide) dX0_readLetters_98 (fun c52 => ?_) (fun c52 => ?_)
  · refine zv_iconst (a := 2) G (by decide) dX0_readLetters_105 ?_
    exact kj51 _ (if_neg (fun q => q c52)).symm
  · refine zv_iconst (a := 1) G (by decide) dX0_readLetters_101 ?_
    refine zv_goto (tgt := 106) G (by decide) dX0_readLetters_102 ?_
    exact kj51 _ (if_pos c52).symm
set_option maxHeartbeats 4000000 in
set_option maxRecDepth 100000 in
theorem cpC_X0_readLetters_7 {Γ : ZG CW} {D : CD} {d p : Nat} (hp : D.K.1 = p) (G : ZOk Γ cX0_readLetters RX0 5 (KnC D) (ZC D)) (M : ZRm Γ (d + 1) D.lim (Option.none : Option Jvm.ClassFile.FieldType) "readLetters" []) (S : SdC d D p Γ.l) (hl : Γ.l.stackTraces = false) (hk : 0 ≤ d) {x1 : Int} {x2 : Int} {w : CW} (rx1 : zr x1) (rx2 : zr x2) (h : pC_X0_readLetters_7 p (wpC p d) (fun w => Γ.Q (.inl none) w) (fun x w => Γ.Q (.inr x) w) x1 x2 w) : ZV Γ w 7 [(0, ar p), (1, ai x1), (2, ai x2)] [] := by
  obtain ⟨I7, eI7⟩ : ∃ I : Int → CW → Prop, I = (fun x2 w => zr x2 → ZV Γ w 7 [(0, ar p), (1, ai x1), (2, ai x2)] []) := ⟨_, rfl⟩
  have hI7 : ∀ (x2 : Int) (w : CW), I7 x2 w → zr x2 → ZV Γ w 7 [(0, ar p), (1, ai x1), (2, ai x2)] [] := by subst eI7; exact fun _ _ z => z
  have hJ7 : ∀ (x2 : Int) (w : CW), (zr x2 → ZV Γ w 7 [(0, ar p), (1, ai x1), (2, ai x2)] []) → I7 x2 w := by subst eI7; exact fun _ _ z => z
  refine hI7 x2 w (h I7 (fun x2 w h => hJ7 x2 w (fun rx2 => ?_))) rx2
  refine zc_wk G hp (fun hw tw => ?_)
  refine zv_aload_n G rfl rfl dX0_readLetters_7 ?_
  refine zv_aload_n G rfl rfl dX0_readLetters_8 ?_
  refine zc_get (f := 9) (v := ai (fI w 9 p)) G (hFp tw rfl) rfl q2065 (Or.inl rfl) (cV_I (by decide) (by decide)) dX0_readLetters_9 ?_
  refine zv_callI (as := [ar p, ai (fI w 9 p)]) (st := []) G M (zc_eV (C := zcn 1) G q221 q223 qs3 (Or.inl ⟨rfl, rfl⟩) q224 md_X0_unit (zc_rc G (zne tw tw.1 (by decide)) tw.1 (by decide) (by decide) rfl) rfl dX0_readLetters_12) (S 6 _ rfl _ _ _ h (zoks_cons trivial (zoks_cons (hw.i 9 _ (by decide)) zoks_nil))) (Or.inl ⟨rfl, rfl⟩) (zc_hk q224 q143) (by decide) (Nat.le_of_ble_eq_true rfl) (fun v3 u2 rv3 h => ?_) (fun _ _ h => h.elim)
  refine zc_wk G hp (fun hu2 tu2 => ?_)
  refine zv_callI (as := [ai v3]) (st := []) G M (zc_eS G q225 q226 q143 q227 md_X0_isSmall rfl dX0_readLetters_15) (S 7 _ rfl _ _ _ h (zoks_cons rv3 zoks_nil)) (Or.inl ⟨rfl, rfl⟩) (zc_hk q227 q143) (by decide) (Nat.le_of_ble_eq_true rfl) (fun v5 u4 rv5 h => ?_) (fun _ _ h => h.elim)
  refine zc_wk G hp (fun hu4 tu4 => ?_)
  refine zv_if_ne (tgt := 39) G rv5 (by decide) dX0_readLetters_18 (fun c6 => ?_) (fun c6 => ?_)
  · have h := h.2 c6
    exact zv_pick [0, 1, 2] rfl (cpC_X0_readLetters_39 hp G M S hl hk hI7 rx1 rx2 h)
  · have h := h.1 c6
    refine zv_aload_n G rfl rfl dX0_readLetters_21 ?_
    refine zv_aload_n G rfl rfl dX0_readLetters_22 ?_
    refine zc_get (f := 9) (v := ai (fI u4 9 p)) G (hFp tu4 rfl) rfl q2065 (Or.inl rfl) (cV_I (by decide) (by decide)) dX0_readLetters_23 ?_
    refine zv_callI (as := [ar p, ai (fI u4 9 p)]) (st := []) G M (zc_eV (C := zcn 1) G q221 q223 qs3 (Or.inl ⟨rfl, rfl⟩) q224 md_X0_unit (zc_rc G (zne tu4 tu4.1 (by decide)) tu4.1 (by decide) (by decide) rfl) rfl dX0_readLetters_26) (S 6 _ rfl _ _ _ h (zoks_cons trivial (zoks_cons (hu4.i 9 _ (by decide)) zoks_nil))) (Or.inl ⟨rfl, rfl⟩) (zc_hk q224 q143) (by decide) (Nat.le_of_ble_eq_true rfl) (fun v20 u19 rv20 h => ?_) (fun _ _ h => h.elim)
    refine zc_wk G hp (fun hu19 tu19 => ?_)
    refine zv_callI (as := [ai v20]) (st := []) G M (zc_eS G q232 q233 q143 q234 md_X0_isFigure rfl dX0_readLetters_29) (S 9 _ rfl _ _ _ h (zoks_cons rv20 zoks_nil)) (Or.inl ⟨rfl, rfl⟩) (zc_hk q234 q143) (by decide) (Nat.le_of_ble_eq_true rfl) (fun v22 u21 rv22 h => ?_) (fun _ _ h => h.elim)
    refine zc_wk G hp (fun hu21 tu21 => ?_)
    have kt53 : ¬ (v22 = 0) ∨ (x2 = 0) → ZV Γ u21 39 [(0, ar p), (1, ai x1), (2, ai x2)] [] := by
      intro c55
      have h := h.1 c55
      exact zv_pick [0, 1, 2] rfl (cpC_X0_readLetters_39 hp G M S hl hk hI7 rx1 rx2 h)
    have kf54 : ¬ (¬ (v22 = 0) ∨ (x2 = 0)) → ZV Γ u21 96 [(0, ar p), (1, ai x1), (2, ai x2)] [] := by
      intro c55
      have h := h.2 c55
      exact zv_pick [0, 1] rfl (cpC_X0_readLetters_96 hp G M S hl hk rx1 h)
    refine zv_if_ne (tgt := 39) G rv22 (by decide) dX0_readLetters_32 (fun c56 => ?_) (fun c56 => ?_)
    · exact kt53 (Or.inl c56)
    · refine zv_iload_n G rfl rfl dX0_readLetters_35 ?_
      refine zv_if_ne (tgt := 96) G rx2 (by decide) dX0_readLetters_36 (fun c57 => ?_) (fun c57 => ?_)
      · exact kf54 (fun q => q.elim (fun z => z c56) c57)
      · exact kt53 (Or.inr c57)
set_option maxHeartbeats 4000000 in
set_option maxRecDepth 100000 in
theorem cpC_X0_readLetters_0 {Γ : ZG CW} {D : CD} {d p : Nat} (hp : D.K.1 = p) (G : ZOk Γ cX0_readLetters RX0 5 (KnC D) (ZC D)) (M : ZRm Γ (d + 1) D.lim (Option.none : Option Jvm.ClassFile.FieldType) "readLetters" []) (S : SdC d D p Γ.l) (hl : Γ.l.stackTraces = false) (hk : 0 ≤ d) {x1 : Int} {w : CW} (rx1 : zr x1) (h : pC_X0_readLetters_0 p (wpC p d) (fun w => Γ.Q (.inl none) w) (fun x w => Γ.Q (.inr x) w) x1 w) : ZV Γ w 0 [(0, ar p), (1, ai x1)] [] := by
  refine zc_wk G hp (fun hw tw => ?_)
  refine zv_aload_n G rfl rfl dX0_readLetters_0 ?_
  refine zv_lconst (a := 0) G (by decide) dX0_readLetters_1 ?_
  refine zc_putL (f := 12) G M (hPp tw rfl) rfl q2068 (Or.inl rfl) (Or.inl rfl) (zfty_12) rfl rfl rfl (zrl_k 0 (by decide) (by decide)) dX0_readLetters_2 (fun u1 eu1 => ?_)
  have h := h u1 eu1
  refine zc_wk G hp (fun hu1 tu1 => ?_)
  refine zv_iconst (a := 0) G (by decide) dX0_readLetters_5 ?_
  refine zv_istore_n G rfl (by decide) rfl dX0_readLetters_6 ?_
  exact zv_pick [0, 1, 2] rfl (cpC_X0_readLetters_7 hp G M S hl hk rx1 (zr_k 0 (by decide) (by decide)) h)
set_option maxHeartbeats 4000000 in
set_option maxRecDepth 100000 in
theorem cpC_X0_isFigure_0 {Γ : ZG CW} {D : CD} {d p : Nat} (hp : D.K.1 = p) (G : ZOk Γ cX0_isFigure RX0 1 (KnC D) (ZC D)) (M : ZRm Γ (d + 1) D.lim (Option.some Jvm.ClassFile.FieldType.boolean) "isFigure" []) (S : SdC d D p Γ.l) (hl : Γ.l.stackTraces = false) (hk : 0 ≤ d) {x0 : Int} {w : CW} (rx0 : zr x0) (h : pC_X0_isFigure_0 p (wpC p d) (fun v w => Γ.Q (.inl (some (ai v))) w) x0 w) : ZV Γ w 0 [(0, ai x0)] [] := by
  refine zc_wk G hp (fun hw tw => ?_)
  refine zv_iload_n G rfl rfl dX0_isFigure_0 ?_
  refine zv_bipush (a := 48) G (by decide) dX0_isFigure_1 ?_
  have kj2 : ∀ v1 : Int, v1 = (if ¬ (x0 < 48) ∧ (¬ (57 < x0)) then 1 else 0) → ZV Γ w 17 [(0, ai x0)] (ai v1 :: []) := by
    intro v1 ev1
    have h := h v1 ev1
    have rv1 : zr v1 := by rw [ev1]; exact (zr_ite (zr_k 1 (by decide) (by decide)) (zr_k 0 (by decide) (by decide)))
    have bv1 : v1 = 0 ∨ v1 = 1 := by rw [ev1]; exact (zb_ite (Or.inr rfl) (Or.inl rfl))
    exact zv_iret (ty := .boolean) rv1 G M (zn_Z bv1) dX0_isFigure_17 h
  refine zv_icmp_lt (tgt := 16) G rx0 (zr_k 48 (by decide) (by decide)) (by decide) dX0_isFigure_3 (fun c3 => ?_) (fun c3 => ?_)
  · refine zv_iconst (a := 0) G (by decide) dX0_isFigure_16 ?_
    exact kj2 _ (if_neg (fun q => q.1 c3)).symm
  · refine zv_iload_n G rfl rfl dX0_isFigure_6 ?_
    refine zv_bipush (a := 57) G (by decide) dX0_isFigure_7 ?_
    refine zv_icmp_gt (tgt := 16) G rx0 (zr_k 57 (by decide) (by decide)) (by decide) dX0_isFigure_9 (fun c4 => ?_) (fun c4 => ?_)
    · refine zv_iconst (a := 0) G (by decide) dX0_isFigure_16 ?_
      exact kj2 _ (if_neg (fun q => (fun q => q c4) q.2)).symm
    · refine zv_iconst (a := 1) G (by decide) dX0_isFigure_12 ?_
      refine zv_goto (tgt := 17) G (by decide) dX0_isFigure_13 ?_
      exact kj2 _ (if_pos ⟨c3, c4⟩).symm
set_option maxHeartbeats 4000000 in
set_option maxRecDepth 100000 in
theorem cpC_X0_need_0 {Γ : ZG CW} {D : CD} {d p : Nat} (hp : D.K.1 = p) (G : ZOk Γ cX0_need RX0 4 (KnC D) (ZC D)) (M : ZRm Γ (d + 1) D.lim (Option.none : Option Jvm.ClassFile.FieldType) "need" []) (S : SdC d D p Γ.l) (hl : Γ.l.stackTraces = false) (hk : 0 ≤ d) {x1 : Int} {x2 : Int} {x3 : Int} {w : CW} (rx1 : zr x1) (rx2 : zr x2) (rx3 : zr x3) (h : pC_X0_need_0 p (wpC p d) (fun w => Γ.Q (.inl none) w) (fun x w => Γ.Q (.inr x) w) x1 x2 x3 w) : ZV Γ w 0 [(1, ai x1), (2, ai x2), (3, ai x3)] [] := by
  refine zc_wk G hp (fun hw tw => ?_)
  refine zv_iload_n G rfl rfl dX0_need_0 ?_
  refine zv_if_ne (tgt := 14) G rx1 (by decide) dX0_need_1 (fun c1 => ?_) (fun c1 => ?_)
  · have h := h.2 c1
    exact zv_vret G M dX0_need_14 h
  · have h := h.1 c1
    have o3 := h.1
    have h := h.2
    refine zc_new (ci := 1) (t := 2) (n := 8) G M rfl rfl (by decide) rfl q206 q239 q147 o3 dX0_need_4 (fun u2 eu2 => ?_)
    have h := h u2 eu2
    refine zc_wk G hp (fun hu2 tu2 => ?_)
    refine zv_dup G rfl dX0_need_7 ?_
    refine zv_iload_n G rfl rfl dX0_need_8 ?_
    refine zv_iload_n G rfl rfl dX0_need_9 ?_
    refine zv_callV (as := [ar (cz w + 1), ai x2, ai x3]) (st := [ar (cz w + 1)]) G M (zc_eI G rfl q279 q280 q281 md_X2_init (Nat.succ_ne_zero _) rfl dX0_need_10) (S 81 _ rfl _ _ _ h (zoks_cons trivial (zoks_cons rx2 (zoks_cons rx3 zoks_nil)))) (Or.inl ⟨rfl, rfl⟩) (zc_hk q281 q147) (by decide) (Nat.le_of_ble_eq_true rfl) (fun u4 h => ?_) (fun _ _ h => h.elim)
    refine zc_wk G hp (fun hu4 tu4 => ?_)
    refine zv_athrow G (Nat.succ_ne_zero _) dX0_need_13 ?_
    exact zx_leave G M rfl h
set_option maxHeartbeats 4000000 in
set_option maxRecDepth 100000 in
theorem cpC_X0_quoted_101 {Γ : ZG CW} {D : CD} {d p : Nat} (hp : D.K.1 = p) (G : ZOk Γ cX0_quoted RX0 2 (KnC D) (ZC D)) (M : ZRm Γ (d + 1) D.lim (Option.none : Option Jvm.ClassFile.FieldType) "quoted" []) (S : SdC d D p Γ.l) (hl : Γ.l.stackTraces = false) (hk : 0 ≤ d) {w : CW} (h : pC_X0_quoted_101 p (wpC p d) (fun w => Γ.Q (.inl none) w) (fun x w => Γ.Q (.inr x) w) w) : ZV Γ w 101 [(0, ar p)] [] := by
  refine zc_wk G hp (fun hw tw => ?_)
  refine zv_aload_n G rfl rfl dX0_quoted_101 ?_
  refine zv_dup G rfl dX0_quoted_102 ?_
  refine zc_get (f := 9) (v := ai (fI w 9 p)) G (hFp tw rfl) rfl q2065 (Or.inl rfl) (cV_I (by decide) (by decide)) dX0_quoted_103 ?_
  refine zv_iconst (a := 1) G (by decide) dX0_quoted_106 ?_
  refine zv_iadd G dX0_quoted_107 ?_
  refine zc_putI (f := 9) G M (hPp tw rfl) rfl q2065 (Or.inl rfl) (Or.inl rfl) (zfty_9) rfl rfl (by decide) (by decide) (w32_r _) dX0_quoted_108 (fun u6 eu6 => ?_)
  have h := h u6 eu6
  refine zc_wk G hp (fun hu6 tu6 => ?_)
  refine zv_aload_n G rfl rfl dX0_quoted_111 ?_
  refine zv_iconst (a := 4) G (by decide) dX0_quoted_112 ?_
  refine zc_putI (f := 10) G M (hPp tu6 rfl) rfl q2066 (Or.inl rfl) (Or.inl rfl) (zfty_10) rfl rfl (by decide) (by decide) (zr_k 4 (by decide) (by decide)) dX0_quoted_113 (fun u7 eu7 => ?_)
  have h := h u7 eu7
  refine zc_wk G hp (fun hu7 tu7 => ?_)
  exact zv_vret G M dX0_quoted_116 h
set_option maxHeartbeats 4000000 in
set_option maxRecDepth 100000 in
theorem cpC_X0_quoted_56 {Γ : ZG CW} {D : CD} {d p : Nat} (hp : D.K.1 = p) (G : ZOk Γ cX0_quoted RX0 2 (KnC D) (ZC D)) (M : ZRm Γ (d + 1) D.lim (Option.none : Option Jvm.ClassFile.FieldType) "quoted" []) (S : SdC d D p Γ.l) (hl : Γ.l.stackTraces = false) (hk : 0 ≤ d) {I17 : Int → CW → Prop} {x1 : Int} {s0 : Int} {s1 : Nat} {w : CW} (hI17 : ∀ (x1 : Int) (w : CW), I17 x1 w → zr x1 → ZV Γ w 17 [(0, ar p), (1, ai x1)] []) (rx1 : zr x1) (rs0 : zr s0) (h : pC_X0_quoted_56 p (wpC p d) (fun w => Γ.Q (.inl none) w) (fun x w => Γ.Q (.inr x) w) I17 x1 s0 s1 w) : ZV Γ w 56 [(0, ar p), (1, ai x1)] [ai s0, ar s1] := by
  refine zc_wk G hp (fun hw tw => ?_)
  refine zv_iconst (a := 1) G (by decide) dX0_quoted_56 ?_
  refine zv_aload_n G rfl rfl dX0_quoted_57 ?_
  refine zc_get (f := 11) (v := ai (fI w 11 p)) G (hFp tw rfl) rfl q2067 (Or.inl rfl) (cV_I (by decide) (by decide)) dX0_quoted_58 ?_
  have o18 := h.1
  have h := h.2
  refine zv_callV (as := [ar s1, ai s0, ai 1, ai (fI w 11 p)]) (st := []) G M (zc_eV (C := zcn 1) G q235 q237 qs5 (Or.inl ⟨rfl, rfl⟩) q238 md_X0_need (zc_rc G (zne tw o18 (by decide)) o18 (by decide) (by decide) rfl) rfl dX0_quoted_61) (S 10 _ rfl _ _ _ h (zoks_cons trivial (zoks_cons rs0 (zoks_cons (zr_k 1 (by decide) (by decide)) (zoks_cons (hw.i 11 _ (by decide)) zoks_nil))))) (Or.inl ⟨rfl, rfl⟩) (zc_hk q238 q143) (by decide) (Nat.le_of_ble_eq_true rfl) (fun u9 h => ?_) (fun x16 u17 h => ?_)
  rotate_left
  · exact zx_leave G M rfl h
  refine zc_wk G hp (fun hu9 tu9 => ?_)
  refine zv_aload_n G rfl rfl dX0_quoted_64 ?_
  refine zv_aload_n G rfl rfl dX0_quoted_65 ?_
  refine zc_get (f := 12) (v := al (fI u9 12 p)) G (hFp tu9 rfl) rfl q2068 (Or.inl rfl) (cV_L rfl) dX0_quoted_66 ?_
  refine zv_bipush (a := 8) G (by decide) dX0_quoted_69 ?_
  refine zv_lshl G dX0_quoted_71 ?_
  refine zv_aload_n G rfl rfl dX0_quoted_72 ?_
  refine zv_aload_n G rfl rfl dX0_quoted_73 ?_
  refine zc_get (f := 9) (v := ai (fI u9 9 p)) G (hFp tu9 rfl) rfl q2065 (Or.inl rfl) (cV_I (by decide) (by decide)) dX0_quoted_74 ?_
  refine zv_callI (as := [ar p, ai (fI u9 9 p)]) (st := [al (l_shl (fI u9 12 p) 8), ar p]) G M (zc_eV (C := zcn 1) G q221 q223 qs3 (Or.inl ⟨rfl, rfl⟩) q224 md_X0_unit (zc_rc G (zne tu9 tu9.1 (by decide)) tu9.1 (by decide) (by decide) rfl) rfl dX0_quoted_77) (S 6 _ rfl _ _ _ h (zoks_cons trivial (zoks_cons (hu9.i 9 _ (by decide)) zoks_nil))) (Or.inl ⟨rfl, rfl⟩) (zc_hk q224 q143) (by decide) (Nat.le_of_ble_eq_true rfl) (fun v12 u11 rv12 h => ?_) (fun _ _ h => h.elim)
  refine zc_wk G hp (fun hu11 tu11 => ?_)
  refine zv_i2l G rv12 dX0_quoted_80 ?_
  refine zv_lor G dX0_quoted_81 ?_
  refine zc_putL (f := 12) G M (hPp tu11 rfl) rfl q2068 (Or.inl rfl) (Or.inl rfl) (zfty_12) rfl rfl rfl (by first | exact l_and_r _ _ | exact l_or_r _ _ | exact l_shl_r _ _ | exact l_shr_r _ _ | exact l_ushr_r _ _ | exact zrl_of _) dX0_quoted_82 (fun u13 eu13 => ?_)
  have h := h u13 eu13
  refine zc_wk G hp (fun hu13 tu13 => ?_)
  refine zv_iincN G rfl (by decide) dX0_quoted_85 (fun x1_14 ex1_14 => ?_)
  have h := h x1_14 ex1_14
  have rx1_14 : zr x1_14 := by rw [ex1_14]; exact w32_r _
  refine zv_aload_n G rfl rfl dX0_quoted_88 ?_
  refine zv_dup G rfl dX0_quoted_89 ?_
  refine zc_get (f := 9) (v := ai (fI u13 9 p)) G (hFp tu13 rfl) rfl q2065 (Or.inl rfl) (cV_I (by decide) (by decide)) dX0_quoted_90 ?_
  refine zv_iconst (a := 1) G (by decide) dX0_quoted_93 ?_
  refine zv_iadd G dX0_quoted_94 ?_
  refine zc_putI (f := 9) G M (hPp tu13 rfl) rfl q2065 (Or.inl rfl) (Or.inl rfl) (zfty_9) rfl rfl (by decide) (by decide) (w32_r _) dX0_quoted_95 (fun u15 eu15 => ?_)
  have h := h u15 eu15
  refine zc_wk G hp (fun hu15 tu15 => ?_)
  refine zv_goto (tgt := 17) G (by decide) dX0_quoted_98 ?_
  exact zv_pick [0, 1] rfl (hI17 _ _ h rx1_14)
set_option maxHeartbeats 4000000 in
set_option maxRecDepth 100000 in
theorem cpC_X0_quoted_55 {Γ : ZG CW} {D : CD} {d p : Nat} (hp : D.K.1 = p) (G : ZOk Γ cX0_quoted RX0 2 (KnC D) (ZC D)) (M : ZRm Γ (d + 1) D.lim (Option.none : Option Jvm.ClassFile.FieldType) "quoted" []) (S : SdC d D p Γ.l) (hl : Γ.l.stackTraces = false) (hk : 0 ≤ d) {I17 : Int → CW → Prop} {x1 : Int} {s0 : Nat} {w : CW} (hI17 : ∀ (x1 : Int) (w : CW), I17 x1 w → zr x1 → ZV Γ w 17 [(0, ar p), (1, ai x1)] []) (rx1 : zr x1) (h : pC_X0_quoted_55 p (wpC p d) (fun w => Γ.Q (.inl none) w) (fun x w => Γ.Q (.inr x) w) I17 x1 s0 w) : ZV Γ w 55 [(0, ar p), (1, ai x1)] [ar s0] := by
  refine zc_wk G hp (fun hw tw => ?_)
  refine zv_iconst (a := 0) G (by decide) dX0_quoted_55 ?_
  exact zv_pick [0, 1] rfl (cpC_X0_quoted_56 hp G M S hl hk hI17 rx1 (zr_k 0 (by decide) (by decide)) h)
set_option maxHeartbeats 4000000 in
set_option maxRecDepth 100000 in
theorem cpC_X0_quoted_17 {Γ : ZG CW} {D : CD} {d p : Nat} (hp : D.K.1 = p) (G : ZOk Γ cX0_quoted RX0 2 (KnC D) (ZC D)) (M : ZRm Γ (d + 1) D.lim (Option.none : Option Jvm.ClassFile.FieldType) "quoted" []) (S : SdC d D p Γ.l) (hl : Γ.l.stackTraces = false) (hk : 0 ≤ d) {x1 : Int} {w : CW} (rx1 : zr x1) (h : pC_X0_quoted_17 p (wpC p d) (fun w => Γ.Q (.inl none) w) (fun x w => Γ.Q (.inr x) w) x1 w) : ZV Γ w 17 [(0, ar p), (1, ai x1)] [] := by
  obtain ⟨I17, eI17⟩ : ∃ I : Int → CW → Prop, I = (fun x1 w => zr x1 → ZV Γ w 17 [(0, ar p), (1, ai x1)] []) := ⟨_, rfl⟩
  have hI17 : ∀ (x1 : Int) (w : CW), I17 x1 w → zr x1 → ZV Γ w 17 [(0, ar p), (1, ai x1)] [] := by subst eI17; exact fun _ _ z => z
  have hJ17 : ∀ (x1 : Int) (w : CW), (zr x1 → ZV Γ w 17 [(0, ar p), (1, ai x1)] []) → I17 x1 w := by subst eI17; exact fun _ _ z => z
  refine hI17 x1 w (h I17 (fun x1 w h => hJ17 x1 w (fun rx1 => ?_))) rx1
  refine zc_wk G hp (fun hw tw => ?_)
  refine zv_aload_n G rfl rfl dX0_quoted_17 ?_
  refine zv_aload_n G rfl rfl dX0_quoted_18 ?_
  refine zc_get (f := 9) (v := ai (fI w 9 p)) G (hFp tw rfl) rfl q2065 (Or.inl rfl) (cV_I (by decide) (by decide)) dX0_quoted_19 ?_
  refine zv_callI (as := [ar p, ai (fI w 9 p)]) (st := []) G M (zc_eV (C := zcn 1) G q221 q223 qs3 (Or.inl ⟨rfl, rfl⟩) q224 md_X0_unit (zc_rc G (zne tw tw.1 (by decide)) tw.1 (by decide) (by decide) rfl) rfl dX0_quoted_22) (S 6 _ rfl _ _ _ h (zoks_cons trivial (zoks_cons (hw.i 9 _ (by decide)) zoks_nil))) (Or.inl ⟨rfl, rfl⟩) (zc_hk q224 q143) (by decide) (Nat.le_of_ble_eq_true rfl) (fun v4 u3 rv4 h => ?_) (fun _ _ h => h.elim)
  refine zc_wk G hp (fun hu3 tu3 => ?_)
  refine zv_bipush (a := 39) G (by decide) dX0_quoted_25 ?_
  refine zv_icmp_eq (tgt := 101) G rv4 (zr_k 39 (by decide) (by decide)) (by decide) dX0_quoted_27 (fun c5 => ?_) (fun c5 => ?_)
  · have h := h.1 c5
    exact zv_pick [0] rfl (cpC_X0_quoted_101 hp G M S hl hk h)
  · have h := h.2 c5
    refine zv_aload_n G rfl rfl dX0_quoted_30 ?_
    refine zv_iload_n G rfl rfl dX0_quoted_31 ?_
    refine zv_bipush (a := 8) G (by decide) dX0_quoted_32 ?_
    refine zv_icmp_ge (tgt := 55) G rx1 (zr_k 8 (by decide) (by decide)) (by decide) dX0_quoted_34 (fun c8 => ?_) (fun c8 => ?_)
    · have h := h.1 c8
      exact zv_pick [0, 1] rfl (cpC_X0_quoted_55 hp G M S hl hk hI17 rx1 h)
    · have h := h.2 c8
      refine zv_aload_n G rfl rfl dX0_quoted_37 ?_
      refine zv_aload_n G rfl rfl dX0_quoted_38 ?_
      refine zc_get (f := 9) (v := ai (fI u3 9 p)) G (hFp tu3 rfl) rfl q2065 (Or.inl rfl) (cV_I (by decide) (by decide)) dX0_quoted_39 ?_
      refine zv_callI (as := [ar p, ai (fI u3 9 p)]) (st := [ar p]) G M (zc_eV (C := zcn 1) G q221 q223 qs3 (Or.inl ⟨rfl, rfl⟩) q224 md_X0_unit (zc_rc G (zne tu3 tu3.1 (by decide)) tu3.1 (by decide) (by decide) rfl) rfl dX0_quoted_42) (S 6 _ rfl _ _ _ h (zoks_cons trivial (zoks_cons (hu3.i 9 _ (by decide)) zoks_nil))) (Or.inl ⟨rfl, rfl⟩) (zc_hk q224 q143) (by decide) (Nat.le_of_ble_eq_true rfl) (fun v20 u19 rv20 h => ?_) (fun _ _ h => h.elim)
      refine zc_wk G hp (fun hu19 tu19 => ?_)
      refine zv_callI (as := [ai v20]) (st := [ar p]) G M (zc_eS G q225 q226 q143 q227 md_X0_isSmall rfl dX0_quoted_45) (S 7 _ rfl _ _ _ h (zoks_cons rv20 zoks_nil)) (Or.inl ⟨rfl, rfl⟩) (zc_hk q227 q143) (by decide) (Nat.le_of_ble_eq_true rfl) (fun v22 u21 rv22 h => ?_) (fun _ _ h => h.elim)
      refine zc_wk G hp (fun hu21 tu21 => ?_)
      refine zv_if_eq (tgt := 55) G rv22 (by decide) dX0_quoted_48 (fun c23 => ?_) (fun c23 => ?_)
      · have h := h.1 c23
        exact zv_pick [0, 1] rfl (cpC_X0_quoted_55 hp G M S hl hk hI17 rx1 h)
      · have h := h.2 c23
        refine zv_iconst (a := 1) G (by decide) dX0_quoted_51 ?_
        refine zv_goto (tgt := 56) G (by decide) dX0_quoted_52 ?_
        exact zv_pick [0, 1] rfl (cpC_X0_quoted_56 hp G M S hl hk hI17 rx1 (zr_k 1 (by decide) (by decide)) h)
set_option maxHeartbeats 4000000 in
set_option maxRecDepth 100000 in
theorem cpC_X0_quoted_0 {Γ : ZG CW} {D : CD} {d p : Nat} (hp : D.K.1 = p) (G : ZOk Γ cX0_quoted RX0 2 (KnC D) (ZC D)) (M : ZRm Γ (d + 1) D.lim (Option.none : Option Jvm.ClassFile.FieldType) "quoted" []) (S : SdC d D p Γ.l) (hl : Γ.l.stackTraces = false) (hk : 0 ≤ d) {w : CW} (h : pC_X0_quoted_0 p (wpC p d) (fun w => Γ.Q (.inl none) w) (fun x w => Γ.Q (.inr x) w) w) : ZV Γ w 0 [(0, ar p)] [] := by
  refine zc_wk G hp (fun hw tw => ?_)
  refine zv_aload_n G rfl rfl dX0_quoted_0 ?_
  refine zv_dup G rfl dX0_quoted_1 ?_
  refine zc_get (f := 9) (v := ai (fI w 9 p)) G (hFp tw rfl) rfl q2065 (Or.inl rfl) (cV_I (by decide) (by decide)) dX0_quoted_2 ?_
  refine zv_iconst (a := 1) G (by decide) dX0_quoted_5 ?_
  refine zv_iadd G dX0_quoted_6 ?_
  refine zc_putI (f := 9) G M (hPp tw rfl) rfl q2065 (Or.inl rfl) (Or.inl rfl) (zfty_9) rfl rfl (by decide) (by decide) (w32_r _) dX0_quoted_7 (fun u1 eu1 => ?_)
  have h := h u1 eu1
  refine zc_wk G hp (fun hu1 tu1 => ?_)
  refine zv_aload_n G rfl rfl dX0_quoted_10 ?_
  refine zv_lconst (a := 0) G (by decide) dX0_quoted_11 ?_
  refine zc_putL (f := 12) G M (hPp tu1 rfl) rfl q2068 (Or.inl rfl) (Or.inl rfl) (zfty_12) rfl rfl rfl (zrl_k 0 (by decide) (by decide)) dX0_quoted_12 (fun u2 eu2 => ?_)
  have h := h u2 eu2
  refine zc_wk G hp (fun hu2 tu2 => ?_)
  refine zv_iconst (a := 0) G (by decide) dX0_quoted_15 ?_
  refine zv_istore_n G rfl (by decide) rfl dX0_quoted_16 ?_
  exact zv_pick [0, 1] rfl (cpC_X0_quoted_17 hp G M S hl hk (zr_k 0 (by decide) (by decide)) h)
set_option maxHeartbeats 4000000 in
set_option maxRecDepth 100000 in
theorem cpC_X0_isWord_76 {Γ : ZG CW} {D : CD} {d p : Nat} (hp : D.K.1 = p) (G : ZOk Γ cX0_isWord RX0 4 (KnC D) (ZC D)) (M : ZRm Γ (d + 1) D.lim (Option.some Jvm.ClassFile.FieldType.boolean) "isWord" []) (S : SdC d D p Γ.l) (hl : Γ.l.stackTraces = false) (hk : 0 ≤ d) {x2 : Int} {w : CW} (rx2 : zr x2) (h : pC_X0_isWord_76 p (wpC p d) (fun v w => Γ.Q (.inl (some (ai v))) w) x2 w) : ZV Γ w 76 [(2, ai x2)] [] := by
  refine zc_wk G hp (fun hw tw => ?_)
  refine zv_iload_n G rfl rfl dX0_isWord_76 ?_
  exact zv_iret (ty := .boolean) rx2 G M (zn_Z h.1) dX0_isWord_77 h.2
set_option maxHeartbeats 4000000 in
set_option maxRecDepth 100000 in
theorem cpC_X0_isWord_33 {Γ : ZG CW} {D : CD} {d p : Nat} (hp : D.K.1 = p) (G : ZOk Γ cX0_isWord RX0 4 (KnC D) (ZC D)) (M : ZRm Γ (d + 1) D.lim (Option.some Jvm.ClassFile.FieldType.boolean) "isWord" []) (S : SdC d D p Γ.l) (hl : Γ.l.stackTraces = false) (hk : 0 ≤ d) {x1 : Nat} {x2 : Int} {x3 : Int} {w : CW} (rx2 : zr x2) (rx3 : zr x3) (h : pC_X0_isWord_33 p (wpC p d) (fun v w => Γ.Q (.inl (some (ai v))) w) x1 x2 x3 w) : ZV Γ w 33 [(0, ar p), (1, ar x1), (2, ai x2), (3, ai x3)] [] := by
  obtain ⟨I33, eI33⟩ : ∃ I : Int → Int → CW → Prop, I = (fun x2 x3 w => zr x2 → zr x3 → ZV Γ w 33 [(0, ar p), (1, ar x1), (2, ai x2), (3, ai x3)] []) := ⟨_, rfl⟩
  have hI33 : ∀ (x2 : Int) (x3 : Int) (w : CW), I33 x2 x3 w → zr x2 → zr x3 → ZV Γ w 33 [(0, ar p), (1, ar x1), (2, ai x2), (3, ai x3)] [] := by subst eI33; exact fun _ _ _ z => z
  have hJ33 : ∀ (x2 : Int) (x3 : Int) (w : CW), (zr x2 → zr x3 → ZV Γ w 33 [(0, ar p), (1, ar x1), (2, ai x2), (3, ai x3)] []) → I33 x2 x3 w := by subst eI33; exact fun _ _ _ z => z
  refine hI33 x2 x3 w (h I33 (fun x2 x3 w h => hJ33 x2 x3 w (fun rx2 rx3 => ?_))) rx2 rx3
  refine zc_wk G hp (fun hw tw => ?_)
  refine zv_iload_n G rfl rfl dX0_isWord_33 ?_
  refine zv_if_eq (tgt := 76) G rx2 (by decide) dX0_isWord_34 (fun c2 => ?_) (fun c2 => ?_)
  · have h := h.1 c2
    exact zv_pick [2] rfl (cpC_X0_isWord_76 hp G M S hl hk rx2 h)
  · have h := h.2 c2
    refine zv_iload_n G rfl rfl dX0_isWord_37 ?_
    refine zv_aload_n G rfl rfl dX0_isWord_38 ?_
    have o15 := h.1
    have h := h.2
    have en16 : ZEn Γ w 39 [(0, ar p), (1, ar x1), (2, ai x2), (3, ai x3)] yJ4_length 3 [ar x1] [ai x3] := by
      rcases o15 with z | z
      · exact (zc_eV (C := zcn 32) G q651 q320 q321 (Or.inl ⟨rfl, rfl⟩) q322 md_J4_length (zc_rc G (zne tw z (by decide)) z (by decide) (by decide) rfl) rfl dX0_isWord_39)
      · exact (zc_eV (C := zcn 34) G q651 q320 q321 (Or.inl ⟨rfl, rfl⟩) q322 md_J4_length (zc_rc G (zne tw z (by decide)) z (by decide) (by decide) rfl) rfl dX0_isWord_39)
    refine zv_callI (as := [ar x1]) (st := [ai x3]) G M en16 (S 221 _ rfl _ _ _ h (zoks_cons trivial zoks_nil)) (Or.inl ⟨rfl, rfl⟩) (zc_hk q322 q150) (by decide) (Nat.le_of_ble_eq_true rfl) (fun v4 u3 rv4 h => ?_) (fun _ _ h => h.elim)
    refine zc_wk G hp (fun hu3 tu3 => ?_)
    refine zv_icmp_ge (tgt := 76) G rx3 rv4 (by decide) dX0_isWord_42 (fun c5 => ?_) (fun c5 => ?_)
    · have h := h.1 c5
      exact zv_pick [2] rfl (cpC_X0_isWord_76 hp G M S hl hk rx2 h)
    · have h := h.2 c5
      refine zv_aload_n G rfl rfl dX0_isWord_45 ?_
      refine zc_get (f := 7) (v := ar (fR u3 7 p)) G (hFp tu3 rfl) rfl q2063 (Or.inl rfl) (cV_R rfl) dX0_isWord_46 ?_
      refine zv_aload_n G rfl rfl dX0_isWord_49 ?_
      refine zc_get (f := 11) (v := ai (fI u3 11 p)) G (hFp tu3 rfl) rfl q2067 (Or.inl rfl) (cV_I (by decide) (by decide)) dX0_isWord_50 ?_
      refine zv_iload_n G rfl rfl dX0_isWord_53 ?_
      refine zv_iadd G dX0_isWord_54 ?_
      have o6 := h.1
      have h := h.2
      refine zc_baldN G o6.1 (w32_r _) o6.2.1 o6.2.2 dX0_isWord_55 ?_
      refine zv_aload_n G rfl rfl dX0_isWord_56 ?_
      refine zv_iload_n G rfl rfl dX0_isWord_57 ?_
      have o13 := h.1
      have h := h.2
      have en14 : ZEn Γ u3 58 [(0, ar p), (1, ar x1), (2, ai x2), (3, ai x3)] yJ4_charAt 3 [ar x1, ai x3] [ai (aN u3 (fR u3 7 p) (w32 ((fI u3 11 p) + x3)))] := by
        rcases o13 with z | z
        · exact (zc_eV (C := zcn 32) G q652 q653 q654 (Or.inl ⟨rfl, rfl⟩) q655 md_J4_charAt (zc_rc G (zne tu3 z (by decide)) z (by decide) (by decide) rfl) rfl dX0_isWord_58)
        · exact (zc_eV (C := zcn 34) G q652 q653 q654 (Or.inl ⟨rfl, rfl⟩) q655 md_J4_charAt (zc_rc G (zne tu3 z (by decide)) z (by decide) (by decide) rfl) rfl dX0_isWord_58)
      refine zv_callI (as := [ar x1, ai x3]) (st := [ai (aN u3 (fR u3 7 p) (w32 ((fI u3 11 p) + x3)))]) G M en14 (S 233 _ rfl _ _ _ h (zoks_cons trivial (zoks_cons rx3 zoks_nil))) (Or.inl ⟨rfl, rfl⟩) (zc_hk q655 q150) (by decide) (Nat.le_of_ble_eq_true rfl) (fun v8 u7 rv8 h => ?_) (fun _ _ h => h.elim)
      refine zc_wk G hp (fun hu7 tu7 => ?_)
      have kj11 : ∀ v9 : Int, v9 = (if (aN u3 (fR u3 7 p) (w32 ((fI u3 11 p) + x3))) = v8 then 1 else 0) → ZV Γ u7 69 [(0, ar p), (1, ar x1), (2, ai x2), (3, ai x3)] (ai v9 :: []) := by
        intro v9 ev9
        have h := h v9 ev9
        have rv9 : zr v9 := by rw [ev9]; exact (zr_ite (zr_k 1 (by decide) (by decide)) (zr_k 0 (by decide) (by decide)))
        have bv9 : v9 = 0 ∨ v9 = 1 := by rw [ev9]; exact (zb_ite (Or.inr rfl) (Or.inl rfl))
        refine zv_istore_n G rfl (by decide) rfl dX0_isWord_69 ?_
        refine zv_iincN G rfl (by decide) dX0_isWord_70 (fun x3_10 ex3_10 => ?_)
        have h := h x3_10 ex3_10
        have rx3_10 : zr x3_10 := by rw [ex3_10]; exact w32_r _
        refine zv_goto (tgt := 33) G (by decide) dX0_isWord_73 ?_
        exact zv_pick [0, 1, 2, 3] rfl (hI33 _ _ _ h rv9 rx3_10)
      refine zv_icmp_ne (tgt := 68) G (aN_r hu3 _ _) rv8 (by decide) dX0_isWord_61 (fun c12 => ?_) (fun c12 => ?_)
      · refine zv_iconst (a := 0) G (by decide) dX0_isWord_68 ?_
        exact kj11 _ (if_neg c12).symm
      · refine zv_iconst (a := 1) G (by decide) dX0_isWord_64 ?_
        refine zv_goto (tgt := 69) G (by decide) dX0_isWord_65 ?_
        exact kj11 _ (if_pos c12).symm
set_option maxHeartbeats 4000000 in
set_option maxRecDepth 100000 in
theorem cpC_X0_isWord_30 {Γ : ZG CW} {D : CD} {d p : Nat} (hp : D.K.1 = p) (G : ZOk Γ cX0_isWord RX0 4 (KnC D) (ZC D)) (M : ZRm Γ (d + 1) D.lim (Option.some Jvm.ClassFile.FieldType.boolean) "isWord" []) (S : SdC d D p Γ.l) (hl : Γ.l.stackTraces = false) (hk : 0 ≤ d) {x1 : Nat} {s0 : Int} {w : CW} (rs0 : zr s0) (h : pC_X0_isWord_30 p (wpC p d) (fun v w => Γ.Q (.inl (some (ai v))) w) x1 s0 w) : ZV Γ w 30 [(0, ar p), (1, ar x1)] [ai s0] := by
  refine zc_wk G hp (fun hw tw => ?_)
  refine zv_istore_n G rfl (by decide) rfl dX0_isWord_30 ?_
  refine zv_iconst (a := 0) G (by decide) dX0_isWord_31 ?_
  refine zv_istore_n G rfl (by decide) rfl dX0_isWord_32 ?_
  exact zv_pick [0, 1, 2, 3] rfl (cpC_X0_isWord_33 hp G M S hl hk rs0 (zr_k 0 (by decide) (by decide)) h)
set_option maxHeartbeats 4000000 in
set_option maxRecDepth 100000 in
theorem cpC_X0_isWord_29 {Γ : ZG CW} {D : CD} {d p : Nat} (hp : D.K.1 = p) (G : ZOk Γ cX0_isWord RX0 4 (KnC D) (ZC D)) (M : ZRm Γ (d + 1) D.lim (Option.some Jvm.ClassFile.FieldType.boolean) "isWord" []) (S : SdC d D p Γ.l) (hl : Γ.l.stackTraces = false) (hk : 0 ≤ d) {x1 : Nat} {w : CW} (h : pC_X0_isWord_29 p (wpC p d) (fun v w => Γ.Q (.inl (some (ai v))) w) x1 w) : ZV Γ w 29 [(0, ar p), (1, ar x1)] [] := by
  refine zc_wk G hp (fun hw tw => ?_)
  refine zv_iconst (a := 0) G (by decide) dX0_isWord_29 ?_
  exact zv_pick [0, 1] rfl (cpC_X0_isWord_30 hp G M S hl hk (zr_k 0 (by decide) (by decide)) h)
set_option maxHeartbeats 4000000 in
set_option maxRecDepth 100000 in
theorem cpC_X0_isWord_0 {Γ : ZG CW} {D : CD} {d p : Nat} (hp : D.K.1 = p) (G : ZOk Γ cX0_isWord RX0 4 (KnC D) (ZC D)) (M : ZRm Γ (d + 1) D.lim (Option.some Jvm.ClassFile.FieldType.boolean) "isWord" []) (S : SdC d D p Γ.l) (hl : Γ.l.stackTraces = false) (hk : 0 ≤ d) {x1 : Nat} {w : CW} (h : pC_X0_isWord_0 p (wpC p d) (fun v w => Γ.Q (.inl (some (ai v))) w) x1 w) : ZV Γ w 0 [(0, ar p), (1, ar x1)] [] := by
  refine zc_wk G hp (fun hw tw => ?_)
  refine zv_aload_n G rfl rfl dX0_isWord_0 ?_
  refine zc_get (f := 10) (v := ai (fI w 10 p)) G (hFp tw rfl) rfl q2066 (Or.inl rfl) (cV_I (by decide) (by decide)) dX0_isWord_1 ?_
  refine zv_bipush (a := 6) G (by decide) dX0_isWord_4 ?_
  refine zv_icmp_ne (tgt := 29) G (hw.i 10 _ (by decide)) (zr_k 6 (by decide) (by decide)) (by decide) dX0_isWord_6 (fun c1 => ?_) (fun c1 => ?_)
  · have h := h.2 c1
    exact zv_pick [0, 1] rfl (cpC_X0_isWord_29 hp G M S hl hk h)
  · have h := h.1 c1
    refine zv_aload_n G rfl rfl dX0_isWord_9 ?_
    refine zc_get (f := 9) (v := ai (fI w 9 p)) G (hFp tw rfl) rfl q2065 (Or.inl rfl) (cV_I (by decide) (by decide)) dX0_isWord_10 ?_
    refine zv_aload_n G rfl rfl dX0_isWord_13 ?_
    refine zc_get (f := 11) (v := ai (fI w 11 p)) G (hFp tw rfl) rfl q2067 (Or.inl rfl) (cV_I (by decide) (by decide)) dX0_isWord_14 ?_
    refine zv_isub G dX0_isWord_17 ?_
    refine zv_aload_n G rfl rfl dX0_isWord_18 ?_
    have o20 := h.1
    have h := h.2
    have en21 : ZEn Γ w 19 [(0, ar p), (1, ar x1)] yJ4_length 3 [ar x1] [ai (w32 ((fI w 9 p) - (fI w 11 p)))] := by
      rcases o20 with z | z
      · exact (zc_eV (C := zcn 32) G q651 q320 q321 (Or.inl ⟨rfl, rfl⟩) q322 md_J4_length (zc_rc G (zne tw z (by decide)) z (by decide) (by decide) rfl) rfl dX0_isWord_19)
      · exact (zc_eV (C := zcn 34) G q651 q320 q321 (Or.inl ⟨rfl, rfl⟩) q322 md_J4_length (zc_rc G (zne tw z (by decide)) z (by decide) (by decide) rfl) rfl dX0_isWord_19)
    refine zv_callI (as := [ar x1]) (st := [ai (w32 ((fI w 9 p) - (fI w 11 p)))]) G M en21 (S 221 _ rfl _ _ _ h (zoks_cons trivial zoks_nil)) (Or.inl ⟨rfl, rfl⟩) (zc_hk q322 q150) (by decide) (Nat.le_of_ble_eq_true rfl) (fun v18 u17 rv18 h => ?_) (fun _ _ h => h.elim)
    refine zc_wk G hp (fun hu17 tu17 => ?_)
    refine zv_icmp_ne (tgt := 29) G (w32_r _) rv18 (by decide) dX0_isWord_22 (fun c19 => ?_) (fun c19 => ?_)
    · have h := h.2 c19
      exact zv_pick [0, 1] rfl (cpC_X0_isWord_29 hp G M S hl hk h)
    · have h := h.1 c19
      refine zv_iconst (a := 1) G (by decide) dX0_isWord_25 ?_
      refine zv_goto (tgt := 30) G (by decide) dX0_isWord_26 ?_
      exact zv_pick [0, 1] rfl (cpC_X0_isWord_30 hp G M S hl hk (zr_k 1 (by decide) (by decide)) h)
set_option maxHeartbeats 4000000 in
set_option maxRecDepth 100000 in
theorem cpC_X0_readKind_341 {Γ : ZG CW} {D : CD} {d p : Nat} (hp : D.K.1 = p) (G : ZOk Γ cX0_readKind RX0 7 (KnC D) (ZC D)) (M : ZRm Γ (d + 1) D.lim (Option.none : Option Jvm.ClassFile.FieldType) "readKind" []) (S : SdC d D p Γ.l) (hl : Γ.l.stackTraces = false) (hk : 0 ≤ d) {w : CW} (h : pC_X0_readKind_341 p (wpC p d) (fun w => Γ.Q (.inl none) w) (fun x w => Γ.Q (.inr x) w) w) : ZV Γ w 341 [] [] := by
  refine zc_wk G hp (fun hw tw => ?_)
  exact zv_vret G M dX0_readKind_341 h
set_option maxHeartbeats 4000000 in
set_option maxRecDepth 100000 in
theorem cpC_X0_readKind_320 {Γ : ZG CW} {D : CD} {d p : Nat} (hp : D.K.1 = p) (G : ZOk Γ cX0_readKind RX0 7 (KnC D) (ZC D)) (M : ZRm Γ (d + 1) D.lim (Option.none : Option Jvm.ClassFile.FieldType) "readKind" []) (S : SdC d D p Γ.l) (hl : Γ.l.stackTraces = false) (hk : 0 ≤ d) {x4 : Nat} {w : CW} (h : pC_X0_readKind_320 p (wpC p d) (fun w => Γ.Q (.inl none) w) (fun x w => Γ.Q (.inr x) w) x4 w) : ZV Γ w 320 [(0, ar p), (4, ar x4)] [] := by
  refine zc_wk G hp (fun hw tw => ?_)
  refine zv_aload_n G rfl rfl dX0_readKind_320 ?_
  refine zv_aload_n G rfl rfl dX0_readKind_321 ?_
  refine zv_bipush (a := 59) G (by decide) dX0_readKind_322 ?_
  refine zv_callI (as := [ar p, ai 59]) (st := [ar p]) G M (zc_eV (C := zcn 1) G q709 q711 qs12 (Or.inl ⟨rfl, rfl⟩) q712 md_X0_isSign (zc_rc G (zne tw tw.1 (by decide)) tw.1 (by decide) (by decide) rfl) rfl dX0_readKind_324) (S 16 _ rfl _ _ _ h (zoks_cons trivial (zoks_cons (zr_k 59 (by decide) (by decide)) zoks_nil))) (Or.inl ⟨rfl, rfl⟩) (zc_hk q712 q143) (by decide) (Nat.le_of_ble_eq_true rfl) (fun v33 u32 rv33 h => ?_) (fun _ _ h => h.elim)
  refine zc_wk G hp (fun hu32 tu32 => ?_)
  refine zv_callV (as := [ar p, ai v33]) (st := []) G M (zc_eV (C := zcn 1) G q667 q669 qs10 (Or.inl ⟨rfl, rfl⟩) q670 md_X0_want (zc_rc G (zne tu32 tu32.1 (by decide)) tu32.1 (by decide) (by decide) rfl) rfl dX0_readKind_327) (S 14 _ rfl _ _ _ h (zoks_cons trivial (zoks_cons rv33 zoks_nil))) (Or.inl ⟨rfl, rfl⟩) (zc_hk q670 q143) (by decide) (Nat.le_of_ble_eq_true rfl) (fun u34 h => ?_) (fun x39 u40 h => ?_)
  rotate_left
  · exact zx_leave G M rfl h
  refine zc_wk G hp (fun hu34 tu34 => ?_)
  refine zv_aload G rfl dX0_readKind_330 ?_
  refine zv_ifnull (tgt := 341) G (by decide) dX0_readKind_332 (fun c36 => ?_) (fun c36 => ?_)
  · have h := h.1 c36
    exact zv_pick [] rfl (cpC_X0_readKind_341 hp G M S hl hk h)
  · have h := h.2 c36
    refine zv_aload G rfl dX0_readKind_335 ?_
    refine zv_iconst (a := 1) G (by decide) dX0_readKind_337 ?_
    have o38 := h.1
    have h := h.2
    refine zc_putI (f := 40) G M o38 rfl q690 (Or.inl rfl) (Or.inl rfl) (zfty_40) (zn_Z (Or.inr rfl)) (zf_Z (Or.inr rfl)) (by decide) (by decide) (zr_k 1 (by decide) (by decide)) dX0_readKind_338 (fun u37 eu37 => ?_)
    have h := h u37 eu37
    refine zc_wk G hp (fun hu37 tu37 => ?_)
    exact zv_pick [] rfl (cpC_X0_readKind_341 hp G M S hl hk h)
set_option maxHeartbeats 4000000 in
set_option maxRecDepth 100000 in
theorem cpC_X0_readKind_314 {Γ : ZG CW} {D : CD} {d p : Nat} (hp : D.K.1 = p) (G : ZOk Γ cX0_readKind RX0 7 (KnC D) (ZC D)) (M : ZRm Γ (d + 1) D.lim (Option.none : Option Jvm.ClassFile.FieldType) "readKind" []) (S : SdC d D p Γ.l) (hl : Γ.l.stackTraces = false) (hk : 0 ≤ d) {x4 : Nat} {w : CW} (h : pC_X0_readKind_314 p (wpC p d) (fun w => Γ.Q (.inl none) w) (fun x w => Γ.Q (.inr x) w) x4 w) : ZV Γ w 314 [(0, ar p), (4, ar x4)] [] := by
  refine zc_wk G hp (fun hw tw => ?_)
  refine zv_aload_n G rfl rfl dX0_readKind_314 ?_
  refine zv_bipush (a := 41) G (by decide) dX0_readKind_315 ?_
  refine zv_callV (as := [ar p, ai 41]) (st := []) G M (zc_eV (C := zcn 1) G q720 q722 qs14 (Or.inl ⟨rfl, rfl⟩) q723 md_X0_skip (zc_rc G (zne tw tw.1 (by decide)) tw.1 (by decide) (by decide) rfl) rfl dX0_readKind_317) (S 18 _ rfl _ _ _ h (zoks_cons trivial (zoks_cons (zr_k 41 (by decide) (by decide)) zoks_nil))) (Or.inl ⟨rfl, rfl⟩) (zc_hk q723 q143) (by decide) (Nat.le_of_ble_eq_true rfl) (fun u61 h => ?_) (fun x63 u64 h => ?_)
  rotate_left
  · exact zx_leave G M rfl h
  refine zc_wk G hp (fun hu61 tu61 => ?_)
  exact zv_pick [0, 4] rfl (cpC_X0_readKind_320 hp G M S hl hk h)
set_option maxHeartbeats 4000000 in
set_option maxRecDepth 100000 in
theorem cpC_X0_readKind_243 {Γ : ZG CW} {D : CD} {d p : Nat} (hp : D.K.1 = p) (G : ZOk Γ cX0_readKind RX0 7 (KnC D) (ZC D)) (M : ZRm Γ (d + 1) D.lim (Option.none : Option Jvm.ClassFile.FieldType) "readKind" []) (S : SdC d D p Γ.l) (hl : Γ.l.stackTraces = false) (hk : 0 ≤ d) {x4 : Nat} {x5 : Nat} {w : CW} (h : pC_X0_readKind_243 p (wpC p d) (fun w => Γ.Q (.inl none) w) (fun x w => Γ.Q (.inr x) w) x4 x5 w) : ZV Γ w 243 [(0, ar p), (4, ar x4), (5, ar x5)] [] := by
  obtain ⟨I243, eI243⟩ : ∃ I : CW → Prop, I = (fun w => ZV Γ w 243 [(0, ar p), (4, ar x4), (5, ar x5)] []) := ⟨_, rfl⟩
  have hI243 : ∀ (w : CW), I243 w → ZV Γ w 243 [(0, ar p), (4, ar x4), (5, ar x5)] [] := by subst eI243; exact fun _ z => z
  have hJ243 : ∀ (w : CW), (ZV Γ w 243 [(0, ar p), (4, ar x4), (5, ar x5)] []) → I243 w := by subst eI243; exact fun _ z => z
  refine hI243 w (h I243 (fun w h => hJ243 w ?_)) 
  refine zc_wk G hp (fun hw tw => ?_)
  refine zv_aload_n G rfl rfl dX0_readKind_243 ?_
  refine zv_callV (as := [ar p]) (st := []) G M (zc_eV (C := zcn 1) G q213 q215 qs1 (Or.inl ⟨rfl, rfl⟩) q216 md_X0_next (zc_rc G (zne tw tw.1 (by decide)) tw.1 (by decide) (by decide) rfl) rfl dX0_readKind_244) (S 4 _ rfl _ _ _ h (zoks_cons trivial zoks_nil)) (Or.inl ⟨rfl, rfl⟩) (zc_hk q216 q143) (by decide) (Nat.le_of_ble_eq_true rfl) (fun u41 h => ?_) (fun x73 u74 h => ?_)
  rotate_left
  · exact zx_leave G M rfl h
  refine zc_wk G hp (fun hu41 tu41 => ?_)
  refine zv_aload_n G rfl rfl dX0_readKind_247 ?_
  refine zv_callI (as := [ar p]) (st := []) G M (zc_eV (C := zcn 1) G q713 q715 qs13 (Or.inl ⟨rfl, rfl⟩) q716 md_X0_readSort (zc_rc G (zne tu41 tu41.1 (by decide)) tu41.1 (by decide) (by decide) rfl) rfl dX0_readKind_248) (S 17 _ rfl _ _ _ h (zoks_cons trivial zoks_nil)) (Or.inl ⟨rfl, rfl⟩) (zc_hk q716 q143) (by decide) (Nat.le_of_ble_eq_true rfl) (fun v44 u43 rv44 h => ?_) (fun x71 u72 h => ?_)
  rotate_left
  · exact zx_leave G M rfl h
  refine zc_wk G hp (fun hu43 tu43 => ?_)
  refine zv_istore G (by decide) rfl dX0_readKind_251 ?_
  refine zv_aload_n G rfl rfl dX0_readKind_253 ?_
  refine zv_aload G rfl dX0_readKind_254 ?_
  have o45 := h.1
  have h := h.2
  refine zc_get (f := 42) (v := ai (fI u43 42 x5)) G o45 rfl q694 (Or.inl rfl) (cV_I (by decide) (by decide)) dX0_readKind_256 ?_
  refine zv_iconst (a := 4) G (by decide) dX0_readKind_259 ?_
  have kj69 : ∀ v46 : Int, v46 = (if ¬ (4 ≤ (fI u43 42 x5)) then 1 else 0) → ZV Γ u43 268 [(6, ai v44), (0, ar p), (4, ar x4), (5, ar x5)] (ai v46 :: ar p :: []) := by
    intro v46 ev46
    have h := h v46 ev46
    have rv46 : zr v46 := by rw [ev46]; exact (zr_ite (zr_k 1 (by decide) (by decide)) (zr_k 0 (by decide) (by decide)))
    have bv46 : v46 = 0 ∨ v46 = 1 := by rw [ev46]; exact (zb_ite (Or.inr rfl) (Or.inl rfl))
    refine zv_bipush (a := 9) G (by decide) dX0_readKind_268 ?_
    refine zv_aload_n G rfl rfl dX0_readKind_270 ?_
    refine zc_get (f := 11) (v := ai (fI u43 11 p)) G (hFp tu43 rfl) rfl q2067 (Or.inl rfl) (cV_I (by decide) (by decide)) dX0_readKind_271 ?_
    refine zv_callV (as := [ar p, ai v46, ai 9, ai (fI u43 11 p)]) (st := []) G M (zc_eV (C := zcn 1) G q235 q237 qs5 (Or.inl ⟨rfl, rfl⟩) q238 md_X0_need (zc_rc G (zne tu43 tu43.1 (by decide)) tu43.1 (by decide) (by decide) rfl) rfl dX0_readKind_274) (S 10 _ rfl _ _ _ h (zoks_cons trivial (zoks_cons rv46 (zoks_cons (zr_k 9 (by decide) (by decide)) (zoks_cons (hu43.i 11 _ (by decide)) zoks_nil))))) (Or.inl ⟨rfl, rfl⟩) (zc_hk q238 q143) (by decide) (Nat.le_of_ble_eq_true rfl) (fun u47 h => ?_) (fun x67 u68 h => ?_)
    rotate_left
    · exact zx_leave G M rfl h
    refine zc_wk G hp (fun hu47 tu47 => ?_)
    refine zv_aload G rfl dX0_readKind_277 ?_
    have o49 := h.1
    have h := h.2
    refine zc_get (f := 41) (v := ar (fR u47 41 x5)) G o49 rfl q693 (Or.inl rfl) (cV_R rfl) dX0_readKind_279 ?_
    refine zv_aload G rfl dX0_readKind_282 ?_
    have o50 := h.1
    have h := h.2
    refine zc_get (f := 42) (v := ai (fI u47 42 x5)) G o50 rfl q694 (Or.inl rfl) (cV_I (by decide) (by decide)) dX0_readKind_284 ?_
    refine zv_iload G rfl dX0_readKind_287 ?_
    have o52 := h.1
    have h := h.2
    refine zc_iast G o52.1 (hu47.i 42 _ (by decide)) rv44 o52.2.1 o52.2.2 dX0_readKind_289 (fun u51 eu51 => ?_)
    have h := h u51 eu51
    refine zc_wk G hp (fun hu51 tu51 => ?_)
    refine zv_aload G rfl dX0_readKind_290 ?_
    refine zv_dup G rfl dX0_readKind_292 ?_
    have o53 := h.1
    have h := h.2
    refine zc_get (f := 42) (v := ai (fI u51 42 x5)) G o53 rfl q694 (Or.inl rfl) (cV_I (by decide) (by decide)) dX0_readKind_293 ?_
    refine zv_iconst (a := 1) G (by decide) dX0_readKind_296 ?_
    refine zv_iadd G dX0_readKind_297 ?_
    have o55 := h.1
    have h := h.2
    refine zc_putI (f := 42) G M o55 rfl q694 (Or.inl rfl) (Or.inl rfl) (zfty_42) rfl rfl (by decide) (by decide) (w32_r _) dX0_readKind_298 (fun u54 eu54 => ?_)
    have h := h u54 eu54
    refine zc_wk G hp (fun hu54 tu54 => ?_)
    refine zv_aload_n G rfl rfl dX0_readKind_301 ?_
    refine zv_callV (as := [ar p]) (st := []) G M (zc_eV (C := zcn 1) G q213 q215 qs1 (Or.inl ⟨rfl, rfl⟩) q216 md_X0_next (zc_rc G (zne tu54 tu54.1 (by decide)) tu54.1 (by decide) (by decide) rfl) rfl dX0_readKind_302) (S 4 _ rfl _ _ _ h (zoks_cons trivial zoks_nil)) (Or.inl ⟨rfl, rfl⟩) (zc_hk q216 q143) (by decide) (Nat.le_of_ble_eq_true rfl) (fun u56 h => ?_) (fun x65 u66 h => ?_)
    rotate_left
    · exact zx_leave G M rfl h
    refine zc_wk G hp (fun hu56 tu56 => ?_)
    refine zv_aload_n G rfl rfl dX0_readKind_305 ?_
    refine zv_bipush (a := 44) G (by decide) dX0_readKind_306 ?_
    refine zv_callI (as := [ar p, ai 44]) (st := []) G M (zc_eV (C := zcn 1) G q709 q711 qs12 (Or.inl ⟨rfl, rfl⟩) q712 md_X0_isSign (zc_rc G (zne tu56 tu56.1 (by decide)) tu56.1 (by decide) (by decide) rfl) rfl dX0_readKind_308) (S 16 _ rfl _ _ _ h (zoks_cons trivial (zoks_cons (zr_k 44 (by decide) (by decide)) zoks_nil))) (Or.inl ⟨rfl, rfl⟩) (zc_hk q712 q143) (by decide) (Nat.le_of_ble_eq_true rfl) (fun v59 u58 rv59 h => ?_) (fun _ _ h => h.elim)
    refine zc_wk G hp (fun hu58 tu58 => ?_)
    refine zv_if_ne (tgt := 243) G rv59 (by decide) dX0_readKind_311 (fun c60 => ?_) (fun c60 => ?_)
    · have h := h.2 c60
      exact zv_pick [0, 4, 5] rfl (hI243 _ h )
    · have h := h.1 c60
      exact zv_pick [0, 4] rfl (cpC_X0_readKind_314 hp G M S hl hk h)
  refine zv_icmp_ge (tgt := 267) G (hu43.i 42 _ (by decide)) (zr_k 4 (by decide) (by decide)) (by decide) dX0_readKind_260 (fun c70 => ?_) (fun c70 => ?_)
  · refine zv_iconst (a := 0) G (by decide) dX0_readKind_267 ?_
    exact kj69 _ (if_neg (fun q => q c70)).symm
  · refine zv_iconst (a := 1) G (by decide) dX0_readKind_263 ?_
    refine zv_goto (tgt := 268) G (by decide) dX0_readKind_264 ?_
    exact kj69 _ (if_pos c70).symm
set_option maxHeartbeats 4000000 in
set_option maxRecDepth 100000 in
theorem cpC_X0_readKind_197 {Γ : ZG CW} {D : CD} {d p : Nat} (hp : D.K.1 = p) (G : ZOk Γ cX0_readKind RX0 7 (KnC D) (ZC D)) (M : ZRm Γ (d + 1) D.lim (Option.none : Option Jvm.ClassFile.FieldType) "readKind" []) (S : SdC d D p Γ.l) (hl : Γ.l.stackTraces = false) (hk : 0 ≤ d) {x2 : Int} {x4 : Nat} {w : CW} (rx2 : zrl x2) (h : pC_X0_readKind_197 p (wpC p d) (fun w => Γ.Q (.inl none) w) (fun x w => Γ.Q (.inr x) w) x2 x4 w) : ZV Γ w 197 [(0, ar p), (2, al x2), (4, ar x4)] [] := by
  refine zc_wk G hp (fun hw tw => ?_)
  have o22 := h.1
  have h := h.2
  refine zc_new (ci := 2) (t := 3) (n := 6) G M rfl rfl (by decide) rfl q676 q677 q159 o22 dX0_readKind_197 (fun u21 eu21 => ?_)
  have h := h u21 eu21
  refine zc_wk G hp (fun hu21 tu21 => ?_)
  refine zv_dup G rfl dX0_readKind_200 ?_
  refine zv_aload_n G rfl rfl dX0_readKind_201 ?_
  refine zc_get (f := 1) (v := ai (fI u21 1 p)) G (hFp tu21 rfl) rfl q2055 (Or.inl rfl) (cV_I (by decide) (by decide)) dX0_readKind_202 ?_
  refine zv_lload_n G rfl rfl dX0_readKind_205 ?_
  refine zv_aload G rfl dX0_readKind_206 ?_
  refine zv_callV (as := [ar (cz w + 1), ai (fI u21 1 p), al x2, ar x4]) (st := [ar (cz w + 1)]) G M (zc_eI G rfl q678 q679 q680 md_X3_init (Nat.succ_ne_zero _) rfl dX0_readKind_208) (S 82 _ rfl _ _ _ h (zoks_cons trivial (zoks_cons (hu21.i 1 _ (by decide)) (zoks_cons rx2 (zoks_cons trivial zoks_nil))))) (Or.inl ⟨rfl, rfl⟩) (zc_hk q680 q159) (by decide) (Nat.le_of_ble_eq_true rfl) (fun u23 h => ?_) (fun _ _ h => h.elim)
  refine zc_wk G hp (fun hu23 tu23 => ?_)
  refine zv_astore G (by decide) rfl dX0_readKind_211 ?_
  refine zv_aload_n G rfl rfl dX0_readKind_213 ?_
  refine zc_get (f := 0) (v := ar (fR u23 0 p)) G (hFp tu23 rfl) rfl q2053 (Or.inl rfl) (cV_R rfl) dX0_readKind_214 ?_
  refine zv_aload_n G rfl rfl dX0_readKind_217 ?_
  refine zc_get (f := 1) (v := ai (fI u23 1 p)) G (hFp tu23 rfl) rfl q2055 (Or.inl rfl) (cV_I (by decide) (by decide)) dX0_readKind_218 ?_
  refine zv_aload G rfl dX0_readKind_221 ?_
  have o26 := h.1
  have h := h.2
  have o27 := h.1
  have h := h.2
  refine zc_aast G o26.1 o27 (hu23.i 1 _ (by decide)) o26.2.1 o26.2.2 dX0_readKind_223 (fun u25 eu25 => ?_)
  have h := h u25 eu25
  refine zc_wk G hp (fun hu25 tu25 => ?_)
  refine zv_aload_n G rfl rfl dX0_readKind_224 ?_
  refine zv_dup G rfl dX0_readKind_225 ?_
  refine zc_get (f := 1) (v := ai (fI u25 1 p)) G (hFp tu25 rfl) rfl q2055 (Or.inl rfl) (cV_I (by decide) (by decide)) dX0_readKind_226 ?_
  refine zv_iconst (a := 1) G (by decide) dX0_readKind_229 ?_
  refine zv_iadd G dX0_readKind_230 ?_
  refine zc_putI (f := 1) G M (hPp tu25 rfl) rfl q2055 (Or.inl rfl) (Or.inl rfl) (zfty_1) rfl rfl (by decide) (by decide) (w32_r _) dX0_readKind_231 (fun u28 eu28 => ?_)
  have h := h u28 eu28
  refine zc_wk G hp (fun hu28 tu28 => ?_)
  refine zv_aload_n G rfl rfl dX0_readKind_234 ?_
  refine zv_bipush (a := 40) G (by decide) dX0_readKind_235 ?_
  refine zv_callI (as := [ar p, ai 40]) (st := []) G M (zc_eV (C := zcn 1) G q709 q711 qs12 (Or.inl ⟨rfl, rfl⟩) q712 md_X0_isSign (zc_rc G (zne tu28 tu28.1 (by decide)) tu28.1 (by decide) (by decide) rfl) rfl dX0_readKind_237) (S 16 _ rfl _ _ _ h (zoks_cons trivial (zoks_cons (zr_k 40 (by decide) (by decide)) zoks_nil))) (Or.inl ⟨rfl, rfl⟩) (zc_hk q712 q143) (by decide) (Nat.le_of_ble_eq_true rfl) (fun v30 u29 rv30 h => ?_) (fun _ _ h => h.elim)
  refine zc_wk G hp (fun hu29 tu29 => ?_)
  refine zv_if_eq (tgt := 320) G rv30 (by decide) dX0_readKind_240 (fun c31 => ?_) (fun c31 => ?_)
  · have h := h.1 c31
    exact zv_pick [0, 4] rfl (cpC_X0_readKind_320 hp G M S hl hk h)
  · have h := h.2 c31
    exact zv_pick [0, 4, 5] rfl (cpC_X0_readKind_243 hp G M S hl hk h)
set_option maxHeartbeats 4000000 in
set_option maxRecDepth 100000 in
theorem cpC_X0_readKind_97 {Γ : ZG CW} {D : CD} {d p : Nat} (hp : D.K.1 = p) (G : ZOk Γ cX0_readKind RX0 7 (KnC D) (ZC D)) (M : ZRm Γ (d + 1) D.lim (Option.none : Option Jvm.ClassFile.FieldType) "readKind" []) (S : SdC d D p Γ.l) (hl : Γ.l.stackTraces = false) (hk : 0 ≤ d) {x1 : Int} {x2 : Int} {x4 : Nat} {s0 : Int} {s1 : Nat} {w : CW} (rx1 : zr x1) (rx2 : zrl x2) (rs0 : zr s0) (h : pC_X0_readKind_97 p (wpC p d) (fun w => Γ.Q (.inl none) w) (fun x w => Γ.Q (.inr x) w) x1 x2 x4 s0 s1 w) : ZV Γ w 97 [(0, ar p), (1, ai x1), (2, al x2), (4, ar x4)] [ai s0, ar s1] := by
  refine zc_wk G hp (fun hw tw => ?_)
  have o112 := h.1
  have h := h.2
  refine zv_callV (as := [ar s1, ai s0]) (st := []) G M (zc_eV (C := zcn 1) G q667 q669 qs10 (Or.inl ⟨rfl, rfl⟩) q670 md_X0_want (zc_rc G (zne tw o112 (by decide)) o112 (by decide) (by decide) rfl) rfl dX0_readKind_97) (S 14 _ rfl _ _ _ h (zoks_cons trivial (zoks_cons rs0 zoks_nil))) (Or.inl ⟨rfl, rfl⟩) (zc_hk q670 q143) (by decide) (Nat.le_of_ble_eq_true rfl) (fun u16 h => ?_) (fun x110 u111 h => ?_)
  rotate_left
  · exact zx_leave G M rfl h
  refine zc_wk G hp (fun hu16 tu16 => ?_)
  refine zv_aload_n G rfl rfl dX0_readKind_100 ?_
  refine zc_ldcs (k := 4) G rfl dX0_readKind_101 ?_
  refine zv_callI (as := [ar p, ar (sr u16 4)]) (st := []) G M (zc_eV (C := zcn 1) G q647 q649 qs8 (Or.inl ⟨rfl, rfl⟩) q650 md_X0_isWord (zc_rc G (zne tu16 tu16.1 (by decide)) tu16.1 (by decide) (by decide) rfl) rfl dX0_readKind_103) (S 12 _ rfl _ _ _ h (zoks_cons trivial (zoks_cons trivial zoks_nil))) (Or.inl ⟨rfl, rfl⟩) (zc_hk q650 q143) (by decide) (Nat.le_of_ble_eq_true rfl) (fun v19 u18 rv19 h => ?_) (fun _ _ h => h.elim)
  refine zc_wk G hp (fun hu18 tu18 => ?_)
  refine zv_if_eq (tgt := 197) G rv19 (by decide) dX0_readKind_106 (fun c20 => ?_) (fun c20 => ?_)
  · have h := h.1 c20
    exact zv_pick [0, 2, 4] rfl (cpC_X0_readKind_197 hp G M S hl hk rx2 h)
  · have h := h.2 c20
    refine zv_aload_n G rfl rfl dX0_readKind_109 ?_
    refine zv_callV (as := [ar p]) (st := []) G M (zc_eV (C := zcn 1) G q213 q215 qs1 (Or.inl ⟨rfl, rfl⟩) q216 md_X0_next (zc_rc G (zne tu18 tu18.1 (by decide)) tu18.1 (by decide) (by decide) rfl) rfl dX0_readKind_110) (S 4 _ rfl _ _ _ h (zoks_cons trivial zoks_nil)) (Or.inl ⟨rfl, rfl⟩) (zc_hk q216 q143) (by decide) (Nat.le_of_ble_eq_true rfl) (fun u75 h => ?_) (fun x108 u109 h => ?_)
    rotate_left
    · exact zx_leave G M rfl h
    refine zc_wk G hp (fun hu75 tu75 => ?_)
    refine zv_aload_n G rfl rfl dX0_readKind_113 ?_
    refine zv_aload_n G rfl rfl dX0_readKind_114 ?_
    refine zc_get (f := 10) (v := ai (fI u75 10 p)) G (hFp tu75 rfl) rfl q2066 (Or.inl rfl) (cV_I (by decide) (by decide)) dX0_readKind_115 ?_
    refine zv_iconst (a := 2) G (by decide) dX0_readKind_118 ?_
    have kj106 : ∀ v77 : Int, v77 = (if (fI u75 10 p) = 2 then 1 else 0) → ZV Γ u75 127 [(0, ar p), (1, ai x1), (2, al x2), (4, ar x4)] (ai v77 :: ar p :: []) := by
      intro v77 ev77
      have h := h v77 ev77
      have rv77 : zr v77 := by rw [ev77]; exact (zr_ite (zr_k 1 (by decide) (by decide)) (zr_k 0 (by decide) (by decide)))
      have bv77 : v77 = 0 ∨ v77 = 1 := by rw [ev77]; exact (zb_ite (Or.inr rfl) (Or.inl rfl))
      refine zv_callV (as := [ar p, ai v77]) (st := []) G M (zc_eV (C := zcn 1) G q667 q669 qs10 (Or.inl ⟨rfl, rfl⟩) q670 md_X0_want (zc_rc G (zne tu75 tu75.1 (by decide)) tu75.1 (by decide) (by decide) rfl) rfl dX0_readKind_127) (S 14 _ rfl _ _ _ h (zoks_cons trivial (zoks_cons rv77 zoks_nil))) (Or.inl ⟨rfl, rfl⟩) (zc_hk q670 q143) (by decide) (Nat.le_of_ble_eq_true rfl) (fun u78 h => ?_) (fun x104 u105 h => ?_)
      rotate_left
      · exact zx_leave G M rfl h
      refine zc_wk G hp (fun hu78 tu78 => ?_)
      refine zv_aload_n G rfl rfl dX0_readKind_130 ?_
      refine zv_aload_n G rfl rfl dX0_readKind_131 ?_
      refine zc_get (f := 12) (v := al (fI u78 12 p)) G (hFp tu78 rfl) rfl q2068 (Or.inl rfl) (cV_L rfl) dX0_readKind_132 ?_
      refine zv_callR (as := [ar p, al (fI u78 12 p)]) (st := []) G M (zc_eV (C := zcn 1) G q671 q673 qs11 (Or.inl ⟨rfl, rfl⟩) q674 md_X0_named (zc_rc G (zne tu78 tu78.1 (by decide)) tu78.1 (by decide) (by decide) rfl) rfl dX0_readKind_135) (S 15 _ rfl _ _ _ h (zoks_cons trivial (zoks_cons (hu78.l 12 _ (by decide)) zoks_nil))) (Or.inl ⟨rfl, rfl⟩) (zc_hk q674 q143) (by decide) (Nat.le_of_ble_eq_true rfl) (fun v81 u80 h => ?_) (fun _ _ h => h.elim)
      refine zc_wk G hp (fun hu80 tu80 => ?_)
      refine zv_astore G (by decide) rfl dX0_readKind_138 ?_
      refine zv_aload_n G rfl rfl dX0_readKind_140 ?_
      refine zv_aload G rfl dX0_readKind_141 ?_
      have kj102 : ∀ v82 : Int, v82 = (if ¬ (v81 = 0) then 1 else 0) → ZV Γ u80 151 [(4, ar v81), (0, ar p), (1, ai x1), (2, al x2)] (ai v82 :: ar p :: []) := by
        intro v82 ev82
        have h := h v82 ev82
        have rv82 : zr v82 := by rw [ev82]; exact (zr_ite (zr_k 1 (by decide) (by decide)) (zr_k 0 (by decide) (by decide)))
        have bv82 : v82 = 0 ∨ v82 = 1 := by rw [ev82]; exact (zb_ite (Or.inr rfl) (Or.inl rfl))
        refine zv_iconst (a := 4) G (by decide) dX0_readKind_151 ?_
        refine zv_aload_n G rfl rfl dX0_readKind_152 ?_
        refine zc_get (f := 11) (v := ai (fI u80 11 p)) G (hFp tu80 rfl) rfl q2067 (Or.inl rfl) (cV_I (by decide) (by decide)) dX0_readKind_153 ?_
        refine zv_callV (as := [ar p, ai v82, ai 4, ai (fI u80 11 p)]) (st := []) G M (zc_eV (C := zcn 1) G q235 q237 qs5 (Or.inl ⟨rfl, rfl⟩) q238 md_X0_need (zc_rc G (zne tu80 tu80.1 (by decide)) tu80.1 (by decide) (by decide) rfl) rfl dX0_readKind_156) (S 10 _ rfl _ _ _ h (zoks_cons trivial (zoks_cons rv82 (zoks_cons (zr_k 4 (by decide) (by decide)) (zoks_cons (hu80.i 11 _ (by decide)) zoks_nil))))) (Or.inl ⟨rfl, rfl⟩) (zc_hk q238 q143) (by decide) (Nat.le_of_ble_eq_true rfl) (fun u83 h => ?_) (fun x100 u101 h => ?_)
        rotate_left
        · exact zx_leave G M rfl h
        refine zc_wk G hp (fun hu83 tu83 => ?_)
        refine zv_aload_n G rfl rfl dX0_readKind_159 ?_
        refine zv_aload G rfl dX0_readKind_160 ?_
        have o85 := h.1
        have h := h.2
        refine zc_get (f := 42) (v := ai (fI u83 42 v81)) G o85 rfl q694 (Or.inl rfl) (cV_I (by decide) (by decide)) dX0_readKind_162 ?_
        have o87 := h.1
        have h := h.2
        have kj96 : ∀ v86 : Int, v86 = (if ((fI u83 42 v81) = 0) ∧ ((x1 = 0) ∨ (¬ ((fI u83 40 v81) = 0))) then 1 else 0) → ZV Γ u83 185 [(4, ar v81), (0, ar p), (1, ai x1), (2, al x2)] (ai v86 :: ar p :: []) := by
          intro v86 ev86
          have h := h v86 ev86
          have rv86 : zr v86 := by rw [ev86]; exact (zr_ite (zr_k 1 (by decide) (by decide)) (zr_k 0 (by decide) (by decide)))
          have bv86 : v86 = 0 ∨ v86 = 1 := by rw [ev86]; exact (zb_ite (Or.inr rfl) (Or.inl rfl))
          refine zv_iconst (a := 5) G (by decide) dX0_readKind_185 ?_
          refine zv_aload_n G rfl rfl dX0_readKind_186 ?_
          refine zc_get (f := 11) (v := ai (fI u83 11 p)) G (hFp tu83 rfl) rfl q2067 (Or.inl rfl) (cV_I (by decide) (by decide)) dX0_readKind_187 ?_
          refine zv_callV (as := [ar p, ai v86, ai 5, ai (fI u83 11 p)]) (st := []) G M (zc_eV (C := zcn 1) G q235 q237 qs5 (Or.inl ⟨rfl, rfl⟩) q238 md_X0_need (zc_rc G (zne tu83 tu83.1 (by decide)) tu83.1 (by decide) (by decide) rfl) rfl dX0_readKind_190) (S 10 _ rfl _ _ _ h (zoks_cons trivial (zoks_cons rv86 (zoks_cons (zr_k 5 (by decide) (by decide)) (zoks_cons (hu83.i 11 _ (by decide)) zoks_nil))))) (Or.inl ⟨rfl, rfl⟩) (zc_hk q238 q143) (by decide) (Nat.le_of_ble_eq_true rfl) (fun u88 h => ?_) (fun x94 u95 h => ?_)
          rotate_left
          · exact zx_leave G M rfl h
          refine zc_wk G hp (fun hu88 tu88 => ?_)
          refine zv_aload_n G rfl rfl dX0_readKind_193 ?_
          refine zv_callV (as := [ar p]) (st := []) G M (zc_eV (C := zcn 1) G q213 q215 qs1 (Or.inl ⟨rfl, rfl⟩) q216 md_X0_next (zc_rc G (zne tu88 tu88.1 (by decide)) tu88.1 (by decide) (by decide) rfl) rfl dX0_readKind_194) (S 4 _ rfl _ _ _ h (zoks_cons trivial zoks_nil)) (Or.inl ⟨rfl, rfl⟩) (zc_hk q216 q143) (by decide) (Nat.le_of_ble_eq_true rfl) (fun u90 h => ?_) (fun x92 u93 h => ?_)
          rotate_left
          · exact zx_leave G M rfl h
          refine zc_wk G hp (fun hu90 tu90 => ?_)
          exact zv_pick [0, 2, 4] rfl (cpC_X0_readKind_197 hp G M S hl hk rx2 h)
        refine zv_if_ne (tgt := 184) G (hu83.i 42 _ (by decide)) (by decide) dX0_readKind_165 (fun c97 => ?_) (fun c97 => ?_)
        · refine zv_iconst (a := 0) G (by decide) dX0_readKind_184 ?_
          exact kj96 _ (if_neg (fun q => c97 q.1)).symm
        · refine zv_iload_n G rfl rfl dX0_readKind_168 ?_
          refine zv_if_eq (tgt := 180) G rx1 (by decide) dX0_readKind_169 (fun c98 => ?_) (fun c98 => ?_)
          · refine zv_iconst (a := 1) G (by decide) dX0_readKind_180 ?_
            refine zv_goto (tgt := 185) G (by decide) dX0_readKind_181 ?_
            exact kj96 _ (if_pos ⟨c97, (Or.inl c98)⟩).symm
          · refine zv_aload G rfl dX0_readKind_172 ?_
            refine zc_get (f := 40) (v := ai (fI u83 40 v81)) G ((o87 c97) c98) rfl q690 (Or.inl rfl) (cV_I (by decide) (by decide)) dX0_readKind_174 ?_
            refine zv_if_eq (tgt := 184) G (hu83.i 40 _ (by decide)) (by decide) dX0_readKind_177 (fun c99 => ?_) (fun c99 => ?_)
            · refine zv_iconst (a := 0) G (by decide) dX0_readKind_184 ?_
              exact kj96 _ (if_neg (fun q => (fun q => q.elim c98 (fun q => q c99)) q.2)).symm
            · refine zv_iconst (a := 1) G (by decide) dX0_readKind_180 ?_
              refine zv_goto (tgt := 185) G (by decide) dX0_readKind_181 ?_
              exact kj96 _ (if_pos ⟨c97, (Or.inr c99)⟩).symm
      refine zv_ifnull (tgt := 150) G (by decide) dX0_readKind_143 (fun c103 => ?_) (fun c103 => ?_)
      · refine zv_iconst (a := 0) G (by decide) dX0_readKind_150 ?_
        exact kj102 _ (if_neg (fun q => q c103)).symm
      · refine zv_iconst (a := 1) G (by decide) dX0_readKind_146 ?_
        refine zv_goto (tgt := 151) G (by decide) dX0_readKind_147 ?_
        exact kj102 _ (if_pos c103).symm
    refine zv_icmp_ne (tgt := 126) G (hu75.i 10 _ (by decide)) (zr_k 2 (by decide) (by decide)) (by decide) dX0_readKind_119 (fun c107 => ?_) (fun c107 => ?_)
    · refine zv_iconst (a := 0) G (by decide) dX0_readKind_126 ?_
      exact kj106 _ (if_neg c107).symm
    · refine zv_iconst (a := 1) G (by decide) dX0_readKind_122 ?_
      refine zv_goto (tgt := 127) G (by decide) dX0_readKind_123 ?_
      exact kj106 _ (if_pos c107).symm
set_option maxHeartbeats 4000000 in
set_option maxRecDepth 100000 in
theorem cpC_X0_readKind_92 {Γ : ZG CW} {D : CD} {d p : Nat} (hp : D.K.1 = p) (G : ZOk Γ cX0_readKind RX0 7 (KnC D) (ZC D)) (M : ZRm Γ (d + 1) D.lim (Option.none : Option Jvm.ClassFile.FieldType) "readKind" []) (S : SdC d D p Γ.l) (hl : Γ.l.stackTraces = false) (hk : 0 ≤ d) {x1 : Int} {x2 : Int} {x4 : Nat} {s0 : Nat} {w : CW} (rx1 : zr x1) (rx2 : zrl x2) (h : pC_X0_readKind_92 p (wpC p d) (fun w => Γ.Q (.inl none) w) (fun x w => Γ.Q (.inr x) w) x1 x2 x4 s0 w) : ZV Γ w 92 [(0, ar p), (1, ai x1), (2, al x2), (4, ar x4)] [ar s0] := by
  refine zc_wk G hp (fun hw tw => ?_)
  refine zv_iconst (a := 1) G (by decide) dX0_readKind_92 ?_
  refine zv_goto (tgt := 97) G (by decide) dX0_readKind_93 ?_
  exact zv_pick [0, 1, 2, 4] rfl (cpC_X0_readKind_97 hp G M S hl hk rx1 rx2 (zr_k 1 (by decide) (by decide)) h)
set_option maxHeartbeats 4000000 in
set_option maxRecDepth 100000 in
theorem cpC_X0_readKind_0 {Γ : ZG CW} {D : CD} {d p : Nat} (hp : D.K.1 = p) (G : ZOk Γ cX0_readKind RX0 7 (KnC D) (ZC D)) (M : ZRm Γ (d + 1) D.lim (Option.none : Option Jvm.ClassFile.FieldType) "readKind" []) (S : SdC d D p Γ.l) (hl : Γ.l.stackTraces = false) (hk : 0 ≤ d) {x1 : Int} {w : CW} (rx1 : zr x1) (h : pC_X0_readKind_0 p (wpC p d) (fun w => Γ.Q (.inl none) w) (fun x w => Γ.Q (.inr x) w) x1 w) : ZV Γ w 0 [(0, ar p), (1, ai x1)] [] := by
  refine zc_wk G hp (fun hw tw => ?_)
  refine zv_aload_n G rfl rfl dX0_readKind_0 ?_
  refine zv_aload_n G rfl rfl dX0_readKind_1 ?_
  refine zc_get (f := 10) (v := ai (fI w 10 p)) G (hFp tw rfl) rfl q2066 (Or.inl rfl) (cV_I (by decide) (by decide)) dX0_readKind_2 ?_
  refine zv_iconst (a := 2) G (by decide) dX0_readKind_5 ?_
  have kj128 : ∀ v1 : Int, v1 = (if (fI w 10 p) = 2 then 1 else 0) → ZV Γ w 14 [(0, ar p), (1, ai x1)] (ai v1 :: ar p :: []) := by
    intro v1 ev1
    have h := h v1 ev1
    have rv1 : zr v1 := by rw [ev1]; exact (zr_ite (zr_k 1 (by decide) (by decide)) (zr_k 0 (by decide) (by decide)))
    have bv1 : v1 = 0 ∨ v1 = 1 := by rw [ev1]; exact (zb_ite (Or.inr rfl) (Or.inl rfl))
    refine zv_callV (as := [ar p, ai v1]) (st := []) G M (zc_eV (C := zcn 1) G q667 q669 qs10 (Or.inl ⟨rfl, rfl⟩) q670 md_X0_want (zc_rc G (zne tw tw.1 (by decide)) tw.1 (by decide) (by decide) rfl) rfl dX0_readKind_14) (S 14 _ rfl _ _ _ h (zoks_cons trivial (zoks_cons rv1 zoks_nil))) (Or.inl ⟨rfl, rfl⟩) (zc_hk q670 q143) (by decide) (Nat.le_of_ble_eq_true rfl) (fun u2 h => ?_) (fun x126 u127 h => ?_)
    rotate_left
    · exact zx_leave G M rfl h
    refine zc_wk G hp (fun hu2 tu2 => ?_)
    refine zv_aload_n G rfl rfl dX0_readKind_17 ?_
    refine zv_aload_n G rfl rfl dX0_readKind_18 ?_
    refine zv_aload_n G rfl rfl dX0_readKind_19 ?_
    refine zc_get (f := 12) (v := al (fI u2 12 p)) G (hFp tu2 rfl) rfl q2068 (Or.inl rfl) (cV_L rfl) dX0_readKind_20 ?_
    refine zv_callR (as := [ar p, al (fI u2 12 p)]) (st := [ar p]) G M (zc_eV (C := zcn 1) G q671 q673 qs11 (Or.inl ⟨rfl, rfl⟩) q674 md_X0_named (zc_rc G (zne tu2 tu2.1 (by decide)) tu2.1 (by decide) (by decide) rfl) rfl dX0_readKind_23) (S 15 _ rfl _ _ _ h (zoks_cons trivial (zoks_cons (hu2.l 12 _ (by decide)) zoks_nil))) (Or.inl ⟨rfl, rfl⟩) (zc_hk q674 q143) (by decide) (Nat.le_of_ble_eq_true rfl) (fun v5 u4 h => ?_) (fun _ _ h => h.elim)
    refine zc_wk G hp (fun hu4 tu4 => ?_)
    have kj124 : ∀ v6 : Int, v6 = (if v5 = 0 then 1 else 0) → ZV Γ u4 34 [(0, ar p), (1, ai x1)] (ai v6 :: ar p :: []) := by
      intro v6 ev6
      have h := h v6 ev6
      have rv6 : zr v6 := by rw [ev6]; exact (zr_ite (zr_k 1 (by decide) (by decide)) (zr_k 0 (by decide) (by decide)))
      have bv6 : v6 = 0 ∨ v6 = 1 := by rw [ev6]; exact (zb_ite (Or.inr rfl) (Or.inl rfl))
      refine zv_iconst (a := 3) G (by decide) dX0_readKind_34 ?_
      refine zv_aload_n G rfl rfl dX0_readKind_35 ?_
      refine zc_get (f := 11) (v := ai (fI u4 11 p)) G (hFp tu4 rfl) rfl q2067 (Or.inl rfl) (cV_I (by decide) (by decide)) dX0_readKind_36 ?_
      refine zv_callV (as := [ar p, ai v6, ai 3, ai (fI u4 11 p)]) (st := []) G M (zc_eV (C := zcn 1) G q235 q237 qs5 (Or.inl ⟨rfl, rfl⟩) q238 md_X0_need (zc_rc G (zne tu4 tu4.1 (by decide)) tu4.1 (by decide) (by decide) rfl) rfl dX0_readKind_39) (S 10 _ rfl _ _ _ h (zoks_cons trivial (zoks_cons rv6 (zoks_cons (zr_k 3 (by decide) (by decide)) (zoks_cons (hu4.i 11 _ (by decide)) zoks_nil))))) (Or.inl ⟨rfl, rfl⟩) (zc_hk q238 q143) (by decide) (Nat.le_of_ble_eq_true rfl) (fun u7 h => ?_) (fun x122 u123 h => ?_)
      rotate_left
      · exact zx_leave G M rfl h
      refine zc_wk G hp (fun hu7 tu7 => ?_)
      refine zv_aload_n G rfl rfl dX0_readKind_42 ?_
      refine zv_aload_n G rfl rfl dX0_readKind_43 ?_
      refine zc_get (f := 1) (v := ai (fI u7 1 p)) G (hFp tu7 rfl) rfl q2055 (Or.inl rfl) (cV_I (by decide) (by decide)) dX0_readKind_44 ?_
      refine zv_bipush (a := 24) G (by decide) dX0_readKind_47 ?_
      have kj120 : ∀ v9 : Int, v9 = (if ¬ (24 ≤ (fI u7 1 p)) then 1 else 0) → ZV Γ u7 57 [(0, ar p), (1, ai x1)] (ai v9 :: ar p :: []) := by
        intro v9 ev9
        have h := h v9 ev9
        have rv9 : zr v9 := by rw [ev9]; exact (zr_ite (zr_k 1 (by decide) (by decide)) (zr_k 0 (by decide) (by decide)))
        have bv9 : v9 = 0 ∨ v9 = 1 := by rw [ev9]; exact (zb_ite (Or.inr rfl) (Or.inl rfl))
        refine zv_bipush (a := 9) G (by decide) dX0_readKind_57 ?_
        refine zv_aload_n G rfl rfl dX0_readKind_59 ?_
        refine zc_get (f := 11) (v := ai (fI u7 11 p)) G (hFp tu7 rfl) rfl q2067 (Or.inl rfl) (cV_I (by decide) (by decide)) dX0_readKind_60 ?_
        refine zv_callV (as := [ar p, ai v9, ai 9, ai (fI u7 11 p)]) (st := []) G M (zc_eV (C := zcn 1) G q235 q237 qs5 (Or.inl ⟨rfl, rfl⟩) q238 md_X0_need (zc_rc G (zne tu7 tu7.1 (by decide)) tu7.1 (by decide) (by decide) rfl) rfl dX0_readKind_63) (S 10 _ rfl _ _ _ h (zoks_cons trivial (zoks_cons rv9 (zoks_cons (zr_k 9 (by decide) (by decide)) (zoks_cons (hu7.i 11 _ (by decide)) zoks_nil))))) (Or.inl ⟨rfl, rfl⟩) (zc_hk q238 q143) (by decide) (Nat.le_of_ble_eq_true rfl) (fun u10 h => ?_) (fun x118 u119 h => ?_)
        rotate_left
        · exact zx_leave G M rfl h
        refine zc_wk G hp (fun hu10 tu10 => ?_)
        refine zv_aload_n G rfl rfl dX0_readKind_66 ?_
        refine zc_get (f := 12) (v := al (fI u10 12 p)) G (hFp tu10 rfl) rfl q2068 (Or.inl rfl) (cV_L rfl) dX0_readKind_67 ?_
        refine zv_lstore_nN G rfl (by decide) dX0_readKind_70 (fun x2_12 ex2_12 => ?_)
        have h := h x2_12 ex2_12
        have rx2_12 : zrl x2_12 := by rw [ex2_12]; exact (hu10.l 12 _ (by decide))
        refine zv_aload_n G rfl rfl dX0_readKind_71 ?_
        refine zv_callV (as := [ar p]) (st := []) G M (zc_eV (C := zcn 1) G q213 q215 qs1 (Or.inl ⟨rfl, rfl⟩) q216 md_X0_next (zc_rc G (zne tu10 tu10.1 (by decide)) tu10.1 (by decide) (by decide) rfl) rfl dX0_readKind_72) (S 4 _ rfl _ _ _ h (zoks_cons trivial zoks_nil)) (Or.inl ⟨rfl, rfl⟩) (zc_hk q216 q143) (by decide) (Nat.le_of_ble_eq_true rfl) (fun u13 h => ?_) (fun x116 u117 h => ?_)
        rotate_left
        · exact zx_leave G M rfl h
        refine zc_wk G hp (fun hu13 tu13 => ?_)
        refine zv_null G dX0_readKind_75 ?_
        refine zv_astore G (by decide) rfl dX0_readKind_76 ?_
        refine zv_aload_n G rfl rfl dX0_readKind_78 ?_
        refine zv_iload_n G rfl rfl dX0_readKind_79 ?_
        refine zv_if_eq (tgt := 92) G rx1 (by decide) dX0_readKind_80 (fun c15 => ?_) (fun c15 => ?_)
        · have h := h.1 c15
          exact zv_pick [0, 1, 2, 4] rfl (cpC_X0_readKind_92 hp G M S hl hk rx1 rx2_12 h)
        · have h := h.2 c15
          refine zv_aload_n G rfl rfl dX0_readKind_83 ?_
          refine zc_ldcs (k := 4) G rfl dX0_readKind_84 ?_
          refine zv_callI (as := [ar p, ar (sr u13 4)]) (st := [ar p]) G M (zc_eV (C := zcn 1) G q647 q649 qs8 (Or.inl ⟨rfl, rfl⟩) q650 md_X0_isWord (zc_rc G (zne tu13 tu13.1 (by decide)) tu13.1 (by decide) (by decide) rfl) rfl dX0_readKind_86) (S 12 _ rfl _ _ _ h (zoks_cons trivial (zoks_cons trivial zoks_nil))) (Or.inl ⟨rfl, rfl⟩) (zc_hk q650 q143) (by decide) (Nat.le_of_ble_eq_true rfl) (fun v114 u113 rv114 h => ?_) (fun _ _ h => h.elim)
          refine zc_wk G hp (fun hu113 tu113 => ?_)
          refine zv_if_eq (tgt := 96) G rv114 (by decide) dX0_readKind_89 (fun c115 => ?_) (fun c115 => ?_)
          · have h := h.1 c115
            refine zv_iconst (a := 0) G (by decide) dX0_readKind_96 ?_
            exact zv_pick [0, 1, 2, 4] rfl (cpC_X0_readKind_97 hp G M S hl hk rx1 rx2_12 (zr_k 0 (by decide) (by decide)) h)
          · have h := h.2 c115
            exact zv_pick [0, 1, 2, 4] rfl (cpC_X0_readKind_92 hp G M S hl hk rx1 rx2_12 h)
      refine zv_icmp_ge (tgt := 56) G (hu7.i 1 _ (by decide)) (zr_k 24 (by decide) (by decide)) (by decide) dX0_readKind_49 (fun c121 => ?_) (fun c121 => ?_)
      · refine zv_iconst (a := 0) G (by decide) dX0_readKind_56 ?_
        exact kj120 _ (if_neg (fun q => q c121)).symm
      · refine zv_iconst (a := 1) G (by decide) dX0_readKind_52 ?_
        refine zv_goto (tgt := 57) G (by decide) dX0_readKind_53 ?_
        exact kj120 _ (if_pos c121).symm
    refine zv_ifnonnull (tgt := 33) G (by decide) dX0_readKind_26 (fun c125 => ?_) (fun c125 => ?_)
    · refine zv_iconst (a := 0) G (by decide) dX0_readKind_33 ?_
      exact kj124 _ (if_neg c125).symm
    · refine zv_iconst (a := 1) G (by decide) dX0_readKind_29 ?_
      refine zv_goto (tgt := 34) G (by decide) dX0_readKind_30 ?_
      exact kj124 _ (if_pos c125).symm
  refine zv_icmp_ne (tgt := 13) G (hw.i 10 _ (by decide)) (zr_k 2 (by decide) (by decide)) (by decide) dX0_readKind_6 (fun c129 => ?_) (fun c129 => ?_)
  · refine zv_iconst (a := 0) G (by decide) dX0_readKind_13 ?_
    exact kj128 _ (if_neg c129).symm
  · refine zv_iconst (a := 1) G (by decide) dX0_readKind_9 ?_
    refine zv_goto (tgt := 14) G (by decide) dX0_readKind_10 ?_
    exact kj128 _ (if_pos c129).symm
set_option maxHeartbeats 4000000 in
set_option maxRecDepth 100000 in
theorem cpC_X0_want_0 {Γ : ZG CW} {D : CD} {d p : Nat} (hp : D.K.1 = p) (G : ZOk Γ cX0_want RX0 2 (KnC D) (ZC D)) (M : ZRm Γ (d + 1) D.lim (Option.none : Option Jvm.ClassFile.FieldType) "want" []) (S : SdC d D p Γ.l) (hl : Γ.l.stackTraces = false) (hk : 0 ≤ d) {x1 : Int} {w : CW} (rx1 : zr x1) (h : pC_X0_want_0 p (wpC p d) (fun w => Γ.Q (.inl none) w) (fun x w => Γ.Q (.inr x) w) x1 w) : ZV Γ w 0 [(0, ar p), (1, ai x1)] [] := by
  refine zc_wk G hp (fun hw tw => ?_)
  refine zv_aload_n G rfl rfl dX0_want_0 ?_
  refine zv_iload_n G rfl rfl dX0_want_1 ?_
  refine zv_iconst (a := 2) G (by decide) dX0_want_2 ?_
  refine zv_aload_n G rfl rfl dX0_want_3 ?_
  refine zc_get (f := 11) (v := ai (fI w 11 p)) G (hFp tw rfl) rfl q2067 (Or.inl rfl) (cV_I (by decide) (by decide)) dX0_want_4 ?_
  refine zv_callV (as := [ar p, ai x1, ai 2, ai (fI w 11 p)]) (st := []) G M (zc_eV (C := zcn 1) G q235 q237 qs5 (Or.inl ⟨rfl, rfl⟩) q238 md_X0_need (zc_rc G (zne tw tw.1 (by decide)) tw.1 (by decide) (by decide) rfl) rfl dX0_want_7) (S 10 _ rfl _ _ _ h (zoks_cons trivial (zoks_cons rx1 (zoks_cons (zr_k 2 (by decide) (by decide)) (zoks_cons (hw.i 11 _ (by decide)) zoks_nil))))) (Or.inl ⟨rfl, rfl⟩) (zc_hk q238 q143) (by decide) (Nat.le_of_ble_eq_true rfl) (fun u1 h => ?_) (fun x3 u4 h => ?_)
  rotate_left
  · exact zx_leave G M rfl h
  refine zc_wk G hp (fun hu1 tu1 => ?_)
  exact zv_vret G M dX0_want_10 h
set_option maxHeartbeats 4000000 in
set_option maxRecDepth 100000 in
theorem cpC_X0_named_37 {Γ : ZG CW} {D : CD} {d p : Nat} (hp : D.K.1 = p) (G : ZOk Γ cX0_named RX0 4 (KnC D) (ZC D)) (M : ZRm Γ (d + 1) D.lim (Option.some (Jvm.ClassFile.FieldType.object "LetterPost$Kind")) "named" []) (S : SdC d D p Γ.l) (hl : Γ.l.stackTraces = false) (hk : 0 ≤ d) {w : CW} (h : pC_X0_named_37 p (wpC p d) (fun v w => Γ.Q (.inl (some (ar v))) w) w) : ZV Γ w 37 [] [] := by
  refine zc_wk G hp (fun hw tw => ?_)
  refine zv_null G dX0_named_37 ?_
  exact zv_aret G M (Or.inl ⟨_, rfl⟩) dX0_named_38 h
set_option maxHeartbeats 4000000 in
set_option maxRecDepth 100000 in
theorem cpC_X0_named_24 {Γ : ZG CW} {D : CD} {d p : Nat} (hp : D.K.1 = p) (G : ZOk Γ cX0_named RX0 4 (KnC D) (ZC D)) (M : ZRm Γ (d + 1) D.lim (Option.some (Jvm.ClassFile.FieldType.object "LetterPost$Kind")) "named" []) (S : SdC d D p Γ.l) (hl : Γ.l.stackTraces = false) (hk : 0 ≤ d) {x3 : Int} {w : CW} (rx3 : zr x3) (h : pC_X0_named_24 p (wpC p d) (fun v w => Γ.Q (.inl (some (ar v))) w) x3 w) : ZV Γ w 24 [(0, ar p), (3, ai x3)] [] := by
  refine zc_wk G hp (fun hw tw => ?_)
  refine zv_aload_n G rfl rfl dX0_named_24 ?_
  refine zc_get (f := 0) (v := ar (fR w 0 p)) G (hFp tw rfl) rfl q2053 (Or.inl rfl) (cV_R rfl) dX0_named_25 ?_
  refine zv_iload_n G rfl rfl dX0_named_28 ?_
  have o6 := h.1
  have h := h.2
  refine zc_aald G o6.1 rx3 o6.2.1 o6.2.2 dX0_named_29 ?_
  exact zv_aret G M (Or.inl ⟨_, rfl⟩) dX0_named_30 h
set_option maxHeartbeats 4000000 in
set_option maxRecDepth 100000 in
theorem cpC_X0_named_2 {Γ : ZG CW} {D : CD} {d p : Nat} (hp : D.K.1 = p) (G : ZOk Γ cX0_named RX0 4 (KnC D) (ZC D)) (M : ZRm Γ (d + 1) D.lim (Option.some (Jvm.ClassFile.FieldType.object "LetterPost$Kind")) "named" []) (S : SdC d D p Γ.l) (hl : Γ.l.stackTraces = false) (hk : 0 ≤ d) {x1 : Int} {x3 : Int} {w : CW} (rx1 : zrl x1) (rx3 : zr x3) (h : pC_X0_named_2 p (wpC p d) (fun v w => Γ.Q (.inl (some (ar v))) w) x1 x3 w) : ZV Γ w 2 [(0, ar p), (1, al x1), (3, ai x3)] [] := by
  obtain ⟨I2, eI2⟩ : ∃ I : Int → CW → Prop, I = (fun x3 w => zr x3 → ZV Γ w 2 [(0, ar p), (1, al x1), (3, ai x3)] []) := ⟨_, rfl⟩
  have hI2 : ∀ (x3 : Int) (w : CW), I2 x3 w → zr x3 → ZV Γ w 2 [(0, ar p), (1, al x1), (3, ai x3)] [] := by subst eI2; exact fun _ _ z => z
  have hJ2 : ∀ (x3 : Int) (w : CW), (zr x3 → ZV Γ w 2 [(0, ar p), (1, al x1), (3, ai x3)] []) → I2 x3 w := by subst eI2; exact fun _ _ z => z
  refine hI2 x3 w (h I2 (fun x3 w h => hJ2 x3 w (fun rx3 => ?_))) rx3
  refine zc_wk G hp (fun hw tw => ?_)
  refine zv_iload_n G rfl rfl dX0_named_2 ?_
  refine zv_aload_n G rfl rfl dX0_named_3 ?_
  refine zc_get (f := 1) (v := ai (fI w 1 p)) G (hFp tw rfl) rfl q2055 (Or.inl rfl) (cV_I (by decide) (by decide)) dX0_named_4 ?_
  refine zv_icmp_ge (tgt := 37) G rx3 (hw.i 1 _ (by decide)) (by decide) dX0_named_7 (fun c1 => ?_) (fun c1 => ?_)
  · have h := h.1 c1
    exact zv_pick [] rfl (cpC_X0_named_37 hp G M S hl hk h)
  · have h := h.2 c1
    refine zv_aload_n G rfl rfl dX0_named_10 ?_
    refine zc_get (f := 0) (v := ar (fR w 0 p)) G (hFp tw rfl) rfl q2053 (Or.inl rfl) (cV_R rfl) dX0_named_11 ?_
    refine zv_iload_n G rfl rfl dX0_named_14 ?_
    have o2 := h.1
    have h := h.2
    refine zc_aald G o2.1 rx3 o2.2.1 o2.2.2 dX0_named_15 ?_
    have o3 := h.1
    have h := h.2
    refine zc_get (f := 38) (v := al (fI w 38 (aR w (fR w 0 p) x3))) G o3 rfl q686 (Or.inl rfl) (cV_L rfl) dX0_named_16 ?_
    refine zv_lload_n G rfl rfl dX0_named_19 ?_
    refine zv_lcmp G (hw.l 38 _ (by decide)) rx1 dX0_named_20 ?_
    refine zv_lif_ne (tgt := 31) G (by decide) dX0_named_21 (fun c4 => ?_) (fun c4 => ?_)
    · have h := h.2 c4
      refine zv_iincN G rfl (by decide) dX0_named_31 (fun x3_5 ex3_5 => ?_)
      have h := h x3_5 ex3_5
      have rx3_5 : zr x3_5 := by rw [ex3_5]; exact w32_r _
      refine zv_goto (tgt := 2) G (by decide) dX0_named_34 ?_
      exact zv_pick [0, 1, 3] rfl (hI2 _ _ h rx3_5)
    · have h := h.1 c4
      exact zv_pick [0, 3] rfl (cpC_X0_named_24 hp G M S hl hk rx3 h)
set_option maxHeartbeats 4000000 in
set_option maxRecDepth 100000 in
theorem cpC_X0_named_0 {Γ : ZG CW} {D : CD} {d p : Nat} (hp : D.K.1 = p) (G : ZOk Γ cX0_named RX0 4 (KnC D) (ZC D)) (M : ZRm Γ (d + 1) D.lim (Option.some (Jvm.ClassFile.FieldType.object "LetterPost$Kind")) "named" []) (S : SdC d D p Γ.l) (hl : Γ.l.stackTraces = false) (hk : 0 ≤ d) {x1 : Int} {w : CW} (rx1 : zrl x1) (h : pC_X0_named_0 p (wpC p d) (fun v w => Γ.Q (.inl (some (ar v))) w) x1 w) : ZV Γ w 0 [(0, ar p), (1, al x1)] [] := by
  refine zc_wk G hp (fun hw tw => ?_)
  refine zv_iconst (a := 0) G (by decide) dX0_named_0 ?_
  refine zv_istore_n G rfl (by decide) rfl dX0_named_1 ?_
  exact zv_pick [0, 1, 3] rfl (cpC_X0_named_2 hp G M S hl hk rx1 (zr_k 0 (by decide) (by decide)) h)
set_option maxHeartbeats 4000000 in
set_option maxRecDepth 100000 in
theorem cpC_X0_isSign_0 {Γ : ZG CW} {D : CD} {d p : Nat} (hp : D.K.1 = p) (G : ZOk Γ cX0_isSign RX0 2 (KnC D) (ZC D)) (M : ZRm Γ (d + 1) D.lim (Option.some Jvm.ClassFile.FieldType.boolean) "isSign" []) (S : SdC d D p Γ.l) (hl : Γ.l.stackTraces = false) (hk : 0 ≤ d) {x1 : Int} {w : CW} (rx1 : zr x1) (h : pC_X0_isSign_0 p (wpC p d) (fun v w => Γ.Q (.inl (some (ai v))) w) x1 w) : ZV Γ w 0 [(0, ar p), (1, ai x1)] [] := by
  refine zc_wk G hp (fun hw tw => ?_)
  refine zv_aload_n G rfl rfl dX0_isSign_0 ?_
  refine zc_get (f := 10) (v := ai (fI w 10 p)) G (hFp tw rfl) rfl q2066 (Or.inl rfl) (cV_I (by decide) (by decide)) dX0_isSign_1 ?_
  refine zv_iconst (a := 5) G (by decide) dX0_isSign_4 ?_
  have kj2 : ∀ v1 : Int, v1 = (if ((fI w 10 p) = 5) ∧ ((fI w 14 p) = x1) then 1 else 0) → ZV Γ w 21 [(0, ar p), (1, ai x1)] (ai v1 :: []) := by
    intro v1 ev1
    have h := h v1 ev1
    have rv1 : zr v1 := by rw [ev1]; exact (zr_ite (zr_k 1 (by decide) (by decide)) (zr_k 0 (by decide) (by decide)))
    have bv1 : v1 = 0 ∨ v1 = 1 := by rw [ev1]; exact (zb_ite (Or.inr rfl) (Or.inl rfl))
    exact zv_iret (ty := .boolean) rv1 G M (zn_Z bv1) dX0_isSign_21 h
  refine zv_icmp_ne (tgt := 20) G (hw.i 10 _ (by decide)) (zr_k 5 (by decide) (by decide)) (by decide) dX0_isSign_5 (fun c3 => ?_) (fun c3 => ?_)
  · refine zv_iconst (a := 0) G (by decide) dX0_isSign_20 ?_
    exact kj2 _ (if_neg (fun q => c3 q.1)).symm
  · refine zv_aload_n G rfl rfl dX0_isSign_8 ?_
    refine zc_get (f := 14) (v := ai (fI w 14 p)) G (hFp tw rfl) rfl q2070 (Or.inl rfl) (cV_I (by decide) (by decide)) dX0_isSign_9 ?_
    refine zv_iload_n G rfl rfl dX0_isSign_12 ?_
    refine zv_icmp_ne (tgt := 20) G (hw.i 14 _ (by decide)) rx1 (by decide) dX0_isSign_13 (fun c4 => ?_) (fun c4 => ?_)
    · refine zv_iconst (a := 0) G (by decide) dX0_isSign_20 ?_
      exact kj2 _ (if_neg (fun q => c4 q.2)).symm
    · refine zv_iconst (a := 1) G (by decide) dX0_isSign_16 ?_
      refine zv_goto (tgt := 21) G (by decide) dX0_isSign_17 ?_
      exact kj2 _ (if_pos ⟨c3, c4⟩).symm
set_option maxHeartbeats 4000000 in
set_option maxRecDepth 100000 in
theorem cpC_X0_readSort_109 {Γ : ZG CW} {D : CD} {d p : Nat} (hp : D.K.1 = p) (G : ZOk Γ cX0_readSort RX0 3 (KnC D) (ZC D)) (M : ZRm Γ (d + 1) D.lim (Option.some Jvm.ClassFile.FieldType.int) "readSort" []) (S : SdC d D p Γ.l) (hl : Γ.l.stackTraces = false) (hk : 0 ≤ d) {x1 : Int} {w : CW} (rx1 : zr x1) (h : pC_X0_readSort_109 p (wpC p d) (fun v w => Γ.Q (.inl (some (ai v))) w) (fun x w => Γ.Q (.inr x) w) x1 w) : ZV Γ w 109 [(1, ai x1)] [] := by
  refine zc_wk G hp (fun hw tw => ?_)
  refine zv_iload_n G rfl rfl dX0_readSort_109 ?_
  exact zv_iret (ty := .int) rx1 G M rfl dX0_readSort_110 h
set_option maxHeartbeats 4000000 in
set_option maxRecDepth 100000 in
theorem cpC_X0_readSort_108 {Γ : ZG CW} {D : CD} {d p : Nat} (hp : D.K.1 = p) (G : ZOk Γ cX0_readSort RX0 3 (KnC D) (ZC D)) (M : ZRm Γ (d + 1) D.lim (Option.some Jvm.ClassFile.FieldType.int) "readSort" []) (S : SdC d D p Γ.l) (hl : Γ.l.stackTraces = false) (hk : 0 ≤ d) {s0 : Int} {w : CW} (rs0 : zr s0) (h : pC_X0_readSort_108 p (wpC p d) (fun v w => Γ.Q (.inl (some (ai v))) w) (fun x w => Γ.Q (.inr x) w) s0 w) : ZV Γ w 108 [] [ai s0] := by
  refine zc_wk G hp (fun hw tw => ?_)
  refine zv_istore_n G rfl (by decide) rfl dX0_readSort_108 ?_
  exact zv_pick [1] rfl (cpC_X0_readSort_109 hp G M S hl hk rs0 h)
set_option maxHeartbeats 4000000 in
set_option maxRecDepth 100000 in
theorem cpC_X0_readSort_78 {Γ : ZG CW} {D : CD} {d p : Nat} (hp : D.K.1 = p) (G : ZOk Γ cX0_readSort RX0 3 (KnC D) (ZC D)) (M : ZRm Γ (d + 1) D.lim (Option.some Jvm.ClassFile.FieldType.int) "readSort" []) (S : SdC d D p Γ.l) (hl : Γ.l.stackTraces = false) (hk : 0 ≤ d) {s0 : Int} {s1 : Nat} {w : CW} (rs0 : zr s0) (h : pC_X0_readSort_78 p (wpC p d) (fun v w => Γ.Q (.inl (some (ai v))) w) (fun x w => Γ.Q (.inr x) w) s0 s1 w) : ZV Γ w 78 [(0, ar p)] [ai s0, ar s1] := by
  refine zc_wk G hp (fun hw tw => ?_)
  have o15 := h.1
  have h := h.2
  refine zv_callV (as := [ar s1, ai s0]) (st := []) G M (zc_eV (C := zcn 1) G q667 q669 qs10 (Or.inl ⟨rfl, rfl⟩) q670 md_X0_want (zc_rc G (zne tw o15 (by decide)) o15 (by decide) (by decide) rfl) rfl dX0_readSort_78) (S 14 _ rfl _ _ _ h (zoks_cons trivial (zoks_cons rs0 zoks_nil))) (Or.inl ⟨rfl, rfl⟩) (zc_hk q670 q143) (by decide) (Nat.le_of_ble_eq_true rfl) (fun u5 h => ?_) (fun x13 u14 h => ?_)
  rotate_left
  · exact zx_leave G M rfl h
  refine zc_wk G hp (fun hu5 tu5 => ?_)
  refine zv_aload_n G rfl rfl dX0_readSort_81 ?_
  refine zc_ldcs (k := 5) G rfl dX0_readSort_82 ?_
  refine zv_callI (as := [ar p, ar (sr u5 5)]) (st := []) G M (zc_eV (C := zcn 1) G q647 q649 qs8 (Or.inl ⟨rfl, rfl⟩) q650 md_X0_isWord (zc_rc G (zne tu5 tu5.1 (by decide)) tu5.1 (by decide) (by decide) rfl) rfl dX0_readSort_84) (S 12 _ rfl _ _ _ h (zoks_cons trivial (zoks_cons trivial zoks_nil))) (Or.inl ⟨rfl, rfl⟩) (zc_hk q650 q143) (by decide) (Nat.le_of_ble_eq_true rfl) (fun v8 u7 rv8 h => ?_) (fun _ _ h => h.elim)
  refine zc_wk G hp (fun hu7 tu7 => ?_)
  refine zv_if_eq (tgt := 94) G rv8 (by decide) dX0_readSort_87 (fun c9 => ?_) (fun c9 => ?_)
  · have h := h.1 c9
    refine zv_aload_n G rfl rfl dX0_readSort_94 ?_
    refine zc_ldcs (k := 6) G rfl dX0_readSort_95 ?_
    refine zv_callI (as := [ar p, ar (sr u7 6)]) (st := []) G M (zc_eV (C := zcn 1) G q647 q649 qs8 (Or.inl ⟨rfl, rfl⟩) q650 md_X0_isWord (zc_rc G (zne tu7 tu7.1 (by decide)) tu7.1 (by decide) (by decide) rfl) rfl dX0_readSort_97) (S 12 _ rfl _ _ _ h (zoks_cons trivial (zoks_cons trivial zoks_nil))) (Or.inl ⟨rfl, rfl⟩) (zc_hk q650 q143) (by decide) (Nat.le_of_ble_eq_true rfl) (fun v11 u10 rv11 h => ?_) (fun _ _ h => h.elim)
    refine zc_wk G hp (fun hu10 tu10 => ?_)
    refine zv_if_eq (tgt := 107) G rv11 (by decide) dX0_readSort_100 (fun c12 => ?_) (fun c12 => ?_)
    · have h := h.1 c12
      refine zv_iconst (a := 2) G (by decide) dX0_readSort_107 ?_
      exact zv_pick [] rfl (cpC_X0_readSort_108 hp G M S hl hk (zr_k 2 (by decide) (by decide)) h)
    · have h := h.2 c12
      refine zv_iconst (a := 1) G (by decide) dX0_readSort_103 ?_
      refine zv_goto (tgt := 108) G (by decide) dX0_readSort_104 ?_
      exact zv_pick [] rfl (cpC_X0_readSort_108 hp G M S hl hk (zr_k 1 (by decide) (by decide)) h)
  · have h := h.2 c9
    refine zv_iconst (a := 0) G (by decide) dX0_readSort_90 ?_
    refine zv_goto (tgt := 108) G (by decide) dX0_readSort_91 ?_
    exact zv_pick [] rfl (cpC_X0_readSort_108 hp G M S hl hk (zr_k 0 (by decide) (by decide)) h)
set_option maxHeartbeats 4000000 in
set_option maxRecDepth 100000 in
theorem cpC_X0_readSort_73 {Γ : ZG CW} {D : CD} {d p : Nat} (hp : D.K.1 = p) (G : ZOk Γ cX0_readSort RX0 3 (KnC D) (ZC D)) (M : ZRm Γ (d + 1) D.lim (Option.some Jvm.ClassFile.FieldType.int) "readSort" []) (S : SdC d D p Γ.l) (hl : Γ.l.stackTraces = false) (hk : 0 ≤ d) {s0 : Nat} {w : CW} (h : pC_X0_readSort_73 p (wpC p d) (fun v w => Γ.Q (.inl (some (ai v))) w) (fun x w => Γ.Q (.inr x) w) s0 w) : ZV Γ w 73 [(0, ar p)] [ar s0] := by
  refine zc_wk G hp (fun hw tw => ?_)
  refine zv_iconst (a := 1) G (by decide) dX0_readSort_73 ?_
  refine zv_goto (tgt := 78) G (by decide) dX0_readSort_74 ?_
  exact zv_pick [0] rfl (cpC_X0_readSort_78 hp G M S hl hk (zr_k 1 (by decide) (by decide)) h)
set_option maxHeartbeats 4000000 in
set_option maxRecDepth 100000 in
theorem cpC_X0_readSort_0 {Γ : ZG CW} {D : CD} {d p : Nat} (hp : D.K.1 = p) (G : ZOk Γ cX0_readSort RX0 3 (KnC D) (ZC D)) (M : ZRm Γ (d + 1) D.lim (Option.some Jvm.ClassFile.FieldType.int) "readSort" []) (S : SdC d D p Γ.l) (hl : Γ.l.stackTraces = false) (hk : 0 ≤ d) {w : CW} (h : pC_X0_readSort_0 p (wpC p d) (fun v w => Γ.Q (.inl (some (ai v))) w) (fun x w => Γ.Q (.inr x) w) w) : ZV Γ w 0 [(0, ar p)] [] := by
  refine zc_wk G hp (fun hw tw => ?_)
  refine zv_aload_n G rfl rfl dX0_readSort_0 ?_
  refine zc_get (f := 10) (v := ai (fI w 10 p)) G (hFp tw rfl) rfl q2066 (Or.inl rfl) (cV_I (by decide) (by decide)) dX0_readSort_1 ?_
  refine zv_iconst (a := 2) G (by decide) dX0_readSort_4 ?_
  refine zv_icmp_ne (tgt := 45) G (hw.i 10 _ (by decide)) (zr_k 2 (by decide) (by decide)) (by decide) dX0_readSort_5 (fun c1 => ?_) (fun c1 => ?_)
  · have h := h.2 c1
    refine zv_aload_n G rfl rfl dX0_readSort_45 ?_
    refine zv_aload_n G rfl rfl dX0_readSort_46 ?_
    refine zc_ldcs (k := 5) G rfl dX0_readSort_47 ?_
    refine zv_callI (as := [ar p, ar (sr w 5)]) (st := [ar p]) G M (zc_eV (C := zcn 1) G q647 q649 qs8 (Or.inl ⟨rfl, rfl⟩) q650 md_X0_isWord (zc_rc G (zne tw tw.1 (by decide)) tw.1 (by decide) (by decide) rfl) rfl dX0_readSort_49) (S 12 _ rfl _ _ _ h (zoks_cons trivial (zoks_cons trivial zoks_nil))) (Or.inl ⟨rfl, rfl⟩) (zc_hk q650 q143) (by decide) (Nat.le_of_ble_eq_true rfl) (fun v3 u2 rv3 h => ?_) (fun _ _ h => h.elim)
    refine zc_wk G hp (fun hu2 tu2 => ?_)
    refine zv_if_ne (tgt := 73) G rv3 (by decide) dX0_readSort_52 (fun c4 => ?_) (fun c4 => ?_)
    · have h := h.2 c4
      exact zv_pick [0] rfl (cpC_X0_readSort_73 hp G M S hl hk h)
    · have h := h.1 c4
      refine zv_aload_n G rfl rfl dX0_readSort_55 ?_
      refine zc_ldcs (k := 6) G rfl dX0_readSort_56 ?_
      refine zv_callI (as := [ar p, ar (sr u2 6)]) (st := [ar p]) G M (zc_eV (C := zcn 1) G q647 q649 qs8 (Or.inl ⟨rfl, rfl⟩) q650 md_X0_isWord (zc_rc G (zne tu2 tu2.1 (by decide)) tu2.1 (by decide) (by decide) rfl) rfl dX0_readSort_58) (S 12 _ rfl _ _ _ h (zoks_cons trivial (zoks_cons trivial zoks_nil))) (Or.inl ⟨rfl, rfl⟩) (zc_hk q650 q143) (by decide) (Nat.le_of_ble_eq_true rfl) (fun v17 u16 rv17 h => ?_) (fun _ _ h => h.elim)
      refine zc_wk G hp (fun hu16 tu16 => ?_)
      refine zv_if_ne (tgt := 73) G rv17 (by decide) dX0_readSort_61 (fun c18 => ?_) (fun c18 => ?_)
      · have h := h.2 c18
        exact zv_pick [0] rfl (cpC_X0_readSort_73 hp G M S hl hk h)
      · have h := h.1 c18
        refine zv_aload_n G rfl rfl dX0_readSort_64 ?_
        refine zc_ldcs (k := 7) G rfl dX0_readSort_65 ?_
        refine zv_callI (as := [ar p, ar (sr u16 7)]) (st := [ar p]) G M (zc_eV (C := zcn 1) G q647 q649 qs8 (Or.inl ⟨rfl, rfl⟩) q650 md_X0_isWord (zc_rc G (zne tu16 tu16.1 (by decide)) tu16.1 (by decide) (by decide) rfl) rfl dX0_readSort_67) (S 12 _ rfl _ _ _ h (zoks_cons trivial (zoks_cons trivial zoks_nil))) (Or.inl ⟨rfl, rfl⟩) (zc_hk q650 q143) (by decide) (Nat.le_of_ble_eq_true rfl) (fun v20 u19 rv20 h => ?_) (fun _ _ h => h.elim)
        refine zc_wk G hp (fun hu19 tu19 => ?_)
        refine zv_if_eq (tgt := 77) G rv20 (by decide) dX0_readSort_70 (fun c21 => ?_) (fun c21 => ?_)
        · have h := h.1 c21
          refine zv_iconst (a := 0) G (by decide) dX0_readSort_77 ?_
          exact zv_pick [0] rfl (cpC_X0_readSort_78 hp G M S hl hk (zr_k 0 (by decide) (by decide)) h)
        · have h := h.2 c21
          exact zv_pick [0] rfl (cpC_X0_readSort_73 hp G M S hl hk h)
  · have h := h.1 c1
    refine zv_aload_n G rfl rfl dX0_readSort_8 ?_
    refine zv_aload_n G rfl rfl dX0_readSort_9 ?_
    refine zc_get (f := 12) (v := al (fI w 12 p)) G (hFp tw rfl) rfl q2068 (Or.inl rfl) (cV_L rfl) dX0_readSort_10 ?_
    refine zv_callR (as := [ar p, al (fI w 12 p)]) (st := []) G M (zc_eV (C := zcn 1) G q671 q673 qs11 (Or.inl ⟨rfl, rfl⟩) q674 md_X0_named (zc_rc G (zne tw tw.1 (by decide)) tw.1 (by decide) (by decide) rfl) rfl dX0_readSort_13) (S 15 _ rfl _ _ _ h (zoks_cons trivial (zoks_cons (hw.l 12 _ (by decide)) zoks_nil))) (Or.inl ⟨rfl, rfl⟩) (zc_hk q674 q143) (by decide) (Nat.le_of_ble_eq_true rfl) (fun v23 u22 h => ?_) (fun _ _ h => h.elim)
    refine zc_wk G hp (fun hu22 tu22 => ?_)
    refine zv_astore_n G rfl (by decide) rfl dX0_readSort_16 ?_
    refine zv_aload_n G rfl rfl dX0_readSort_17 ?_
    refine zv_aload_n G rfl rfl dX0_readSort_18 ?_
    have kj31 : ∀ v24 : Int, v24 = (if ¬ (v23 = 0) then 1 else 0) → ZV Γ u22 27 [(2, ar v23), (0, ar p)] (ai v24 :: ar p :: []) := by
      intro v24 ev24
      have h := h v24 ev24
      have rv24 : zr v24 := by rw [ev24]; exact (zr_ite (zr_k 1 (by decide) (by decide)) (zr_k 0 (by decide) (by decide)))
      have bv24 : v24 = 0 ∨ v24 = 1 := by rw [ev24]; exact (zb_ite (Or.inr rfl) (Or.inl rfl))
      refine zv_iconst (a := 4) G (by decide) dX0_readSort_27 ?_
      refine zv_aload_n G rfl rfl dX0_readSort_28 ?_
      refine zc_get (f := 11) (v := ai (fI u22 11 p)) G (hFp tu22 rfl) rfl q2067 (Or.inl rfl) (cV_I (by decide) (by decide)) dX0_readSort_29 ?_
      refine zv_callV (as := [ar p, ai v24, ai 4, ai (fI u22 11 p)]) (st := []) G M (zc_eV (C := zcn 1) G q235 q237 qs5 (Or.inl ⟨rfl, rfl⟩) q238 md_X0_need (zc_rc G (zne tu22 tu22.1 (by decide)) tu22.1 (by decide) (by decide) rfl) rfl dX0_readSort_32) (S 10 _ rfl _ _ _ h (zoks_cons trivial (zoks_cons rv24 (zoks_cons (zr_k 4 (by decide) (by decide)) (zoks_cons (hu22.i 11 _ (by decide)) zoks_nil))))) (Or.inl ⟨rfl, rfl⟩) (zc_hk q238 q143) (by decide) (Nat.le_of_ble_eq_true rfl) (fun u25 h => ?_) (fun x29 u30 h => ?_)
      rotate_left
      · exact zx_leave G M rfl h
      refine zc_wk G hp (fun hu25 tu25 => ?_)
      refine zv_iconst (a := 3) G (by decide) dX0_readSort_35 ?_
      refine zv_aload_n G rfl rfl dX0_readSort_36 ?_
      have o27 := h.1
      have h := h.2
      refine zc_get (f := 37) (v := ai (fI u25 37 v23)) G o27 rfl q684 (Or.inl rfl) (cV_I (by decide) (by decide)) dX0_readSort_37 ?_
      refine zv_iadd G dX0_readSort_40 ?_
      refine zv_istore_nN G rfl (by decide) dX0_readSort_41 (fun x1_28 ex1_28 => ?_)
      have h := h x1_28 ex1_28
      have rx1_28 : zr x1_28 := by rw [ex1_28]; exact (w32_r _)
      refine zv_goto (tgt := 109) G (by decide) dX0_readSort_42 ?_
      exact zv_pick [1] rfl (cpC_X0_readSort_109 hp G M S hl hk rx1_28 h)
    refine zv_ifnull (tgt := 26) G (by decide) dX0_readSort_19 (fun c32 => ?_) (fun c32 => ?_)
    · refine zv_iconst (a := 0) G (by decide) dX0_readSort_26 ?_
      exact kj31 _ (if_neg (fun q => q c32)).symm
    · refine zv_iconst (a := 1) G (by decide) dX0_readSort_22 ?_
      refine zv_goto (tgt := 27) G (by decide) dX0_readSort_23 ?_
      exact kj31 _ (if_pos c32).symm
set_option maxHeartbeats 4000000 in
set_option maxRecDepth 100000 in
theorem cpC_X0_skip_0 {Γ : ZG CW} {D : CD} {d p : Nat} (hp : D.K.1 = p) (G : ZOk Γ cX0_skip RX0 2 (KnC D) (ZC D)) (M : ZRm Γ (d + 1) D.lim (Option.none : Option Jvm.ClassFile.FieldType) "skip" []) (S : SdC d D p Γ.l) (hl : Γ.l.stackTraces = false) (hk : 0 ≤ d) {x1 : Int} {w : CW} (rx1 : zr x1) (h : pC_X0_skip_0 p (wpC p d) (fun w => Γ.Q (.inl none) w) (fun x w => Γ.Q (.inr x) w) x1 w) : ZV Γ w 0 [(0, ar p), (1, ai x1)] [] := by
  refine zc_wk G hp (fun hw tw => ?_)
  refine zv_aload_n G rfl rfl dX0_skip_0 ?_
  refine zv_aload_n G rfl rfl dX0_skip_1 ?_
  refine zv_iload_n G rfl rfl dX0_skip_2 ?_
  refine zv_callI (as := [ar p, ai x1]) (st := [ar p]) G M (zc_eV (C := zcn 1) G q709 q711 qs12 (Or.inl ⟨rfl, rfl⟩) q712 md_X0_isSign (zc_rc G (zne tw tw.1 (by decide)) tw.1 (by decide) (by decide) rfl) rfl dX0_skip_3) (S 16 _ rfl _ _ _ h (zoks_cons trivial (zoks_cons rx1 zoks_nil))) (Or.inl ⟨rfl, rfl⟩) (zc_hk q712 q143) (by decide) (Nat.le_of_ble_eq_true rfl) (fun v2 u1 rv2 h => ?_) (fun _ _ h => h.elim)
  refine zc_wk G hp (fun hu1 tu1 => ?_)
  refine zv_callV (as := [ar p, ai v2]) (st := []) G M (zc_eV (C := zcn 1) G q667 q669 qs10 (Or.inl ⟨rfl, rfl⟩) q670 md_X0_want (zc_rc G (zne tu1 tu1.1 (by decide)) tu1.1 (by decide) (by decide) rfl) rfl dX0_skip_6) (S 14 _ rfl _ _ _ h (zoks_cons trivial (zoks_cons rv2 zoks_nil))) (Or.inl ⟨rfl, rfl⟩) (zc_hk q670 q143) (by decide) (Nat.le_of_ble_eq_true rfl) (fun u3 h => ?_) (fun x9 u10 h => ?_)
  rotate_left
  · exact zx_leave G M rfl h
  refine zc_wk G hp (fun hu3 tu3 => ?_)
  refine zv_aload_n G rfl rfl dX0_skip_9 ?_
  refine zv_callV (as := [ar p]) (st := []) G M (zc_eV (C := zcn 1) G q213 q215 qs1 (Or.inl ⟨rfl, rfl⟩) q216 md_X0_next (zc_rc G (zne tu3 tu3.1 (by decide)) tu3.1 (by decide) (by decide) rfl) rfl dX0_skip_10) (S 4 _ rfl _ _ _ h (zoks_cons trivial zoks_nil)) (Or.inl ⟨rfl, rfl⟩) (zc_hk q216 q143) (by decide) (Nat.le_of_ble_eq_true rfl) (fun u5 h => ?_) (fun x7 u8 h => ?_)
  rotate_left
  · exact zx_leave G M rfl h
  refine zc_wk G hp (fun hu5 tu5 => ?_)
  exact zv_vret G M dX0_skip_13 h
set_option maxHeartbeats 4000000 in
set_option maxRecDepth 100000 in
theorem cpC_X0_readFunction_223 {Γ : ZG CW} {D : CD} {d p : Nat} (hp : D.K.1 = p) (G : ZOk Γ cX0_readFunction RX0 3 (KnC D) (ZC D)) (M : ZRm Γ (d + 1) D.lim (Option.none : Option Jvm.ClassFile.FieldType) "readFunction" []) (S : SdC d D p Γ.l) (hl : Γ.l.stackTraces = false) (hk : 0 ≤ d) {w : CW} (h : pC_X0_readFunction_223 p (wpC p d) (fun w => Γ.Q (.inl none) w) (fun x w => Γ.Q (.inr x) w) w) : ZV Γ w 223 [(0, ar p)] [] := by
  refine zc_wk G hp (fun hw tw => ?_)
  refine zv_aload_n G rfl rfl dX0_readFunction_223 ?_
  refine zv_callV (as := [ar p]) (st := []) G M (zc_eV (C := zcn 1) G q213 q215 qs1 (Or.inl ⟨rfl, rfl⟩) q216 md_X0_next (zc_rc G (zne tw tw.1 (by decide)) tw.1 (by decide) (by decide) rfl) rfl dX0_readFunction_224) (S 4 _ rfl _ _ _ h (zoks_cons trivial zoks_nil)) (Or.inl ⟨rfl, rfl⟩) (zc_hk q216 q143) (by decide) (Nat.le_of_ble_eq_true rfl) (fun u59 h => ?_) (fun x61 u62 h => ?_)
  rotate_left
  · exact zx_leave G M rfl h
  refine zc_wk G hp (fun hu59 tu59 => ?_)
  exact zv_vret G M dX0_readFunction_227 h
set_option maxHeartbeats 4000000 in
set_option maxRecDepth 100000 in
theorem cpC_X0_readFunction_206 {Γ : ZG CW} {D : CD} {d p : Nat} (hp : D.K.1 = p) (G : ZOk Γ cX0_readFunction RX0 3 (KnC D) (ZC D)) (M : ZRm Γ (d + 1) D.lim (Option.none : Option Jvm.ClassFile.FieldType) "readFunction" []) (S : SdC d D p Γ.l) (hl : Γ.l.stackTraces = false) (hk : 0 ≤ d) {x1 : Nat} {w : CW} (h : pC_X0_readFunction_206 p (wpC p d) (fun w => Γ.Q (.inl none) w) (fun x w => Γ.Q (.inr x) w) x1 w) : ZV Γ w 206 [(0, ar p), (1, ar x1)] [] := by
  obtain ⟨I206, eI206⟩ : ∃ I : CW → Prop, I = (fun w => ZV Γ w 206 [(0, ar p), (1, ar x1)] []) := ⟨_, rfl⟩
  have hI206 : ∀ (w : CW), I206 w → ZV Γ w 206 [(0, ar p), (1, ar x1)] [] := by subst eI206; exact fun _ z => z
  have hJ206 : ∀ (w : CW), (ZV Γ w 206 [(0, ar p), (1, ar x1)] []) → I206 w := by subst eI206; exact fun _ z => z
  refine hI206 w (h I206 (fun w h => hJ206 w ?_)) 
  refine zc_wk G hp (fun hw tw => ?_)
  refine zv_aload_n G rfl rfl dX0_readFunction_206 ?_
  refine zv_bipush (a := 125) G (by decide) dX0_readFunction_207 ?_
  refine zv_callI (as := [ar p, ai 125]) (st := []) G M (zc_eV (C := zcn 1) G q709 q711 qs12 (Or.inl ⟨rfl, rfl⟩) q712 md_X0_isSign (zc_rc G (zne tw tw.1 (by decide)) tw.1 (by decide) (by decide) rfl) rfl dX0_readFunction_209) (S 16 _ rfl _ _ _ h (zoks_cons trivial (zoks_cons (zr_k 125 (by decide) (by decide)) zoks_nil))) (Or.inl ⟨rfl, rfl⟩) (zc_hk q712 q143) (by decide) (Nat.le_of_ble_eq_true rfl) (fun v57 u56 rv57 h => ?_) (fun _ _ h => h.elim)
  refine zc_wk G hp (fun hu56 tu56 => ?_)
  refine zv_if_ne (tgt := 223) G rv57 (by decide) dX0_readFunction_212 (fun c58 => ?_) (fun c58 => ?_)
  · have h := h.2 c58
    exact zv_pick [0] rfl (cpC_X0_readFunction_223 hp G M S hl hk h)
  · have h := h.1 c58
    refine zv_aload_n G rfl rfl dX0_readFunction_215 ?_
    refine zv_aload_n G rfl rfl dX0_readFunction_216 ?_
    refine zv_callV (as := [ar p, ar x1]) (st := []) G M (zc_eV (C := zcn 1) G q794 q796 qs17 (Or.inl ⟨rfl, rfl⟩) q797 md_X0_rule (zc_rc G (zne tu56 tu56.1 (by decide)) tu56.1 (by decide) (by decide) rfl) rfl dX0_readFunction_217) (S 21 _ rfl _ _ _ h (zoks_cons trivial (zoks_cons trivial zoks_nil))) (Or.inl ⟨rfl, rfl⟩) (zc_hk q797 q143) (by decide) (Nat.le_of_ble_eq_true rfl) (fun u63 h => ?_) (fun x65 u66 h => ?_)
    rotate_left
    · exact zx_leave G M rfl h
    refine zc_wk G hp (fun hu63 tu63 => ?_)
    refine zv_goto (tgt := 206) G (by decide) dX0_readFunction_220 ?_
    exact zv_pick [0, 1] rfl (hI206 _ h )
set_option maxHeartbeats 4000000 in
set_option maxRecDepth 100000 in
theorem cpC_X0_readFunction_186 {Γ : ZG CW} {D : CD} {d p : Nat} (hp : D.K.1 = p) (G : ZOk Γ cX0_readFunction RX0 3 (KnC D) (ZC D)) (M : ZRm Γ (d + 1) D.lim (Option.none : Option Jvm.ClassFile.FieldType) "readFunction" []) (S : SdC d D p Γ.l) (hl : Γ.l.stackTraces = false) (hk : 0 ≤ d) {x1 : Nat} {w : CW} (h : pC_X0_readFunction_186 p (wpC p d) (fun w => Γ.Q (.inl none) w) (fun x w => Γ.Q (.inr x) w) x1 w) : ZV Γ w 186 [(0, ar p), (1, ar x1)] [] := by
  refine zc_wk G hp (fun hw tw => ?_)
  refine zv_aload_n G rfl rfl dX0_readFunction_186 ?_
  refine zv_bipush (a := 41) G (by decide) dX0_readFunction_187 ?_
  refine zv_callV (as := [ar p, ai 41]) (st := []) G M (zc_eV (C := zcn 1) G q720 q722 qs14 (Or.inl ⟨rfl, rfl⟩) q723 md_X0_skip (zc_rc G (zne tw tw.1 (by decide)) tw.1 (by decide) (by decide) rfl) rfl dX0_readFunction_189) (S 18 _ rfl _ _ _ h (zoks_cons trivial (zoks_cons (zr_k 41 (by decide) (by decide)) zoks_nil))) (Or.inl ⟨rfl, rfl⟩) (zc_hk q723 q143) (by decide) (Nat.le_of_ble_eq_true rfl) (fun u48 h => ?_) (fun x71 u72 h => ?_)
  rotate_left
  · exact zx_leave G M rfl h
  refine zc_wk G hp (fun hu48 tu48 => ?_)
  refine zv_aload_n G rfl rfl dX0_readFunction_192 ?_
  refine zv_aload_n G rfl rfl dX0_readFunction_193 ?_
  refine zv_bipush (a := 123) G (by decide) dX0_readFunction_194 ?_
  refine zv_callI (as := [ar p, ai 123]) (st := [ar p]) G M (zc_eV (C := zcn 1) G q709 q711 qs12 (Or.inl ⟨rfl, rfl⟩) q712 md_X0_isSign (zc_rc G (zne tu48 tu48.1 (by decide)) tu48.1 (by decide) (by decide) rfl) rfl dX0_readFunction_196) (S 16 _ rfl _ _ _ h (zoks_cons trivial (zoks_cons (zr_k 123 (by decide) (by decide)) zoks_nil))) (Or.inl ⟨rfl, rfl⟩) (zc_hk q712 q143) (by decide) (Nat.le_of_ble_eq_true rfl) (fun v51 u50 rv51 h => ?_) (fun _ _ h => h.elim)
  refine zc_wk G hp (fun hu50 tu50 => ?_)
  refine zv_callV (as := [ar p, ai v51]) (st := []) G M (zc_eV (C := zcn 1) G q667 q669 qs10 (Or.inl ⟨rfl, rfl⟩) q670 md_X0_want (zc_rc G (zne tu50 tu50.1 (by decide)) tu50.1 (by decide) (by decide) rfl) rfl dX0_readFunction_199) (S 14 _ rfl _ _ _ h (zoks_cons trivial (zoks_cons rv51 zoks_nil))) (Or.inl ⟨rfl, rfl⟩) (zc_hk q670 q143) (by decide) (Nat.le_of_ble_eq_true rfl) (fun u52 h => ?_) (fun x69 u70 h => ?_)
  rotate_left
  · exact zx_leave G M rfl h
  refine zc_wk G hp (fun hu52 tu52 => ?_)
  refine zv_aload_n G rfl rfl dX0_readFunction_202 ?_
  refine zv_callV (as := [ar p]) (st := []) G M (zc_eV (C := zcn 1) G q213 q215 qs1 (Or.inl ⟨rfl, rfl⟩) q216 md_X0_next (zc_rc G (zne tu52 tu52.1 (by decide)) tu52.1 (by decide) (by decide) rfl) rfl dX0_readFunction_203) (S 4 _ rfl _ _ _ h (zoks_cons trivial zoks_nil)) (Or.inl ⟨rfl, rfl⟩) (zc_hk q216 q143) (by decide) (Nat.le_of_ble_eq_true rfl) (fun u54 h => ?_) (fun x67 u68 h => ?_)
  rotate_left
  · exact zx_leave G M rfl h
  refine zc_wk G hp (fun hu54 tu54 => ?_)
  exact zv_pick [0, 1] rfl (cpC_X0_readFunction_206 hp G M S hl hk h)
set_option maxHeartbeats 4000000 in
set_option maxRecDepth 100000 in
theorem cpC_X0_readFunction_121 {Γ : ZG CW} {D : CD} {d p : Nat} (hp : D.K.1 = p) (G : ZOk Γ cX0_readFunction RX0 3 (KnC D) (ZC D)) (M : ZRm Γ (d + 1) D.lim (Option.none : Option Jvm.ClassFile.FieldType) "readFunction" []) (S : SdC d D p Γ.l) (hl : Γ.l.stackTraces = false) (hk : 0 ≤ d) {x1 : Nat} {w : CW} (h : pC_X0_readFunction_121 p (wpC p d) (fun w => Γ.Q (.inl none) w) (fun x w => Γ.Q (.inr x) w) x1 w) : ZV Γ w 121 [(0, ar p), (1, ar x1)] [] := by
  obtain ⟨I121, eI121⟩ : ∃ I : CW → Prop, I = (fun w => ZV Γ w 121 [(0, ar p), (1, ar x1)] []) := ⟨_, rfl⟩
  have hI121 : ∀ (w : CW), I121 w → ZV Γ w 121 [(0, ar p), (1, ar x1)] [] := by subst eI121; exact fun _ z => z
  have hJ121 : ∀ (w : CW), (ZV Γ w 121 [(0, ar p), (1, ar x1)] []) → I121 w := by subst eI121; exact fun _ z => z
  refine hI121 w (h I121 (fun w h => hJ121 w ?_)) 
  refine zc_wk G hp (fun hw tw => ?_)
  refine zv_aload_n G rfl rfl dX0_readFunction_121 ?_
  refine zv_callV (as := [ar p]) (st := []) G M (zc_eV (C := zcn 1) G q213 q215 qs1 (Or.inl ⟨rfl, rfl⟩) q216 md_X0_next (zc_rc G (zne tw tw.1 (by decide)) tw.1 (by decide) (by decide) rfl) rfl dX0_readFunction_122) (S 4 _ rfl _ _ _ h (zoks_cons trivial zoks_nil)) (Or.inl ⟨rfl, rfl⟩) (zc_hk q216 q143) (by decide) (Nat.le_of_ble_eq_true rfl) (fun u28 h => ?_) (fun x81 u82 h => ?_)
  rotate_left
  · exact zx_leave G M rfl h
  refine zc_wk G hp (fun hu28 tu28 => ?_)
  refine zv_aload_n G rfl rfl dX0_readFunction_125 ?_
  refine zv_callI (as := [ar p]) (st := []) G M (zc_eV (C := zcn 1) G q713 q715 qs13 (Or.inl ⟨rfl, rfl⟩) q716 md_X0_readSort (zc_rc G (zne tu28 tu28.1 (by decide)) tu28.1 (by decide) (by decide) rfl) rfl dX0_readFunction_126) (S 17 _ rfl _ _ _ h (zoks_cons trivial zoks_nil)) (Or.inl ⟨rfl, rfl⟩) (zc_hk q716 q143) (by decide) (Nat.le_of_ble_eq_true rfl) (fun v31 u30 rv31 h => ?_) (fun x79 u80 h => ?_)
  rotate_left
  · exact zx_leave G M rfl h
  refine zc_wk G hp (fun hu30 tu30 => ?_)
  refine zv_istore_n G rfl (by decide) rfl dX0_readFunction_129 ?_
  refine zv_aload_n G rfl rfl dX0_readFunction_130 ?_
  refine zv_aload_n G rfl rfl dX0_readFunction_131 ?_
  have o32 := h.1
  have h := h.2
  refine zc_get (f := 46) (v := ai (fI u30 46 x1)) G o32 rfl q750 (Or.inl rfl) (cV_I (by decide) (by decide)) dX0_readFunction_132 ?_
  refine zv_iconst (a := 3) G (by decide) dX0_readFunction_135 ?_
  have kj77 : ∀ v33 : Int, v33 = (if ¬ (3 ≤ (fI u30 46 x1)) then 1 else 0) → ZV Γ u30 144 [(2, ai v31), (0, ar p), (1, ar x1)] (ai v33 :: ar p :: []) := by
    intro v33 ev33
    have h := h v33 ev33
    have rv33 : zr v33 := by rw [ev33]; exact (zr_ite (zr_k 1 (by decide) (by decide)) (zr_k 0 (by decide) (by decide)))
    have bv33 : v33 = 0 ∨ v33 = 1 := by rw [ev33]; exact (zb_ite (Or.inr rfl) (Or.inl rfl))
    refine zv_bipush (a := 9) G (by decide) dX0_readFunction_144 ?_
    refine zv_aload_n G rfl rfl dX0_readFunction_146 ?_
    refine zc_get (f := 11) (v := ai (fI u30 11 p)) G (hFp tu30 rfl) rfl q2067 (Or.inl rfl) (cV_I (by decide) (by decide)) dX0_readFunction_147 ?_
    refine zv_callV (as := [ar p, ai v33, ai 9, ai (fI u30 11 p)]) (st := []) G M (zc_eV (C := zcn 1) G q235 q237 qs5 (Or.inl ⟨rfl, rfl⟩) q238 md_X0_need (zc_rc G (zne tu30 tu30.1 (by decide)) tu30.1 (by decide) (by decide) rfl) rfl dX0_readFunction_150) (S 10 _ rfl _ _ _ h (zoks_cons trivial (zoks_cons rv33 (zoks_cons (zr_k 9 (by decide) (by decide)) (zoks_cons (hu30.i 11 _ (by decide)) zoks_nil))))) (Or.inl ⟨rfl, rfl⟩) (zc_hk q238 q143) (by decide) (Nat.le_of_ble_eq_true rfl) (fun u34 h => ?_) (fun x75 u76 h => ?_)
    rotate_left
    · exact zx_leave G M rfl h
    refine zc_wk G hp (fun hu34 tu34 => ?_)
    refine zv_aload_n G rfl rfl dX0_readFunction_153 ?_
    have o36 := h.1
    have h := h.2
    refine zc_get (f := 45) (v := ar (fR u34 45 x1)) G o36 rfl q748 (Or.inl rfl) (cV_R rfl) dX0_readFunction_154 ?_
    refine zv_aload_n G rfl rfl dX0_readFunction_157 ?_
    have o37 := h.1
    have h := h.2
    refine zc_get (f := 46) (v := ai (fI u34 46 x1)) G o37 rfl q750 (Or.inl rfl) (cV_I (by decide) (by decide)) dX0_readFunction_158 ?_
    refine zv_iload_n G rfl rfl dX0_readFunction_161 ?_
    have o39 := h.1
    have h := h.2
    refine zc_iast G o39.1 (hu34.i 46 _ (by decide)) rv31 o39.2.1 o39.2.2 dX0_readFunction_162 (fun u38 eu38 => ?_)
    have h := h u38 eu38
    refine zc_wk G hp (fun hu38 tu38 => ?_)
    refine zv_aload_n G rfl rfl dX0_readFunction_163 ?_
    refine zv_dup G rfl dX0_readFunction_164 ?_
    have o40 := h.1
    have h := h.2
    refine zc_get (f := 46) (v := ai (fI u38 46 x1)) G o40 rfl q750 (Or.inl rfl) (cV_I (by decide) (by decide)) dX0_readFunction_165 ?_
    refine zv_iconst (a := 1) G (by decide) dX0_readFunction_168 ?_
    refine zv_iadd G dX0_readFunction_169 ?_
    have o42 := h.1
    have h := h.2
    refine zc_putI (f := 46) G M o42 rfl q750 (Or.inl rfl) (Or.inl rfl) (zfty_46) rfl rfl (by decide) (by decide) (w32_r _) dX0_readFunction_170 (fun u41 eu41 => ?_)
    have h := h u41 eu41
    refine zc_wk G hp (fun hu41 tu41 => ?_)
    refine zv_aload_n G rfl rfl dX0_readFunction_173 ?_
    refine zv_callV (as := [ar p]) (st := []) G M (zc_eV (C := zcn 1) G q213 q215 qs1 (Or.inl ⟨rfl, rfl⟩) q216 md_X0_next (zc_rc G (zne tu41 tu41.1 (by decide)) tu41.1 (by decide) (by decide) rfl) rfl dX0_readFunction_174) (S 4 _ rfl _ _ _ h (zoks_cons trivial zoks_nil)) (Or.inl ⟨rfl, rfl⟩) (zc_hk q216 q143) (by decide) (Nat.le_of_ble_eq_true rfl) (fun u43 h => ?_) (fun x73 u74 h => ?_)
    rotate_left
    · exact zx_leave G M rfl h
    refine zc_wk G hp (fun hu43 tu43 => ?_)
    refine zv_aload_n G rfl rfl dX0_readFunction_177 ?_
    refine zv_bipush (a := 44) G (by decide) dX0_readFunction_178 ?_
    refine zv_callI (as := [ar p, ai 44]) (st := []) G M (zc_eV (C := zcn 1) G q709 q711 qs12 (Or.inl ⟨rfl, rfl⟩) q712 md_X0_isSign (zc_rc G (zne tu43 tu43.1 (by decide)) tu43.1 (by decide) (by decide) rfl) rfl dX0_readFunction_180) (S 16 _ rfl _ _ _ h (zoks_cons trivial (zoks_cons (zr_k 44 (by decide) (by decide)) zoks_nil))) (Or.inl ⟨rfl, rfl⟩) (zc_hk q712 q143) (by decide) (Nat.le_of_ble_eq_true rfl) (fun v46 u45 rv46 h => ?_) (fun _ _ h => h.elim)
    refine zc_wk G hp (fun hu45 tu45 => ?_)
    refine zv_if_ne (tgt := 121) G rv46 (by decide) dX0_readFunction_183 (fun c47 => ?_) (fun c47 => ?_)
    · have h := h.2 c47
      exact zv_pick [0, 1] rfl (hI121 _ h )
    · have h := h.1 c47
      exact zv_pick [0, 1] rfl (cpC_X0_readFunction_186 hp G M S hl hk h)
  refine zv_icmp_ge (tgt := 143) G (hu30.i 46 _ (by decide)) (zr_k 3 (by decide) (by decide)) (by decide) dX0_readFunction_136 (fun c78 => ?_) (fun c78 => ?_)
  · refine zv_iconst (a := 0) G (by decide) dX0_readFunction_143 ?_
    exact kj77 _ (if_neg (fun q => q c78)).symm
  · refine zv_iconst (a := 1) G (by decide) dX0_readFunction_139 ?_
    refine zv_goto (tgt := 144) G (by decide) dX0_readFunction_140 ?_
    exact kj77 _ (if_pos c78).symm
set_option maxHeartbeats 4000000 in
set_option maxRecDepth 100000 in
theorem cpC_X0_readFunction_0 {Γ : ZG CW} {D : CD} {d p : Nat} (hp : D.K.1 = p) (G : ZOk Γ cX0_readFunction RX0 3 (KnC D) (ZC D)) (M : ZRm Γ (d + 1) D.lim (Option.none : Option Jvm.ClassFile.FieldType) "readFunction" []) (S : SdC d D p Γ.l) (hl : Γ.l.stackTraces = false) (hk : 0 ≤ d) {w : CW} (h : pC_X0_readFunction_0 p (wpC p d) (fun w => Γ.Q (.inl none) w) (fun x w => Γ.Q (.inr x) w) w) : ZV Γ w 0 [(0, ar p)] [] := by
  refine zc_wk G hp (fun hw tw => ?_)
  refine zv_aload_n G rfl rfl dX0_readFunction_0 ?_
  refine zv_callV (as := [ar p]) (st := []) G M (zc_eV (C := zcn 1) G q213 q215 qs1 (Or.inl ⟨rfl, rfl⟩) q216 md_X0_next (zc_rc G (zne tw tw.1 (by decide)) tw.1 (by decide) (by decide) rfl) rfl dX0_readFunction_1) (S 4 _ rfl _ _ _ h (zoks_cons trivial zoks_nil)) (Or.inl ⟨rfl, rfl⟩) (zc_hk q216 q143) (by decide) (Nat.le_of_ble_eq_true rfl) (fun u1 h => ?_) (fun x99 u100 h => ?_)
  rotate_left
  · exact zx_leave G M rfl h
  refine zc_wk G hp (fun hu1 tu1 => ?_)
  refine zv_aload_n G rfl rfl dX0_readFunction_4 ?_
  refine zv_aload_n G rfl rfl dX0_readFunction_5 ?_
  refine zc_get (f := 10) (v := ai (fI u1 10 p)) G (hFp tu1 rfl) rfl q2066 (Or.inl rfl) (cV_I (by decide) (by decide)) dX0_readFunction_6 ?_
  refine zv_iconst (a := 1) G (by decide) dX0_readFunction_9 ?_
  have kj97 : ∀ v3 : Int, v3 = (if (fI u1 10 p) = 1 then 1 else 0) → ZV Γ u1 18 [(0, ar p)] (ai v3 :: ar p :: []) := by
    intro v3 ev3
    have h := h v3 ev3
    have rv3 : zr v3 := by rw [ev3]; exact (zr_ite (zr_k 1 (by decide) (by decide)) (zr_k 0 (by decide) (by decide)))
    have bv3 : v3 = 0 ∨ v3 = 1 := by rw [ev3]; exact (zb_ite (Or.inr rfl) (Or.inl rfl))
    refine zv_callV (as := [ar p, ai v3]) (st := []) G M (zc_eV (C := zcn 1) G q667 q669 qs10 (Or.inl ⟨rfl, rfl⟩) q670 md_X0_want (zc_rc G (zne tu1 tu1.1 (by decide)) tu1.1 (by decide) (by decide) rfl) rfl dX0_readFunction_18) (S 14 _ rfl _ _ _ h (zoks_cons trivial (zoks_cons rv3 zoks_nil))) (Or.inl ⟨rfl, rfl⟩) (zc_hk q670 q143) (by decide) (Nat.le_of_ble_eq_true rfl) (fun u4 h => ?_) (fun x95 u96 h => ?_)
    rotate_left
    · exact zx_leave G M rfl h
    refine zc_wk G hp (fun hu4 tu4 => ?_)
    refine zv_aload_n G rfl rfl dX0_readFunction_21 ?_
    refine zv_aload_n G rfl rfl dX0_readFunction_22 ?_
    refine zv_aload_n G rfl rfl dX0_readFunction_23 ?_
    refine zc_get (f := 12) (v := al (fI u4 12 p)) G (hFp tu4 rfl) rfl q2068 (Or.inl rfl) (cV_L rfl) dX0_readFunction_24 ?_
    refine zv_callR (as := [ar p, al (fI u4 12 p)]) (st := [ar p]) G M (zc_eV (C := zcn 1) G q729 q731 qs16 (Or.inl ⟨rfl, rfl⟩) q732 md_X0_functionOf (zc_rc G (zne tu4 tu4.1 (by decide)) tu4.1 (by decide) (by decide) rfl) rfl dX0_readFunction_27) (S 20 _ rfl _ _ _ h (zoks_cons trivial (zoks_cons (hu4.l 12 _ (by decide)) zoks_nil))) (Or.inl ⟨rfl, rfl⟩) (zc_hk q732 q143) (by decide) (Nat.le_of_ble_eq_true rfl) (fun v7 u6 h => ?_) (fun _ _ h => h.elim)
    refine zc_wk G hp (fun hu6 tu6 => ?_)
    have kj93 : ∀ v8 : Int, v8 = (if v7 = 0 then 1 else 0) → ZV Γ u6 38 [(0, ar p)] (ai v8 :: ar p :: []) := by
      intro v8 ev8
      have h := h v8 ev8
      have rv8 : zr v8 := by rw [ev8]; exact (zr_ite (zr_k 1 (by decide) (by decide)) (zr_k 0 (by decide) (by decide)))
      have bv8 : v8 = 0 ∨ v8 = 1 := by rw [ev8]; exact (zb_ite (Or.inr rfl) (Or.inl rfl))
      refine zv_iconst (a := 3) G (by decide) dX0_readFunction_38 ?_
      refine zv_aload_n G rfl rfl dX0_readFunction_39 ?_
      refine zc_get (f := 11) (v := ai (fI u6 11 p)) G (hFp tu6 rfl) rfl q2067 (Or.inl rfl) (cV_I (by decide) (by decide)) dX0_readFunction_40 ?_
      refine zv_callV (as := [ar p, ai v8, ai 3, ai (fI u6 11 p)]) (st := []) G M (zc_eV (C := zcn 1) G q235 q237 qs5 (Or.inl ⟨rfl, rfl⟩) q238 md_X0_need (zc_rc G (zne tu6 tu6.1 (by decide)) tu6.1 (by decide) (by decide) rfl) rfl dX0_readFunction_43) (S 10 _ rfl _ _ _ h (zoks_cons trivial (zoks_cons rv8 (zoks_cons (zr_k 3 (by decide) (by decide)) (zoks_cons (hu6.i 11 _ (by decide)) zoks_nil))))) (Or.inl ⟨rfl, rfl⟩) (zc_hk q238 q143) (by decide) (Nat.le_of_ble_eq_true rfl) (fun u9 h => ?_) (fun x91 u92 h => ?_)
      rotate_left
      · exact zx_leave G M rfl h
      refine zc_wk G hp (fun hu9 tu9 => ?_)
      refine zv_aload_n G rfl rfl dX0_readFunction_46 ?_
      refine zv_aload_n G rfl rfl dX0_readFunction_47 ?_
      refine zc_get (f := 6) (v := ai (fI u9 6 p)) G (hFp tu9 rfl) rfl q2062 (Or.inl rfl) (cV_I (by decide) (by decide)) dX0_readFunction_48 ?_
      refine zv_bipush (a := 12) G (by decide) dX0_readFunction_51 ?_
      have kj89 : ∀ v11 : Int, v11 = (if ¬ (12 ≤ (fI u9 6 p)) then 1 else 0) → ZV Γ u9 61 [(0, ar p)] (ai v11 :: ar p :: []) := by
        intro v11 ev11
        have h := h v11 ev11
        have rv11 : zr v11 := by rw [ev11]; exact (zr_ite (zr_k 1 (by decide) (by decide)) (zr_k 0 (by decide) (by decide)))
        have bv11 : v11 = 0 ∨ v11 = 1 := by rw [ev11]; exact (zb_ite (Or.inr rfl) (Or.inl rfl))
        refine zv_bipush (a := 9) G (by decide) dX0_readFunction_61 ?_
        refine zv_aload_n G rfl rfl dX0_readFunction_63 ?_
        refine zc_get (f := 11) (v := ai (fI u9 11 p)) G (hFp tu9 rfl) rfl q2067 (Or.inl rfl) (cV_I (by decide) (by decide)) dX0_readFunction_64 ?_
        refine zv_callV (as := [ar p, ai v11, ai 9, ai (fI u9 11 p)]) (st := []) G M (zc_eV (C := zcn 1) G q235 q237 qs5 (Or.inl ⟨rfl, rfl⟩) q238 md_X0_need (zc_rc G (zne tu9 tu9.1 (by decide)) tu9.1 (by decide) (by decide) rfl) rfl dX0_readFunction_67) (S 10 _ rfl _ _ _ h (zoks_cons trivial (zoks_cons rv11 (zoks_cons (zr_k 9 (by decide) (by decide)) (zoks_cons (hu9.i 11 _ (by decide)) zoks_nil))))) (Or.inl ⟨rfl, rfl⟩) (zc_hk q238 q143) (by decide) (Nat.le_of_ble_eq_true rfl) (fun u12 h => ?_) (fun x87 u88 h => ?_)
        rotate_left
        · exact zx_leave G M rfl h
        refine zc_wk G hp (fun hu12 tu12 => ?_)
        have o15 := h.1
        have h := h.2
        refine zc_new (ci := 3) (t := 4) (n := 13) G M rfl rfl (by decide) rfl q733 q734 q160 o15 dX0_readFunction_70 (fun u14 eu14 => ?_)
        have h := h u14 eu14
        refine zc_wk G hp (fun hu14 tu14 => ?_)
        refine zv_dup G rfl dX0_readFunction_73 ?_
        refine zv_aload_n G rfl rfl dX0_readFunction_74 ?_
        refine zv_aload_n G rfl rfl dX0_readFunction_75 ?_
        refine zc_get (f := 6) (v := ai (fI u14 6 p)) G (hFp tu14 rfl) rfl q2062 (Or.inl rfl) (cV_I (by decide) (by decide)) dX0_readFunction_76 ?_
        refine zv_aload_n G rfl rfl dX0_readFunction_79 ?_
        refine zc_get (f := 12) (v := al (fI u14 12 p)) G (hFp tu14 rfl) rfl q2068 (Or.inl rfl) (cV_L rfl) dX0_readFunction_80 ?_
        refine zv_callV (as := [ar (cz u12 + 1), ar p, ai (fI u14 6 p), al (fI u14 12 p)]) (st := [ar (cz u12 + 1)]) G M (zc_eI G rfl q735 q736 q737 md_X4_init (Nat.succ_ne_zero _) rfl dX0_readFunction_83) (S 84 _ rfl _ _ _ h (zoks_cons trivial (zoks_cons trivial (zoks_cons (hu14.i 6 _ (by decide)) (zoks_cons (hu14.l 12 _ (by decide)) zoks_nil))))) (Or.inl ⟨rfl, rfl⟩) (zc_hk q737 q160) (by decide) (Nat.le_of_ble_eq_true rfl) (fun u16 h => ?_) (fun _ _ h => h.elim)
        refine zc_wk G hp (fun hu16 tu16 => ?_)
        refine zv_astore_n G rfl (by decide) rfl dX0_readFunction_86 ?_
        refine zv_aload_n G rfl rfl dX0_readFunction_87 ?_
        refine zc_get (f := 5) (v := ar (fR u16 5 p)) G (hFp tu16 rfl) rfl q2061 (Or.inl rfl) (cV_R rfl) dX0_readFunction_88 ?_
        refine zv_aload_n G rfl rfl dX0_readFunction_91 ?_
        refine zc_get (f := 6) (v := ai (fI u16 6 p)) G (hFp tu16 rfl) rfl q2062 (Or.inl rfl) (cV_I (by decide) (by decide)) dX0_readFunction_92 ?_
        refine zv_aload_n G rfl rfl dX0_readFunction_95 ?_
        have o19 := h.1
        have h := h.2
        have o20 := h.1
        have h := h.2
        refine zc_aast G o19.1 o20 (hu16.i 6 _ (by decide)) o19.2.1 o19.2.2 dX0_readFunction_96 (fun u18 eu18 => ?_)
        have h := h u18 eu18
        refine zc_wk G hp (fun hu18 tu18 => ?_)
        refine zv_aload_n G rfl rfl dX0_readFunction_97 ?_
        refine zv_dup G rfl dX0_readFunction_98 ?_
        refine zc_get (f := 6) (v := ai (fI u18 6 p)) G (hFp tu18 rfl) rfl q2062 (Or.inl rfl) (cV_I (by decide) (by decide)) dX0_readFunction_99 ?_
        refine zv_iconst (a := 1) G (by decide) dX0_readFunction_102 ?_
        refine zv_iadd G dX0_readFunction_103 ?_
        refine zc_putI (f := 6) G M (hPp tu18 rfl) rfl q2062 (Or.inl rfl) (Or.inl rfl) (zfty_6) rfl rfl (by decide) (by decide) (w32_r _) dX0_readFunction_104 (fun u21 eu21 => ?_)
        have h := h u21 eu21
        refine zc_wk G hp (fun hu21 tu21 => ?_)
        refine zv_aload_n G rfl rfl dX0_readFunction_107 ?_
        refine zv_callV (as := [ar p]) (st := []) G M (zc_eV (C := zcn 1) G q213 q215 qs1 (Or.inl ⟨rfl, rfl⟩) q216 md_X0_next (zc_rc G (zne tu21 tu21.1 (by decide)) tu21.1 (by decide) (by decide) rfl) rfl dX0_readFunction_108) (S 4 _ rfl _ _ _ h (zoks_cons trivial zoks_nil)) (Or.inl ⟨rfl, rfl⟩) (zc_hk q216 q143) (by decide) (Nat.le_of_ble_eq_true rfl) (fun u22 h => ?_) (fun x85 u86 h => ?_)
        rotate_left
        · exact zx_leave G M rfl h
        refine zc_wk G hp (fun hu22 tu22 => ?_)
        refine zv_aload_n G rfl rfl dX0_readFunction_111 ?_
        refine zv_aload_n G rfl rfl dX0_readFunction_112 ?_
        refine zv_bipush (a := 40) G (by decide) dX0_readFunction_113 ?_
        refine zv_callI (as := [ar p, ai 40]) (st := [ar p]) G M (zc_eV (C := zcn 1) G q709 q711 qs12 (Or.inl ⟨rfl, rfl⟩) q712 md_X0_isSign (zc_rc G (zne tu22 tu22.1 (by decide)) tu22.1 (by decide) (by decide) rfl) rfl dX0_readFunction_115) (S 16 _ rfl _ _ _ h (zoks_cons trivial (zoks_cons (zr_k 40 (by decide) (by decide)) zoks_nil))) (Or.inl ⟨rfl, rfl⟩) (zc_hk q712 q143) (by decide) (Nat.le_of_ble_eq_true rfl) (fun v25 u24 rv25 h => ?_) (fun _ _ h => h.elim)
        refine zc_wk G hp (fun hu24 tu24 => ?_)
        refine zv_callV (as := [ar p, ai v25]) (st := []) G M (zc_eV (C := zcn 1) G q667 q669 qs10 (Or.inl ⟨rfl, rfl⟩) q670 md_X0_want (zc_rc G (zne tu24 tu24.1 (by decide)) tu24.1 (by decide) (by decide) rfl) rfl dX0_readFunction_118) (S 14 _ rfl _ _ _ h (zoks_cons trivial (zoks_cons rv25 zoks_nil))) (Or.inl ⟨rfl, rfl⟩) (zc_hk q670 q143) (by decide) (Nat.le_of_ble_eq_true rfl) (fun u26 h => ?_) (fun x83 u84 h => ?_)
        rotate_left
        · exact zx_leave G M rfl h
        refine zc_wk G hp (fun hu26 tu26 => ?_)
        exact zv_pick [0, 1] rfl (cpC_X0_readFunction_121 hp G M S hl hk h)
      refine zv_icmp_ge (tgt := 60) G (hu9.i 6 _ (by decide)) (zr_k 12 (by decide) (by decide)) (by decide) dX0_readFunction_53 (fun c90 => ?_) (fun c90 => ?_)
      · refine zv_iconst (a := 0) G (by decide) dX0_readFunction_60 ?_
        exact kj89 _ (if_neg (fun q => q c90)).symm
      · refine zv_iconst (a := 1) G (by decide) dX0_readFunction_56 ?_
        refine zv_goto (tgt := 61) G (by decide) dX0_readFunction_57 ?_
        exact kj89 _ (if_pos c90).symm
    refine zv_ifnonnull (tgt := 37) G (by decide) dX0_readFunction_30 (fun c94 => ?_) (fun c94 => ?_)
    · refine zv_iconst (a := 0) G (by decide) dX0_readFunction_37 ?_
      exact kj93 _ (if_neg c94).symm
    · refine zv_iconst (a := 1) G (by decide) dX0_readFunction_33 ?_
      refine zv_goto (tgt := 38) G (by decide) dX0_readFunction_34 ?_
      exact kj93 _ (if_pos c94).symm
  refine zv_icmp_ne (tgt := 17) G (hu1.i 10 _ (by decide)) (zr_k 1 (by decide) (by decide)) (by decide) dX0_readFunction_10 (fun c98 => ?_) (fun c98 => ?_)
  · refine zv_iconst (a := 0) G (by decide) dX0_readFunction_17 ?_
    exact kj97 _ (if_neg c98).symm
  · refine zv_iconst (a := 1) G (by decide) dX0_readFunction_13 ?_
    refine zv_goto (tgt := 18) G (by decide) dX0_readFunction_14 ?_
    exact kj97 _ (if_pos c98).symm
set_option maxHeartbeats 4000000 in
set_option maxRecDepth 100000 in
theorem cpC_X0_functionOf_37 {Γ : ZG CW} {D : CD} {d p : Nat} (hp : D.K.1 = p) (G : ZOk Γ cX0_functionOf RX0 4 (KnC D) (ZC D)) (M : ZRm Γ (d + 1) D.lim (Option.some (Jvm.ClassFile.FieldType.object "LetterPost$Function")) "functionOf" []) (S : SdC d D p Γ.l) (hl : Γ.l.stackTraces = false) (hk : 0 ≤ d) {w : CW} (h : pC_X0_functionOf_37 p (wpC p d) (fun v w => Γ.Q (.inl (some (ar v))) w) w) : ZV Γ w 37 [] [] := by
  refine zc_wk G hp (fun hw tw => ?_)
  refine zv_null G dX0_functionOf_37 ?_
  exact zv_aret G M (Or.inl ⟨_, rfl⟩) dX0_functionOf_38 h
set_option maxHeartbeats 4000000 in
set_option maxRecDepth 100000 in
theorem cpC_X0_functionOf_24 {Γ : ZG CW} {D : CD} {d p : Nat} (hp : D.K.1 = p) (G : ZOk Γ cX0_functionOf RX0 4 (KnC D) (ZC D)) (M : ZRm Γ (d + 1) D.lim (Option.some (Jvm.ClassFile.FieldType.object "LetterPost$Function")) "functionOf" []) (S : SdC d D p Γ.l) (hl : Γ.l.stackTraces = false) (hk : 0 ≤ d) {x3 : Int} {w : CW} (rx3 : zr x3) (h : pC_X0_functionOf_24 p (wpC p d) (fun v w => Γ.Q (.inl (some (ar v))) w) x3 w) : ZV Γ w 24 [(0, ar p), (3, ai x3)] [] := by
  refine zc_wk G hp (fun hw tw => ?_)
  refine zv_aload_n G rfl rfl dX0_functionOf_24 ?_
  refine zc_get (f := 5) (v := ar (fR w 5 p)) G (hFp tw rfl) rfl q2061 (Or.inl rfl) (cV_R rfl) dX0_functionOf_25 ?_
  refine zv_iload_n G rfl rfl dX0_functionOf_28 ?_
  have o6 := h.1
  have h := h.2
  refine zc_aald G o6.1 rx3 o6.2.1 o6.2.2 dX0_functionOf_29 ?_
  exact zv_aret G M (Or.inl ⟨_, rfl⟩) dX0_functionOf_30 h
set_option maxHeartbeats 4000000 in
set_option maxRecDepth 100000 in
theorem cpC_X0_functionOf_2 {Γ : ZG CW} {D : CD} {d p : Nat} (hp : D.K.1 = p) (G : ZOk Γ cX0_functionOf RX0 4 (KnC D) (ZC D)) (M : ZRm Γ (d + 1) D.lim (Option.some (Jvm.ClassFile.FieldType.object "LetterPost$Function")) "functionOf" []) (S : SdC d D p Γ.l) (hl : Γ.l.stackTraces = false) (hk : 0 ≤ d) {x1 : Int} {x3 : Int} {w : CW} (rx1 : zrl x1) (rx3 : zr x3) (h : pC_X0_functionOf_2 p (wpC p d) (fun v w => Γ.Q (.inl (some (ar v))) w) x1 x3 w) : ZV Γ w 2 [(0, ar p), (1, al x1), (3, ai x3)] [] := by
  obtain ⟨I2, eI2⟩ : ∃ I : Int → CW → Prop, I = (fun x3 w => zr x3 → ZV Γ w 2 [(0, ar p), (1, al x1), (3, ai x3)] []) := ⟨_, rfl⟩
  have hI2 : ∀ (x3 : Int) (w : CW), I2 x3 w → zr x3 → ZV Γ w 2 [(0, ar p), (1, al x1), (3, ai x3)] [] := by subst eI2; exact fun _ _ z => z
  have hJ2 : ∀ (x3 : Int) (w : CW), (zr x3 → ZV Γ w 2 [(0, ar p), (1, al x1), (3, ai x3)] []) → I2 x3 w := by subst eI2; exact fun _ _ z => z
  refine hI2 x3 w (h I2 (fun x3 w h => hJ2 x3 w (fun rx3 => ?_))) rx3
  refine zc_wk G hp (fun hw tw => ?_)
  refine zv_iload_n G rfl rfl dX0_functionOf_2 ?_
  refine zv_aload_n G rfl rfl dX0_functionOf_3 ?_
  refine zc_get (f := 6) (v := ai (fI w 6 p)) G (hFp tw rfl) rfl q2062 (Or.inl rfl) (cV_I (by decide) (by decide)) dX0_functionOf_4 ?_
  refine zv_icmp_ge (tgt := 37) G rx3 (hw.i 6 _ (by decide)) (by decide) dX0_functionOf_7 (fun c1 => ?_) (fun c1 => ?_)
  · have h := h.1 c1
    exact zv_pick [] rfl (cpC_X0_functionOf_37 hp G M S hl hk h)
  · have h := h.2 c1
    refine zv_aload_n G rfl rfl dX0_functionOf_10 ?_
    refine zc_get (f := 5) (v := ar (fR w 5 p)) G (hFp tw rfl) rfl q2061 (Or.inl rfl) (cV_R rfl) dX0_functionOf_11 ?_
    refine zv_iload_n G rfl rfl dX0_functionOf_14 ?_
    have o2 := h.1
    have h := h.2
    refine zc_aald G o2.1 rx3 o2.2.1 o2.2.2 dX0_functionOf_15 ?_
    have o3 := h.1
    have h := h.2
    refine zc_get (f := 44) (v := al (fI w 44 (aR w (fR w 5 p) x3))) G o3 rfl q746 (Or.inl rfl) (cV_L rfl) dX0_functionOf_16 ?_
    refine zv_lload_n G rfl rfl dX0_functionOf_19 ?_
    refine zv_lcmp G (hw.l 44 _ (by decide)) rx1 dX0_functionOf_20 ?_
    refine zv_lif_ne (tgt := 31) G (by decide) dX0_functionOf_21 (fun c4 => ?_) (fun c4 => ?_)
    · have h := h.2 c4
      refine zv_iincN G rfl (by decide) dX0_functionOf_31 (fun x3_5 ex3_5 => ?_)
      have h := h x3_5 ex3_5
      have rx3_5 : zr x3_5 := by rw [ex3_5]; exact w32_r _
      refine zv_goto (tgt := 2) G (by decide) dX0_functionOf_34 ?_
      exact zv_pick [0, 1, 3] rfl (hI2 _ _ h rx3_5)
    · have h := h.1 c4
      exact zv_pick [0, 3] rfl (cpC_X0_functionOf_24 hp G M S hl hk rx3 h)
set_option maxHeartbeats 4000000 in
set_option maxRecDepth 100000 in
theorem cpC_X0_functionOf_0 {Γ : ZG CW} {D : CD} {d p : Nat} (hp : D.K.1 = p) (G : ZOk Γ cX0_functionOf RX0 4 (KnC D) (ZC D)) (M : ZRm Γ (d + 1) D.lim (Option.some (Jvm.ClassFile.FieldType.object "LetterPost$Function")) "functionOf" []) (S : SdC d D p Γ.l) (hl : Γ.l.stackTraces = false) (hk : 0 ≤ d) {x1 : Int} {w : CW} (rx1 : zrl x1) (h : pC_X0_functionOf_0 p (wpC p d) (fun v w => Γ.Q (.inl (some (ar v))) w) x1 w) : ZV Γ w 0 [(0, ar p), (1, al x1)] [] := by
  refine zc_wk G hp (fun hw tw => ?_)
  refine zv_iconst (a := 0) G (by decide) dX0_functionOf_0 ?_
  refine zv_istore_n G rfl (by decide) rfl dX0_functionOf_1 ?_
  exact zv_pick [0, 1, 3] rfl (cpC_X0_functionOf_2 hp G M S hl hk rx1 (zr_k 0 (by decide) (by decide)) h)
set_option maxHeartbeats 4000000 in
set_option maxRecDepth 100000 in
theorem cpC_X0_rule_159 {Γ : ZG CW} {D : CD} {d p : Nat} (hp : D.K.1 = p) (G : ZOk Γ cX0_rule RX0 4 (KnC D) (ZC D)) (M : ZRm Γ (d + 1) D.lim (Option.none : Option Jvm.ClassFile.FieldType) "rule" []) (S : SdC d D p Γ.l) (hl : Γ.l.stackTraces = false) (hk : 0 ≤ d) {x1 : Nat} {x2 : Nat} {s0 : Nat} {s1 : Nat} {w : CW} (h : pC_X0_rule_159 p (wpC p d) (fun w => Γ.Q (.inl none) w) (fun x w => Γ.Q (.inr x) w) x1 x2 s0 s1 w) : ZV Γ w 159 [(0, ar p), (1, ar x1), (2, ar x2)] [ar s0, ar s1] := by
  refine zc_wk G hp (fun hw tw => ?_)
  have o28 := h.1
  have h := h.2
  refine zc_putR (f := 59) G M o28 rfl q812 (Or.inl rfl) (Or.inl rfl) (zfty_59) (Or.inl ⟨_, rfl⟩) rfl dX0_rule_159 (fun u27 eu27 => ?_)
  have h := h u27 eu27
  refine zc_wk G hp (fun hu27 tu27 => ?_)
  refine zv_aload_n G rfl rfl dX0_rule_162 ?_
  refine zv_bipush (a := 58) G (by decide) dX0_rule_163 ?_
  refine zv_callV (as := [ar p, ai 58]) (st := []) G M (zc_eV (C := zcn 1) G q720 q722 qs14 (Or.inl ⟨rfl, rfl⟩) q723 md_X0_skip (zc_rc G (zne tu27 tu27.1 (by decide)) tu27.1 (by decide) (by decide) rfl) rfl dX0_rule_165) (S 18 _ rfl _ _ _ h (zoks_cons trivial (zoks_cons (zr_k 58 (by decide) (by decide)) zoks_nil))) (Or.inl ⟨rfl, rfl⟩) (zc_hk q723 q143) (by decide) (Nat.le_of_ble_eq_true rfl) (fun u29 h => ?_) (fun x50 u51 h => ?_)
  rotate_left
  · exact zx_leave G M rfl h
  refine zc_wk G hp (fun hu29 tu29 => ?_)
  refine zv_aload_n G rfl rfl dX0_rule_168 ?_
  refine zv_aload_n G rfl rfl dX0_rule_169 ?_
  refine zv_callV (as := [ar p, ar x2]) (st := []) G M (zc_eV (C := zcn 1) G q1045 q1047 qs34 (Or.inl ⟨rfl, rfl⟩) q1048 md_X0_answer (zc_rc G (zne tu29 tu29.1 (by decide)) tu29.1 (by decide) (by decide) rfl) rfl dX0_rule_170) (S 39 _ rfl _ _ _ h (zoks_cons trivial (zoks_cons trivial zoks_nil))) (Or.inl ⟨rfl, rfl⟩) (zc_hk q1048 q143) (by decide) (Nat.le_of_ble_eq_true rfl) (fun u31 h => ?_) (fun x48 u49 h => ?_)
  rotate_left
  · exact zx_leave G M rfl h
  refine zc_wk G hp (fun hu31 tu31 => ?_)
  refine zv_aload_n G rfl rfl dX0_rule_173 ?_
  refine zv_bipush (a := 59) G (by decide) dX0_rule_174 ?_
  refine zv_callV (as := [ar p, ai 59]) (st := []) G M (zc_eV (C := zcn 1) G q720 q722 qs14 (Or.inl ⟨rfl, rfl⟩) q723 md_X0_skip (zc_rc G (zne tu31 tu31.1 (by decide)) tu31.1 (by decide) (by decide) rfl) rfl dX0_rule_176) (S 18 _ rfl _ _ _ h (zoks_cons trivial (zoks_cons (zr_k 59 (by decide) (by decide)) zoks_nil))) (Or.inl ⟨rfl, rfl⟩) (zc_hk q723 q143) (by decide) (Nat.le_of_ble_eq_true rfl) (fun u33 h => ?_) (fun x46 u47 h => ?_)
  rotate_left
  · exact zx_leave G M rfl h
  refine zc_wk G hp (fun hu33 tu33 => ?_)
  refine zv_aload_n G rfl rfl dX0_rule_179 ?_
  refine zc_get (f := 16) (v := ar (fR u33 16 p)) G (hFp tu33 rfl) rfl q2072 (Or.inl rfl) (cV_R rfl) dX0_rule_180 ?_
  refine zv_iconst (a := 0) G (by decide) dX0_rule_183 ?_
  refine zv_aload_n G rfl rfl dX0_rule_184 ?_
  have o35 := h.1
  have h := h.2
  refine zc_get (f := 67) (v := ar (fR u33 67 x2)) G o35 rfl q822 (Or.inl rfl) (cV_R rfl) dX0_rule_185 ?_
  refine zv_iconst (a := 0) G (by decide) dX0_rule_188 ?_
  refine zv_bipush (a := 8) G (by decide) dX0_rule_189 ?_
  have o37 := h.1
  have h := h.2
  refine zc_copy G M q949 q389 q388 q155 o37.1 o37.2 (Nat.le_of_ble_eq_true rfl) dX0_rule_191 (fun u36 eu36 => ?_)
  have h := h u36 eu36
  refine zc_wk G hp (fun hu36 tu36 => ?_)
  refine zv_aload_n G rfl rfl dX0_rule_194 ?_
  have o38 := h.1
  have h := h.2
  refine zc_get (f := 47) (v := ar (fR u36 47 x1)) G o38 rfl q752 (Or.inl rfl) (cV_R rfl) dX0_rule_195 ?_
  refine zv_aload_n G rfl rfl dX0_rule_198 ?_
  have o39 := h.1
  have h := h.2
  refine zc_get (f := 48) (v := ai (fI u36 48 x1)) G o39 rfl q754 (Or.inl rfl) (cV_I (by decide) (by decide)) dX0_rule_199 ?_
  refine zv_aload_n G rfl rfl dX0_rule_202 ?_
  have o41 := h.1
  have h := h.2
  have o42 := h.1
  have h := h.2
  refine zc_aast G o41.1 o42 (hu36.i 48 _ (by decide)) o41.2.1 o41.2.2 dX0_rule_203 (fun u40 eu40 => ?_)
  have h := h u40 eu40
  refine zc_wk G hp (fun hu40 tu40 => ?_)
  refine zv_aload_n G rfl rfl dX0_rule_204 ?_
  refine zv_dup G rfl dX0_rule_205 ?_
  have o43 := h.1
  have h := h.2
  refine zc_get (f := 48) (v := ai (fI u40 48 x1)) G o43 rfl q754 (Or.inl rfl) (cV_I (by decide) (by decide)) dX0_rule_206 ?_
  refine zv_iconst (a := 1) G (by decide) dX0_rule_209 ?_
  refine zv_iadd G dX0_rule_210 ?_
  have o45 := h.1
  have h := h.2
  refine zc_putI (f := 48) G M o45 rfl q754 (Or.inl rfl) (Or.inl rfl) (zfty_48) rfl rfl (by decide) (by decide) (w32_r _) dX0_rule_211 (fun u44 eu44 => ?_)
  have h := h u44 eu44
  refine zc_wk G hp (fun hu44 tu44 => ?_)
  exact zv_vret G M dX0_rule_214 h
set_option maxHeartbeats 4000000 in
set_option maxRecDepth 100000 in
theorem cpC_X0_rule_116 {Γ : ZG CW} {D : CD} {d p : Nat} (hp : D.K.1 = p) (G : ZOk Γ cX0_rule RX0 4 (KnC D) (ZC D)) (M : ZRm Γ (d + 1) D.lim (Option.none : Option Jvm.ClassFile.FieldType) "rule" []) (S : SdC d D p Γ.l) (hl : Γ.l.stackTraces = false) (hk : 0 ≤ d) {x1 : Nat} {x2 : Nat} {w : CW} (h : pC_X0_rule_116 p (wpC p d) (fun w => Γ.Q (.inl none) w) (fun x w => Γ.Q (.inr x) w) x1 x2 w) : ZV Γ w 116 [(0, ar p), (1, ar x1), (2, ar x2)] [] := by
  refine zc_wk G hp (fun hw tw => ?_)
  refine zv_aload_n G rfl rfl dX0_rule_116 ?_
  refine zv_aload_n G rfl rfl dX0_rule_117 ?_
  refine zv_bipush (a := 44) G (by decide) dX0_rule_118 ?_
  refine zv_callI (as := [ar p, ai 44]) (st := [ar p]) G M (zc_eV (C := zcn 1) G q709 q711 qs12 (Or.inl ⟨rfl, rfl⟩) q712 md_X0_isSign (zc_rc G (zne tw tw.1 (by decide)) tw.1 (by decide) (by decide) rfl) rfl dX0_rule_120) (S 16 _ rfl _ _ _ h (zoks_cons trivial (zoks_cons (zr_k 44 (by decide) (by decide)) zoks_nil))) (Or.inl ⟨rfl, rfl⟩) (zc_hk q712 q143) (by decide) (Nat.le_of_ble_eq_true rfl) (fun v20 u19 rv20 h => ?_) (fun _ _ h => h.elim)
  refine zc_wk G hp (fun hu19 tu19 => ?_)
  have kj58 : ∀ v21 : Int, v21 = (if v20 = 0 then 1 else 0) → ZV Γ u19 131 [(0, ar p), (1, ar x1), (2, ar x2)] (ai v21 :: ar p :: []) := by
    intro v21 ev21
    have h := h v21 ev21
    have rv21 : zr v21 := by rw [ev21]; exact (zr_ite (zr_k 1 (by decide) (by decide)) (zr_k 0 (by decide) (by decide)))
    have bv21 : v21 = 0 ∨ v21 = 1 := by rw [ev21]; exact (zb_ite (Or.inr rfl) (Or.inl rfl))
    refine zv_bipush (a := 6) G (by decide) dX0_rule_131 ?_
    refine zv_aload_n G rfl rfl dX0_rule_133 ?_
    refine zc_get (f := 11) (v := ai (fI u19 11 p)) G (hFp tu19 rfl) rfl q2067 (Or.inl rfl) (cV_I (by decide) (by decide)) dX0_rule_134 ?_
    refine zv_callV (as := [ar p, ai v21, ai 6, ai (fI u19 11 p)]) (st := []) G M (zc_eV (C := zcn 1) G q235 q237 qs5 (Or.inl ⟨rfl, rfl⟩) q238 md_X0_need (zc_rc G (zne tu19 tu19.1 (by decide)) tu19.1 (by decide) (by decide) rfl) rfl dX0_rule_137) (S 10 _ rfl _ _ _ h (zoks_cons trivial (zoks_cons rv21 (zoks_cons (zr_k 6 (by decide) (by decide)) (zoks_cons (hu19.i 11 _ (by decide)) zoks_nil))))) (Or.inl ⟨rfl, rfl⟩) (zc_hk q238 q143) (by decide) (Nat.le_of_ble_eq_true rfl) (fun u22 h => ?_) (fun x56 u57 h => ?_)
    rotate_left
    · exact zx_leave G M rfl h
    refine zc_wk G hp (fun hu22 tu22 => ?_)
    refine zv_aload_n G rfl rfl dX0_rule_140 ?_
    refine zv_aload_n G rfl rfl dX0_rule_141 ?_
    refine zc_ldcsw (k := 13) G rfl dX0_rule_142 ?_
    refine zv_callI (as := [ar p, ar (sr u22 13)]) (st := [ar x2]) G M (zc_eV (C := zcn 1) G q647 q649 qs8 (Or.inl ⟨rfl, rfl⟩) q650 md_X0_isWord (zc_rc G (zne tu22 tu22.1 (by decide)) tu22.1 (by decide) (by decide) rfl) rfl dX0_rule_145) (S 12 _ rfl _ _ _ h (zoks_cons trivial (zoks_cons trivial zoks_nil))) (Or.inl ⟨rfl, rfl⟩) (zc_hk q650 q143) (by decide) (Nat.le_of_ble_eq_true rfl) (fun v25 u24 rv25 h => ?_) (fun _ _ h => h.elim)
    refine zc_wk G hp (fun hu24 tu24 => ?_)
    refine zv_if_eq (tgt := 158) G rv25 (by decide) dX0_rule_148 (fun c26 => ?_) (fun c26 => ?_)
    · have h := h.1 c26
      refine zv_null G dX0_rule_158 ?_
      exact zv_pick [0, 1, 2] rfl (cpC_X0_rule_159 hp G M S hl hk h)
    · have h := h.2 c26
      refine zv_aload_n G rfl rfl dX0_rule_151 ?_
      refine zv_callR (as := [ar p]) (st := [ar x2]) G M (zc_eV (C := zcn 1) G q1001 q1003 qs29 (Or.inl ⟨rfl, rfl⟩) q1004 md_X0_guard (zc_rc G (zne tu24 tu24.1 (by decide)) tu24.1 (by decide) (by decide) rfl) rfl dX0_rule_152) (S 34 _ rfl _ _ _ h (zoks_cons trivial zoks_nil)) (Or.inl ⟨rfl, rfl⟩) (zc_hk q1004 q143) (by decide) (Nat.le_of_ble_eq_true rfl) (fun v53 u52 h => ?_) (fun x54 u55 h => ?_)
      rotate_left
      · exact zx_leave G M rfl h
      refine zc_wk G hp (fun hu52 tu52 => ?_)
      refine zv_goto (tgt := 159) G (by decide) dX0_rule_155 ?_
      exact zv_pick [0, 1, 2] rfl (cpC_X0_rule_159 hp G M S hl hk h)
  refine zv_if_ne (tgt := 130) G rv20 (by decide) dX0_rule_123 (fun c59 => ?_) (fun c59 => ?_)
  · refine zv_iconst (a := 0) G (by decide) dX0_rule_130 ?_
    exact kj58 _ (if_neg c59).symm
  · refine zv_iconst (a := 1) G (by decide) dX0_rule_126 ?_
    refine zv_goto (tgt := 131) G (by decide) dX0_rule_127 ?_
    exact kj58 _ (if_pos c59).symm
set_option maxHeartbeats 4000000 in
set_option maxRecDepth 100000 in
theorem cpC_X0_rule_94 {Γ : ZG CW} {D : CD} {d p : Nat} (hp : D.K.1 = p) (G : ZOk Γ cX0_rule RX0 4 (KnC D) (ZC D)) (M : ZRm Γ (d + 1) D.lim (Option.none : Option Jvm.ClassFile.FieldType) "rule" []) (S : SdC d D p Γ.l) (hl : Γ.l.stackTraces = false) (hk : 0 ≤ d) {I62 : Int → CW → Prop} {x1 : Nat} {x2 : Nat} {x3 : Int} {w : CW} (hI62 : ∀ (x3 : Int) (w : CW), I62 x3 w → zr x3 → ZV Γ w 62 [(0, ar p), (1, ar x1), (2, ar x2), (3, ai x3)] []) (rx3 : zr x3) (h : pC_X0_rule_94 p (wpC p d) (fun w => Γ.Q (.inl none) w) (fun x w => Γ.Q (.inr x) w) I62 x1 x2 x3 w) : ZV Γ w 94 [(0, ar p), (1, ar x1), (2, ar x2), (3, ai x3)] [] := by
  refine zc_wk G hp (fun hw tw => ?_)
  refine zv_aload_n G rfl rfl dX0_rule_94 ?_
  have o61 := h.1
  have h := h.2
  refine zc_get (f := 58) (v := ar (fR w 58 x2)) G o61 rfl q809 (Or.inl rfl) (cV_R rfl) dX0_rule_95 ?_
  refine zv_iload_n G rfl rfl dX0_rule_98 ?_
  refine zv_aload_n G rfl rfl dX0_rule_99 ?_
  refine zv_aload_n G rfl rfl dX0_rule_100 ?_
  have o62 := h.1
  have h := h.2
  refine zc_get (f := 45) (v := ar (fR w 45 x1)) G o62 rfl q748 (Or.inl rfl) (cV_R rfl) dX0_rule_101 ?_
  refine zv_iload_n G rfl rfl dX0_rule_104 ?_
  have o63 := h.1
  have h := h.2
  refine zc_ialdN G o63.1 rx3 o63.2.1 o63.2.2 dX0_rule_105 ?_
  refine zv_callR (as := [ar p, ai (aN w (fR w 45 x1) x3)]) (st := [ai x3, ar (fR w 58 x2)]) G M (zc_eV (C := zcn 1) G q850 q852 qs18 (Or.inl ⟨rfl, rfl⟩) q853 md_X0_pattern (zc_rc G (zne tw tw.1 (by decide)) tw.1 (by decide) (by decide) rfl) rfl dX0_rule_106) (S 22 _ rfl _ _ _ h (zoks_cons trivial (zoks_cons (aN_r hw _ _) zoks_nil))) (Or.inl ⟨rfl, rfl⟩) (zc_hk q853 q143) (by decide) (Nat.le_of_ble_eq_true rfl) (fun v65 u64 h => ?_) (fun x70 u71 h => ?_)
  rotate_left
  · exact zx_leave G M rfl h
  refine zc_wk G hp (fun hu64 tu64 => ?_)
  have o67 := h.1
  have h := h.2
  have o68 := h.1
  have h := h.2
  refine zc_aast G o67.1 o68 rx3 o67.2.1 o67.2.2 dX0_rule_109 (fun u66 eu66 => ?_)
  have h := h u66 eu66
  refine zc_wk G hp (fun hu66 tu66 => ?_)
  refine zv_iincN G rfl (by decide) dX0_rule_110 (fun x3_69 ex3_69 => ?_)
  have h := h x3_69 ex3_69
  have rx3_69 : zr x3_69 := by rw [ex3_69]; exact w32_r _
  refine zv_goto (tgt := 62) G (by decide) dX0_rule_113 ?_
  exact zv_pick [0, 1, 2, 3] rfl (hI62 _ _ h rx3_69)
set_option maxHeartbeats 4000000 in
set_option maxRecDepth 100000 in
theorem cpC_X0_rule_62 {Γ : ZG CW} {D : CD} {d p : Nat} (hp : D.K.1 = p) (G : ZOk Γ cX0_rule RX0 4 (KnC D) (ZC D)) (M : ZRm Γ (d + 1) D.lim (Option.none : Option Jvm.ClassFile.FieldType) "rule" []) (S : SdC d D p Γ.l) (hl : Γ.l.stackTraces = false) (hk : 0 ≤ d) {x1 : Nat} {x2 : Nat} {x3 : Int} {w : CW} (rx3 : zr x3) (h : pC_X0_rule_62 p (wpC p d) (fun w => Γ.Q (.inl none) w) (fun x w => Γ.Q (.inr x) w) x1 x2 x3 w) : ZV Γ w 62 [(0, ar p), (1, ar x1), (2, ar x2), (3, ai x3)] [] := by
  obtain ⟨I62, eI62⟩ : ∃ I : Int → CW → Prop, I = (fun x3 w => zr x3 → ZV Γ w 62 [(0, ar p), (1, ar x1), (2, ar x2), (3, ai x3)] []) := ⟨_, rfl⟩
  have hI62 : ∀ (x3 : Int) (w : CW), I62 x3 w → zr x3 → ZV Γ w 62 [(0, ar p), (1, ar x1), (2, ar x2), (3, ai x3)] [] := by subst eI62; exact fun _ _ z => z
  have hJ62 : ∀ (x3 : Int) (w : CW), (zr x3 → ZV Γ w 62 [(0, ar p), (1, ar x1), (2, ar x2), (3, ai x3)] []) → I62 x3 w := by subst eI62; exact fun _ _ z => z
  refine hI62 x3 w (h I62 (fun x3 w h => hJ62 x3 w (fun rx3 => ?_))) rx3
  refine zc_wk G hp (fun hw tw => ?_)
  refine zv_iload_n G rfl rfl dX0_rule_62 ?_
  refine zv_aload_n G rfl rfl dX0_rule_63 ?_
  have o17 := h.1
  have h := h.2
  refine zc_get (f := 46) (v := ai (fI w 46 x1)) G o17 rfl q750 (Or.inl rfl) (cV_I (by decide) (by decide)) dX0_rule_64 ?_
  refine zv_icmp_ge (tgt := 116) G rx3 (hw.i 46 _ (by decide)) (by decide) dX0_rule_67 (fun c18 => ?_) (fun c18 => ?_)
  · have h := h.1 c18
    exact zv_pick [0, 1, 2] rfl (cpC_X0_rule_116 hp G M S hl hk h)
  · have h := h.2 c18
    refine zv_iload_n G rfl rfl dX0_rule_70 ?_
    refine zv_if_le (tgt := 94) G rx3 (by decide) dX0_rule_71 (fun c60 => ?_) (fun c60 => ?_)
    · have h := h.1 c60
      exact zv_pick [0, 1, 2, 3] rfl (cpC_X0_rule_94 hp G M S hl hk hI62 rx3 h)
    · have h := h.2 c60
      refine zv_aload_n G rfl rfl dX0_rule_74 ?_
      refine zv_aload_n G rfl rfl dX0_rule_75 ?_
      refine zv_bipush (a := 44) G (by decide) dX0_rule_76 ?_
      refine zv_callI (as := [ar p, ai 44]) (st := [ar p]) G M (zc_eV (C := zcn 1) G q709 q711 qs12 (Or.inl ⟨rfl, rfl⟩) q712 md_X0_isSign (zc_rc G (zne tw tw.1 (by decide)) tw.1 (by decide) (by decide) rfl) rfl dX0_rule_78) (S 16 _ rfl _ _ _ h (zoks_cons trivial (zoks_cons (zr_k 44 (by decide) (by decide)) zoks_nil))) (Or.inl ⟨rfl, rfl⟩) (zc_hk q712 q143) (by decide) (Nat.le_of_ble_eq_true rfl) (fun v73 u72 rv73 h => ?_) (fun _ _ h => h.elim)
      refine zc_wk G hp (fun hu72 tu72 => ?_)
      refine zv_bipush (a := 6) G (by decide) dX0_rule_81 ?_
      refine zv_aload_n G rfl rfl dX0_rule_83 ?_
      refine zc_get (f := 11) (v := ai (fI u72 11 p)) G (hFp tu72 rfl) rfl q2067 (Or.inl rfl) (cV_I (by decide) (by decide)) dX0_rule_84 ?_
      refine zv_callV (as := [ar p, ai v73, ai 6, ai (fI u72 11 p)]) (st := []) G M (zc_eV (C := zcn 1) G q235 q237 qs5 (Or.inl ⟨rfl, rfl⟩) q238 md_X0_need (zc_rc G (zne tu72 tu72.1 (by decide)) tu72.1 (by decide) (by decide) rfl) rfl dX0_rule_87) (S 10 _ rfl _ _ _ h (zoks_cons trivial (zoks_cons rv73 (zoks_cons (zr_k 6 (by decide) (by decide)) (zoks_cons (hu72.i 11 _ (by decide)) zoks_nil))))) (Or.inl ⟨rfl, rfl⟩) (zc_hk q238 q143) (by decide) (Nat.le_of_ble_eq_true rfl) (fun u74 h => ?_) (fun x80 u81 h => ?_)
      rotate_left
      · exact zx_leave G M rfl h
      refine zc_wk G hp (fun hu74 tu74 => ?_)
      refine zv_aload_n G rfl rfl dX0_rule_90 ?_
      refine zv_callV (as := [ar p]) (st := []) G M (zc_eV (C := zcn 1) G q213 q215 qs1 (Or.inl ⟨rfl, rfl⟩) q216 md_X0_next (zc_rc G (zne tu74 tu74.1 (by decide)) tu74.1 (by decide) (by decide) rfl) rfl dX0_rule_91) (S 4 _ rfl _ _ _ h (zoks_cons trivial zoks_nil)) (Or.inl ⟨rfl, rfl⟩) (zc_hk q216 q143) (by decide) (Nat.le_of_ble_eq_true rfl) (fun u76 h => ?_) (fun x78 u79 h => ?_)
      rotate_left
      · exact zx_leave G M rfl h
      refine zc_wk G hp (fun hu76 tu76 => ?_)
      exact zv_pick [0, 1, 2, 3] rfl (cpC_X0_rule_94 hp G M S hl hk hI62 rx3 h)
set_option maxHeartbeats 4000000 in
set_option maxRecDepth 100000 in
theorem cpC_X0_rule_0 {Γ : ZG CW} {D : CD} {d p : Nat} (hp : D.K.1 = p) (G : ZOk Γ cX0_rule RX0 4 (KnC D) (ZC D)) (M : ZRm Γ (d + 1) D.lim (Option.none : Option Jvm.ClassFile.FieldType) "rule" []) (S : SdC d D p Γ.l) (hl : Γ.l.stackTraces = false) (hk : 0 ≤ d) {x1 : Nat} {w : CW} (h : pC_X0_rule_0 p (wpC p d) (fun w => Γ.Q (.inl none) w) (fun x w => Γ.Q (.inr x) w) x1 w) : ZV Γ w 0 [(0, ar p), (1, ar x1)] [] := by
  refine zc_wk G hp (fun hw tw => ?_)
  refine zv_aload_n G rfl rfl dX0_rule_0 ?_
  refine zv_iconst (a := 0) G (by decide) dX0_rule_1 ?_
  refine zc_putI (f := 17) G M (hPp tw rfl) rfl q2073 (Or.inl rfl) (Or.inl rfl) (zfty_17) rfl rfl (by decide) (by decide) (zr_k 0 (by decide) (by decide)) dX0_rule_2 (fun u1 eu1 => ?_)
  have h := h u1 eu1
  refine zc_wk G hp (fun hu1 tu1 => ?_)
  refine zv_aload_n G rfl rfl dX0_rule_5 ?_
  refine zv_iconst (a := 0) G (by decide) dX0_rule_6 ?_
  refine zc_putI (f := 18) G M (hPp tu1 rfl) rfl q2074 (Or.inl rfl) (Or.inl rfl) (zfty_18) rfl rfl (by decide) (by decide) (zr_k 0 (by decide) (by decide)) dX0_rule_7 (fun u2 eu2 => ?_)
  have h := h u2 eu2
  refine zc_wk G hp (fun hu2 tu2 => ?_)
  refine zv_aload_n G rfl rfl dX0_rule_10 ?_
  refine zv_iconst (a := 0) G (by decide) dX0_rule_11 ?_
  refine zc_putI (f := 19) G M (hPp tu2 rfl) rfl q2075 (Or.inl rfl) (Or.inl rfl) (zfty_19) rfl rfl (by decide) (by decide) (zr_k 0 (by decide) (by decide)) dX0_rule_12 (fun u3 eu3 => ?_)
  have h := h u3 eu3
  refine zc_wk G hp (fun hu3 tu3 => ?_)
  have o5 := h.1
  have h := h.2
  refine zc_new (ci := 4) (t := 5) (n := 12) G M rfl rfl (by decide) rfl q798 q799 q161 o5 dX0_rule_15 (fun u4 eu4 => ?_)
  have h := h u4 eu4
  refine zc_wk G hp (fun hu4 tu4 => ?_)
  refine zv_dup G rfl dX0_rule_18 ?_
  refine zv_aload_n G rfl rfl dX0_rule_19 ?_
  have o6 := h.1
  have h := h.2
  refine zc_get (f := 48) (v := ai (fI u4 48 x1)) G o6 rfl q754 (Or.inl rfl) (cV_I (by decide) (by decide)) dX0_rule_20 ?_
  refine zv_aload_n G rfl rfl dX0_rule_23 ?_
  refine zc_get (f := 11) (v := ai (fI u4 11 p)) G (hFp tu4 rfl) rfl q2067 (Or.inl rfl) (cV_I (by decide) (by decide)) dX0_rule_24 ?_
  refine zv_callV (as := [ar (cz u3 + 1), ai (fI u4 48 x1), ai (fI u4 11 p)]) (st := [ar (cz u3 + 1)]) G M (zc_eI G rfl q800 q801 q802 md_X5_init (Nat.succ_ne_zero _) rfl dX0_rule_27) (S 90 _ rfl _ _ _ h (zoks_cons trivial (zoks_cons (hu4.i 48 _ (by decide)) (zoks_cons (hu4.i 11 _ (by decide)) zoks_nil)))) (Or.inl ⟨rfl, rfl⟩) (zc_hk q802 q161) (by decide) (Nat.le_of_ble_eq_true rfl) (fun u7 h => ?_) (fun _ _ h => h.elim)
  refine zc_wk G hp (fun hu7 tu7 => ?_)
  refine zv_astore_n G rfl (by decide) rfl dX0_rule_30 ?_
  refine zv_aload_n G rfl rfl dX0_rule_31 ?_
  refine zv_aload_n G rfl rfl dX0_rule_32 ?_
  have o9 := h.1
  have h := h.2
  refine zc_get (f := 46) (v := ai (fI u7 46 x1)) G o9 rfl q750 (Or.inl rfl) (cV_I (by decide) (by decide)) dX0_rule_33 ?_
  have o11 := h.1
  have h := h.2
  refine zc_anew (t := 114) G M (by decide) q848 o11.1 o11.2 dX0_rule_36 (fun u10 eu10 => ?_)
  have h := h u10 eu10
  refine zc_wk G hp (fun hu10 tu10 => ?_)
  have o13 := h.1
  have h := h.2
  refine zc_putR (f := 58) G M o13 rfl q809 (Or.inl rfl) (Or.inl rfl) (zfty_58) (Or.inr ⟨_, rfl⟩) rfl dX0_rule_39 (fun u12 eu12 => ?_)
  have h := h u12 eu12
  refine zc_wk G hp (fun hu12 tu12 => ?_)
  refine zv_aload_n G rfl rfl dX0_rule_42 ?_
  refine zv_aload_n G rfl rfl dX0_rule_43 ?_
  have o14 := h.1
  have h := h.2
  refine zc_get (f := 48) (v := ai (fI u12 48 x1)) G o14 rfl q754 (Or.inl rfl) (cV_I (by decide) (by decide)) dX0_rule_44 ?_
  refine zv_bipush (a := 16) G (by decide) dX0_rule_47 ?_
  have kj82 : ∀ v15 : Int, v15 = (if (fI u12 48 x1) = 16 then 1 else 0) → ZV Γ u12 57 [(2, ar (cz u3 + 1)), (0, ar p), (1, ar x1)] (ai v15 :: ar p :: []) := by
    intro v15 ev15
    have h := h v15 ev15
    have rv15 : zr v15 := by rw [ev15]; exact (zr_ite (zr_k 1 (by decide) (by decide)) (zr_k 0 (by decide) (by decide)))
    have bv15 : v15 = 0 ∨ v15 = 1 := by rw [ev15]; exact (zb_ite (Or.inr rfl) (Or.inl rfl))
    refine zc_putI (f := 20) G M (hPp tu12 rfl) rfl q2076 (Or.inl rfl) (Or.inl rfl) (zfty_20) (zn_Z bv15) (zf_Z bv15) (by decide) (by decide) rv15 dX0_rule_57 (fun u16 eu16 => ?_)
    have h := h u16 eu16
    refine zc_wk G hp (fun hu16 tu16 => ?_)
    refine zv_iconst (a := 0) G (by decide) dX0_rule_60 ?_
    refine zv_istore_n G rfl (by decide) rfl dX0_rule_61 ?_
    exact zv_pick [0, 1, 2, 3] rfl (cpC_X0_rule_62 hp G M S hl hk (zr_k 0 (by decide) (by decide)) h)
  refine zv_icmp_ne (tgt := 56) G (hu12.i 48 _ (by decide)) (zr_k 16 (by decide) (by decide)) (by decide) dX0_rule_49 (fun c83 => ?_) (fun c83 => ?_)
  · refine zv_iconst (a := 0) G (by decide) dX0_rule_56 ?_
    exact kj82 _ (if_neg c83).symm
  · refine zv_iconst (a := 1) G (by decide) dX0_rule_52 ?_
    refine zv_goto (tgt := 57) G (by decide) dX0_rule_53 ?_
    exact kj82 _ (if_pos c83).symm
set_option maxHeartbeats 4000000 in
set_option maxRecDepth 100000 in
theorem cpC_X0_pattern_118 {Γ : ZG CW} {D : CD} {d p : Nat} (hp : D.K.1 = p) (G : ZOk Γ cX0_pattern RX0 6 (KnC D) (ZC D)) (M : ZRm Γ (d + 1) D.lim (Option.some (Jvm.ClassFile.FieldType.object "LetterPost$Pattern")) "pattern" []) (S : SdC d D p Γ.l) (hl : Γ.l.stackTraces = false) (hk : 0 ≤ d) {x3 : Nat} {w : CW} (h : pC_X0_pattern_118 p (wpC p d) (fun v w => Γ.Q (.inl (some (ar v))) w) (fun x w => Γ.Q (.inr x) w) x3 w) : ZV Γ w 118 [(3, ar x3)] [] := by
  refine zc_wk G hp (fun hw tw => ?_)
  refine zv_aload_n G rfl rfl dX0_pattern_118 ?_
  exact zv_aret G M (Or.inl ⟨_, rfl⟩) dX0_pattern_119 h
set_option maxHeartbeats 4000000 in
set_option maxRecDepth 100000 in
theorem cpC_X0_pattern_0 {Γ : ZG CW} {D : CD} {d p : Nat} (hp : D.K.1 = p) (G : ZOk Γ cX0_pattern RX0 6 (KnC D) (ZC D)) (M : ZRm Γ (d + 1) D.lim (Option.some (Jvm.ClassFile.FieldType.object "LetterPost$Pattern")) "pattern" []) (S : SdC d D p Γ.l) (hl : Γ.l.stackTraces = false) (hk : 0 ≤ d) {x1 : Int} {w : CW} (rx1 : zr x1) (h : pC_X0_pattern_0 p (wpC p d) (fun v w => Γ.Q (.inl (some (ar v))) w) (fun x w => Γ.Q (.inr x) w) x1 w) : ZV Γ w 0 [(0, ar p), (1, ai x1)] [] := by
  refine zc_wk G hp (fun hw tw => ?_)
  refine zv_aload_n G rfl rfl dX0_pattern_0 ?_
  refine zc_get (f := 20) (v := ai (fI w 20 p)) G (hFp tw rfl) rfl q2076 (Or.inl rfl) (cV_I (by decide) (by decide)) dX0_pattern_1 ?_
  have kj44 : ∀ v1 : Int, v1 = (if ¬ ((fI w 20 p) = 0) ∨ (¬ ((fI w 19 p) < 6)) then 1 else 0) → ZV Γ w 21 [(0, ar p), (1, ai x1)] (ai v1 :: []) := by
    intro v1 ev1
    have h := h v1 ev1
    have rv1 : zr v1 := by rw [ev1]; exact (zr_ite (zr_k 1 (by decide) (by decide)) (zr_k 0 (by decide) (by decide)))
    have bv1 : v1 = 0 ∨ v1 = 1 := by rw [ev1]; exact (zb_ite (Or.inr rfl) (Or.inl rfl))
    refine zv_istore_n G rfl (by decide) rfl dX0_pattern_21 ?_
    refine zv_aload_n G rfl rfl dX0_pattern_22 ?_
    refine zv_iconst (a := 0) G (by decide) dX0_pattern_23 ?_
    refine zc_putI (f := 20) G M (hPp tw rfl) rfl q2076 (Or.inl rfl) (Or.inl rfl) (zfty_20) (zn_Z (Or.inl rfl)) (zf_Z (Or.inl rfl)) (by decide) (by decide) (zr_k 0 (by decide) (by decide)) dX0_pattern_24 (fun u2 eu2 => ?_)
    have h := h u2 eu2
    refine zc_wk G hp (fun hu2 tu2 => ?_)
    refine zv_aload_n G rfl rfl dX0_pattern_27 ?_
    refine zv_iload_n G rfl rfl dX0_pattern_28 ?_
    refine zv_iload_n G rfl rfl dX0_pattern_29 ?_
    refine zv_callR (as := [ar p, ai x1, ai v1]) (st := []) G M (zc_eV (C := zcn 1) G q854 q856 qs19 (Or.inl ⟨rfl, rfl⟩) q857 md_X0_plain (zc_rc G (zne tu2 tu2.1 (by decide)) tu2.1 (by decide) (by decide) rfl) rfl dX0_pattern_30) (S 23 _ rfl _ _ _ h (zoks_cons trivial (zoks_cons rx1 (zoks_cons rv1 zoks_nil)))) (Or.inl ⟨rfl, rfl⟩) (zc_hk q857 q143) (by decide) (Nat.le_of_ble_eq_true rfl) (fun v4 u3 h => ?_) (fun x42 u43 h => ?_)
    rotate_left
    · exact zx_leave G M rfl h
    refine zc_wk G hp (fun hu3 tu3 => ?_)
    refine zv_astore_n G rfl (by decide) rfl dX0_pattern_33 ?_
    refine zv_aload_n G rfl rfl dX0_pattern_34 ?_
    refine zc_ldcs (k := 12) G rfl dX0_pattern_35 ?_
    refine zv_callI (as := [ar p, ar (sr u3 12)]) (st := []) G M (zc_eV (C := zcn 1) G q647 q649 qs8 (Or.inl ⟨rfl, rfl⟩) q650 md_X0_isWord (zc_rc G (zne tu3 tu3.1 (by decide)) tu3.1 (by decide) (by decide) rfl) rfl dX0_pattern_37) (S 12 _ rfl _ _ _ h (zoks_cons trivial (zoks_cons trivial zoks_nil))) (Or.inl ⟨rfl, rfl⟩) (zc_hk q650 q143) (by decide) (Nat.le_of_ble_eq_true rfl) (fun v6 u5 rv6 h => ?_) (fun _ _ h => h.elim)
    refine zc_wk G hp (fun hu5 tu5 => ?_)
    refine zv_if_eq (tgt := 118) G rv6 (by decide) dX0_pattern_40 (fun c7 => ?_) (fun c7 => ?_)
    · have h := h.1 c7
      exact zv_pick [3] rfl (cpC_X0_pattern_118 hp G M S hl hk h)
    · have h := h.2 c7
      refine zv_aload_n G rfl rfl dX0_pattern_43 ?_
      refine zv_callV (as := [ar p]) (st := []) G M (zc_eV (C := zcn 1) G q213 q215 qs1 (Or.inl ⟨rfl, rfl⟩) q216 md_X0_next (zc_rc G (zne tu5 tu5.1 (by decide)) tu5.1 (by decide) (by decide) rfl) rfl dX0_pattern_44) (S 4 _ rfl _ _ _ h (zoks_cons trivial zoks_nil)) (Or.inl ⟨rfl, rfl⟩) (zc_hk q216 q143) (by decide) (Nat.le_of_ble_eq_true rfl) (fun u8 h => ?_) (fun x40 u41 h => ?_)
      rotate_left
      · exact zx_leave G M rfl h
      refine zc_wk G hp (fun hu8 tu8 => ?_)
      refine zv_aload_n G rfl rfl dX0_pattern_47 ?_
      refine zv_aload_n G rfl rfl dX0_pattern_48 ?_
      refine zc_get (f := 10) (v := ai (fI u8 10 p)) G (hFp tu8 rfl) rfl q2066 (Or.inl rfl) (cV_I (by decide) (by decide)) dX0_pattern_49 ?_
      refine zv_iconst (a := 1) G (by decide) dX0_pattern_52 ?_
      have kj38 : ∀ v10 : Int, v10 = (if (fI u8 10 p) = 1 then 1 else 0) → ZV Γ u8 61 [(3, ar v4), (2, ai v1), (0, ar p), (1, ai x1)] (ai v10 :: ar p :: []) := by
        intro v10 ev10
        have h := h v10 ev10
        have rv10 : zr v10 := by rw [ev10]; exact (zr_ite (zr_k 1 (by decide) (by decide)) (zr_k 0 (by decide) (by decide)))
        have bv10 : v10 = 0 ∨ v10 = 1 := by rw [ev10]; exact (zb_ite (Or.inr rfl) (Or.inl rfl))
        refine zv_callV (as := [ar p, ai v10]) (st := []) G M (zc_eV (C := zcn 1) G q667 q669 qs10 (Or.inl ⟨rfl, rfl⟩) q670 md_X0_want (zc_rc G (zne tu8 tu8.1 (by decide)) tu8.1 (by decide) (by decide) rfl) rfl dX0_pattern_61) (S 14 _ rfl _ _ _ h (zoks_cons trivial (zoks_cons rv10 zoks_nil))) (Or.inl ⟨rfl, rfl⟩) (zc_hk q670 q143) (by decide) (Nat.le_of_ble_eq_true rfl) (fun u11 h => ?_) (fun x36 u37 h => ?_)
        rotate_left
        · exact zx_leave G M rfl h
        refine zc_wk G hp (fun hu11 tu11 => ?_)
        refine zv_aload_n G rfl rfl dX0_pattern_64 ?_
        refine zv_iload_n G rfl rfl dX0_pattern_65 ?_
        refine zv_callI (as := [ar p, ai x1]) (st := []) G M (zc_eV (C := zcn 1) G q996 q998 qs28 (Or.inl ⟨rfl, rfl⟩) q999 md_X0_binds (zc_rc G (zne tu11 tu11.1 (by decide)) tu11.1 (by decide) (by decide) rfl) rfl dX0_pattern_66) (S 33 _ rfl _ _ _ h (zoks_cons trivial (zoks_cons rx1 zoks_nil))) (Or.inl ⟨rfl, rfl⟩) (zc_hk q999 q143) (by decide) (Nat.le_of_ble_eq_true rfl) (fun v14 u13 rv14 h => ?_) (fun x34 u35 h => ?_)
        rotate_left
        · exact zx_leave G M rfl h
        refine zc_wk G hp (fun hu13 tu13 => ?_)
        refine zv_istore G (by decide) rfl dX0_pattern_69 ?_
        refine zv_aload_n G rfl rfl dX0_pattern_71 ?_
        refine zv_callV (as := [ar p]) (st := []) G M (zc_eV (C := zcn 1) G q213 q215 qs1 (Or.inl ⟨rfl, rfl⟩) q216 md_X0_next (zc_rc G (zne tu13 tu13.1 (by decide)) tu13.1 (by decide) (by decide) rfl) rfl dX0_pattern_72) (S 4 _ rfl _ _ _ h (zoks_cons trivial zoks_nil)) (Or.inl ⟨rfl, rfl⟩) (zc_hk q216 q143) (by decide) (Nat.le_of_ble_eq_true rfl) (fun u15 h => ?_) (fun x32 u33 h => ?_)
        rotate_left
        · exact zx_leave G M rfl h
        refine zc_wk G hp (fun hu15 tu15 => ?_)
        have o18 := h.1
        have h := h.2
        refine zc_new (ci := 8) (t := 9) (n := 2) G M rfl rfl (by decide) rfl q950 q951 q167 o18 dX0_pattern_75 (fun u17 eu17 => ?_)
        have h := h u17 eu17
        refine zc_wk G hp (fun hu17 tu17 => ?_)
        refine zv_dup G rfl dX0_pattern_78 ?_
        refine zv_iconst (a := 1) G (by decide) dX0_pattern_79 ?_
        have o20 := h.1
        have h := h.2
        refine zc_anew (t := 114) G M (by decide) q848 o20.1 o20.2 dX0_pattern_80 (fun u19 eu19 => ?_)
        have h := h u19 eu19
        refine zc_wk G hp (fun hu19 tu19 => ?_)
        refine zv_dup G rfl dX0_pattern_83 ?_
        refine zv_iconst (a := 0) G (by decide) dX0_pattern_84 ?_
        refine zv_aload_n G rfl rfl dX0_pattern_85 ?_
        have o22 := h.1
        have h := h.2
        have o23 := h.1
        have h := h.2
        refine zc_aast G o22.1 o23 (zr_k 0 (by decide) (by decide)) o22.2.1 o22.2.2 dX0_pattern_86 (fun u21 eu21 => ?_)
        have h := h u21 eu21
        refine zc_wk G hp (fun hu21 tu21 => ?_)
        refine zv_callV (as := [ar (cz u15 + 1), ar (cz u17 + 1)]) (st := [ar (cz u15 + 1)]) G M (zc_eI G rfl q952 q953 q954 md_X11_init (Nat.succ_ne_zero _) rfl dX0_pattern_87) (S 107 _ rfl _ _ _ h (zoks_cons trivial (zoks_cons trivial zoks_nil))) (Or.inl ⟨rfl, rfl⟩) (zc_hk q954 q167) (by decide) (Nat.le_of_ble_eq_true rfl) (fun u24 h => ?_) (fun _ _ h => h.elim)
        refine zc_wk G hp (fun hu24 tu24 => ?_)
        refine zv_astore G (by decide) rfl dX0_pattern_90 ?_
        refine zv_aload_n G rfl rfl dX0_pattern_92 ?_
        have o26 := h.1
        have h := h.2
        refine zc_get (f := 68) (v := ai (fI u24 68 v4)) G o26 rfl q868 (Or.inl rfl) (cV_I (by decide) (by decide)) dX0_pattern_93 ?_
        refine zv_if_ge (tgt := 108) G (hu24.i 68 _ (by decide)) (by decide) dX0_pattern_96 (fun c27 => ?_) (fun c27 => ?_)
        · have h := h.1 c27
          refine zv_aload G rfl dX0_pattern_108 ?_
          refine zv_iload G rfl dX0_pattern_110 ?_
          have o29 := h.1
          have h := h.2
          refine zc_putI (f := 68) G M o29 rfl q869 (Or.inr q870) (Or.inl rfl) (zfty_68) rfl rfl (by decide) (by decide) rv14 dX0_pattern_112 (fun u28 eu28 => ?_)
          have h := h u28 eu28
          refine zc_wk G hp (fun hu28 tu28 => ?_)
          refine zv_aload G rfl dX0_pattern_115 ?_
          refine zv_astore_n G rfl (by decide) rfl dX0_pattern_117 ?_
          exact zv_pick [3] rfl (cpC_X0_pattern_118 hp G M S hl hk h)
        · have h := h.2 c27
          refine zv_aload_n G rfl rfl dX0_pattern_99 ?_
          refine zv_iload G rfl dX0_pattern_100 ?_
          have o31 := h.1
          have h := h.2
          refine zc_putI (f := 68) G M o31 rfl q868 (Or.inl rfl) (Or.inl rfl) (zfty_68) rfl rfl (by decide) (by decide) rv14 dX0_pattern_102 (fun u30 eu30 => ?_)
          have h := h u30 eu30
          refine zc_wk G hp (fun hu30 tu30 => ?_)
          refine zv_goto (tgt := 118) G (by decide) dX0_pattern_105 ?_
          exact zv_pick [3] rfl (cpC_X0_pattern_118 hp G M S hl hk h)
      refine zv_icmp_ne (tgt := 60) G (hu8.i 10 _ (by decide)) (zr_k 1 (by decide) (by decide)) (by decide) dX0_pattern_53 (fun c39 => ?_) (fun c39 => ?_)
      · refine zv_iconst (a := 0) G (by decide) dX0_pattern_60 ?_
        exact kj38 _ (if_neg c39).symm
      · refine zv_iconst (a := 1) G (by decide) dX0_pattern_56 ?_
        refine zv_goto (tgt := 61) G (by decide) dX0_pattern_57 ?_
        exact kj38 _ (if_pos c39).symm
  refine zv_if_ne (tgt := 16) G (hw.i 20 _ (by decide)) (by decide) dX0_pattern_4 (fun c45 => ?_) (fun c45 => ?_)
  · refine zv_iconst (a := 1) G (by decide) dX0_pattern_16 ?_
    refine zv_goto (tgt := 21) G (by decide) dX0_pattern_17 ?_
    exact kj44 _ (if_pos (Or.inl c45)).symm
  · refine zv_aload_n G rfl rfl dX0_pattern_7 ?_
    refine zc_get (f := 19) (v := ai (fI w 19 p)) G (hFp tw rfl) rfl q2075 (Or.inl rfl) (cV_I (by decide) (by decide)) dX0_pattern_8 ?_
    refine zv_bipush (a := 6) G (by decide) dX0_pattern_11 ?_
    refine zv_icmp_lt (tgt := 20) G (hw.i 19 _ (by decide)) (zr_k 6 (by decide) (by decide)) (by decide) dX0_pattern_13 (fun c46 => ?_) (fun c46 => ?_)
    · refine zv_iconst (a := 0) G (by decide) dX0_pattern_20 ?_
      exact kj44 _ (if_neg (fun q => q.elim (fun z => z c45) (fun q => q c46))).symm
    · refine zv_iconst (a := 1) G (by decide) dX0_pattern_16 ?_
      refine zv_goto (tgt := 21) G (by decide) dX0_pattern_17 ?_
      exact kj44 _ (if_pos (Or.inr c46)).symm
set_option maxHeartbeats 4000000 in
set_option maxRecDepth 100000 in
theorem cpC_X0_plain_118 {Γ : ZG CW} {D : CD} {d p : Nat} (hp : D.K.1 = p) (G : ZOk Γ cX0_plain RX0 6 (KnC D) (ZC D)) (M : ZRm Γ (d + 1) D.lim (Option.some (Jvm.ClassFile.FieldType.object "LetterPost$Pattern")) "plain" []) (S : SdC d D p Γ.l) (hl : Γ.l.stackTraces = false) (hk : 0 ≤ d) {x1 : Int} {x2 : Int} {x3 : Int} {w : CW} (rx1 : zr x1) (rx2 : zr x2) (rx3 : zr x3) (h : pC_X0_plain_118 p (wpC p d) (fun v w => Γ.Q (.inl (some (ar v))) w) (fun x w => Γ.Q (.inr x) w) x1 x2 x3 w) : ZV Γ w 118 [(0, ar p), (1, ai x1), (2, ai x2), (3, ai x3)] [] := by
  refine zc_wk G hp (fun hw tw => ?_)
  refine zv_aload_n G rfl rfl dX0_plain_118 ?_
  refine zv_iload_n G rfl rfl dX0_plain_119 ?_
  have kj23 : ∀ v7 : Int, v7 = (if x1 = 0 then 1 else 0) → ZV Γ w 128 [(0, ar p), (1, ai x1), (2, ai x2), (3, ai x3)] (ai v7 :: ar p :: []) := by
    intro v7 ev7
    have h := h v7 ev7
    have rv7 : zr v7 := by rw [ev7]; exact (zr_ite (zr_k 1 (by decide) (by decide)) (zr_k 0 (by decide) (by decide)))
    have bv7 : v7 = 0 ∨ v7 = 1 := by rw [ev7]; exact (zb_ite (Or.inr rfl) (Or.inl rfl))
    refine zv_iconst (a := 5) G (by decide) dX0_plain_128 ?_
    refine zv_iload_n G rfl rfl dX0_plain_129 ?_
    refine zv_callV (as := [ar p, ai v7, ai 5, ai x3]) (st := []) G M (zc_eV (C := zcn 1) G q235 q237 qs5 (Or.inl ⟨rfl, rfl⟩) q238 md_X0_need (zc_rc G (zne tw tw.1 (by decide)) tw.1 (by decide) (by decide) rfl) rfl dX0_plain_130) (S 10 _ rfl _ _ _ h (zoks_cons trivial (zoks_cons rv7 (zoks_cons (zr_k 5 (by decide) (by decide)) (zoks_cons rx3 zoks_nil))))) (Or.inl ⟨rfl, rfl⟩) (zc_hk q238 q143) (by decide) (Nat.le_of_ble_eq_true rfl) (fun u8 h => ?_) (fun x21 u22 h => ?_)
    rotate_left
    · exact zx_leave G M rfl h
    refine zc_wk G hp (fun hu8 tu8 => ?_)
    refine zv_aload_n G rfl rfl dX0_plain_133 ?_
    refine zv_iload_n G rfl rfl dX0_plain_134 ?_
    have kj19 : ∀ v10 : Int, v10 = (if x2 = 0 then 1 else 0) → ZV Γ u8 143 [(0, ar p), (1, ai x1), (2, ai x2), (3, ai x3)] (ai v10 :: ar p :: []) := by
      intro v10 ev10
      have h := h v10 ev10
      have rv10 : zr v10 := by rw [ev10]; exact (zr_ite (zr_k 1 (by decide) (by decide)) (zr_k 0 (by decide) (by decide)))
      have bv10 : v10 = 0 ∨ v10 = 1 := by rw [ev10]; exact (zb_ite (Or.inr rfl) (Or.inl rfl))
      refine zv_bipush (a := 9) G (by decide) dX0_plain_143 ?_
      refine zv_iload_n G rfl rfl dX0_plain_145 ?_
      refine zv_callV (as := [ar p, ai v10, ai 9, ai x3]) (st := []) G M (zc_eV (C := zcn 1) G q235 q237 qs5 (Or.inl ⟨rfl, rfl⟩) q238 md_X0_need (zc_rc G (zne tu8 tu8.1 (by decide)) tu8.1 (by decide) (by decide) rfl) rfl dX0_plain_146) (S 10 _ rfl _ _ _ h (zoks_cons trivial (zoks_cons rv10 (zoks_cons (zr_k 9 (by decide) (by decide)) (zoks_cons rx3 zoks_nil))))) (Or.inl ⟨rfl, rfl⟩) (zc_hk q238 q143) (by decide) (Nat.le_of_ble_eq_true rfl) (fun u11 h => ?_) (fun x17 u18 h => ?_)
      rotate_left
      · exact zx_leave G M rfl h
      refine zc_wk G hp (fun hu11 tu11 => ?_)
      refine zv_aload_n G rfl rfl dX0_plain_149 ?_
      refine zv_iload_n G rfl rfl dX0_plain_150 ?_
      refine zv_callR (as := [ar p, ai x3]) (st := []) G M (zc_eV (C := zcn 1) G q885 q887 qs22 (Or.inl ⟨rfl, rfl⟩) q888 md_X0_range (zc_rc G (zne tu11 tu11.1 (by decide)) tu11.1 (by decide) (by decide) rfl) rfl dX0_plain_151) (S 26 _ rfl _ _ _ h (zoks_cons trivial (zoks_cons rx3 zoks_nil))) (Or.inl ⟨rfl, rfl⟩) (zc_hk q888 q143) (by decide) (Nat.le_of_ble_eq_true rfl) (fun v14 u13 h => ?_) (fun x15 u16 h => ?_)
      rotate_left
      · exact zx_leave G M rfl h
      refine zc_wk G hp (fun hu13 tu13 => ?_)
      exact zv_aret G M (Or.inl ⟨_, rfl⟩) dX0_plain_154 h
    refine zv_if_ne (tgt := 142) G rx2 (by decide) dX0_plain_135 (fun c20 => ?_) (fun c20 => ?_)
    · refine zv_iconst (a := 0) G (by decide) dX0_plain_142 ?_
      exact kj19 _ (if_neg c20).symm
    · refine zv_iconst (a := 1) G (by decide) dX0_plain_138 ?_
      refine zv_goto (tgt := 143) G (by decide) dX0_plain_139 ?_
      exact kj19 _ (if_pos c20).symm
  refine zv_if_ne (tgt := 127) G rx1 (by decide) dX0_plain_120 (fun c24 => ?_) (fun c24 => ?_)
  · refine zv_iconst (a := 0) G (by decide) dX0_plain_127 ?_
    exact kj23 _ (if_neg c24).symm
  · refine zv_iconst (a := 1) G (by decide) dX0_plain_123 ?_
    refine zv_goto (tgt := 128) G (by decide) dX0_plain_124 ?_
    exact kj23 _ (if_pos c24).symm
set_option maxHeartbeats 4000000 in
set_option maxRecDepth 100000 in
theorem cpC_X0_plain_322 {Γ : ZG CW} {D : CD} {d p : Nat} (hp : D.K.1 = p) (G : ZOk Γ cX0_plain RX0 6 (KnC D) (ZC D)) (M : ZRm Γ (d + 1) D.lim (Option.some (Jvm.ClassFile.FieldType.object "LetterPost$Pattern")) "plain" []) (S : SdC d D p Γ.l) (hl : Γ.l.stackTraces = false) (hk : 0 ≤ d) {x2 : Int} {x3 : Int} {x4 : Nat} {w : CW} (rx2 : zr x2) (rx3 : zr x3) (h : pC_X0_plain_322 p (wpC p d) (fun v w => Γ.Q (.inl (some (ar v))) w) (fun x w => Γ.Q (.inr x) w) x2 x3 x4 w) : ZV Γ w 322 [(0, ar p), (2, ai x2), (3, ai x3), (4, ar x4)] [] := by
  refine zc_wk G hp (fun hw tw => ?_)
  refine zv_aload_n G rfl rfl dX0_plain_322 ?_
  refine zv_iload_n G rfl rfl dX0_plain_323 ?_
  have kj54 : ∀ v45 : Int, v45 = (if x2 = 0 then 1 else 0) → ZV Γ w 332 [(0, ar p), (2, ai x2), (3, ai x3), (4, ar x4)] (ai v45 :: ar p :: []) := by
    intro v45 ev45
    have h := h v45 ev45
    have rv45 : zr v45 := by rw [ev45]; exact (zr_ite (zr_k 1 (by decide) (by decide)) (zr_k 0 (by decide) (by decide)))
    have bv45 : v45 = 0 ∨ v45 = 1 := by rw [ev45]; exact (zb_ite (Or.inr rfl) (Or.inl rfl))
    refine zv_bipush (a := 9) G (by decide) dX0_plain_332 ?_
    refine zv_iload_n G rfl rfl dX0_plain_334 ?_
    refine zv_callV (as := [ar p, ai v45, ai 9, ai x3]) (st := []) G M (zc_eV (C := zcn 1) G q235 q237 qs5 (Or.inl ⟨rfl, rfl⟩) q238 md_X0_need (zc_rc G (zne tw tw.1 (by decide)) tw.1 (by decide) (by decide) rfl) rfl dX0_plain_335) (S 10 _ rfl _ _ _ h (zoks_cons trivial (zoks_cons rv45 (zoks_cons (zr_k 9 (by decide) (by decide)) (zoks_cons rx3 zoks_nil))))) (Or.inl ⟨rfl, rfl⟩) (zc_hk q238 q143) (by decide) (Nat.le_of_ble_eq_true rfl) (fun u46 h => ?_) (fun x52 u53 h => ?_)
    rotate_left
    · exact zx_leave G M rfl h
    refine zc_wk G hp (fun hu46 tu46 => ?_)
    refine zv_aload_n G rfl rfl dX0_plain_338 ?_
    refine zv_callV (as := [ar p]) (st := []) G M (zc_eV (C := zcn 1) G q213 q215 qs1 (Or.inl ⟨rfl, rfl⟩) q216 md_X0_next (zc_rc G (zne tu46 tu46.1 (by decide)) tu46.1 (by decide) (by decide) rfl) rfl dX0_plain_339) (S 4 _ rfl _ _ _ h (zoks_cons trivial zoks_nil)) (Or.inl ⟨rfl, rfl⟩) (zc_hk q216 q143) (by decide) (Nat.le_of_ble_eq_true rfl) (fun u48 h => ?_) (fun x50 u51 h => ?_)
    rotate_left
    · exact zx_leave G M rfl h
    refine zc_wk G hp (fun hu48 tu48 => ?_)
    refine zv_aload G rfl dX0_plain_342 ?_
    exact zv_aret G M (Or.inl ⟨_, rfl⟩) dX0_plain_344 h
  refine zv_if_ne (tgt := 331) G rx2 (by decide) dX0_plain_324 (fun c55 => ?_) (fun c55 => ?_)
  · refine zv_iconst (a := 0) G (by decide) dX0_plain_331 ?_
    exact kj54 _ (if_neg c55).symm
  · refine zv_iconst (a := 1) G (by decide) dX0_plain_327 ?_
    refine zv_goto (tgt := 332) G (by decide) dX0_plain_328 ?_
    exact kj54 _ (if_pos c55).symm
set_option maxHeartbeats 4000000 in
set_option maxRecDepth 100000 in
theorem cpC_X0_plain_259 {Γ : ZG CW} {D : CD} {d p : Nat} (hp : D.K.1 = p) (G : ZOk Γ cX0_plain RX0 6 (KnC D) (ZC D)) (M : ZRm Γ (d + 1) D.lim (Option.some (Jvm.ClassFile.FieldType.object "LetterPost$Pattern")) "plain" []) (S : SdC d D p Γ.l) (hl : Γ.l.stackTraces = false) (hk : 0 ≤ d) {x1 : Int} {x2 : Int} {x3 : Int} {w : CW} (rx1 : zr x1) (rx2 : zr x2) (rx3 : zr x3) (h : pC_X0_plain_259 p (wpC p d) (fun v w => Γ.Q (.inl (some (ar v))) w) (fun x w => Γ.Q (.inr x) w) x1 x2 x3 w) : ZV Γ w 259 [(0, ar p), (1, ai x1), (2, ai x2), (3, ai x3)] [] := by
  refine zc_wk G hp (fun hw tw => ?_)
  refine zv_aload_n G rfl rfl dX0_plain_259 ?_
  refine zv_iload_n G rfl rfl dX0_plain_260 ?_
  refine zv_iconst (a := 1) G (by decide) dX0_plain_261 ?_
  have kj58 : ∀ v36 : Int, v36 = (if x1 = 1 then 1 else 0) → ZV Γ w 270 [(0, ar p), (1, ai x1), (2, ai x2), (3, ai x3)] (ai v36 :: ar p :: []) := by
    intro v36 ev36
    have h := h v36 ev36
    have rv36 : zr v36 := by rw [ev36]; exact (zr_ite (zr_k 1 (by decide) (by decide)) (zr_k 0 (by decide) (by decide)))
    have bv36 : v36 = 0 ∨ v36 = 1 := by rw [ev36]; exact (zb_ite (Or.inr rfl) (Or.inl rfl))
    refine zv_iconst (a := 5) G (by decide) dX0_plain_270 ?_
    refine zv_iload_n G rfl rfl dX0_plain_271 ?_
    refine zv_callV (as := [ar p, ai v36, ai 5, ai x3]) (st := []) G M (zc_eV (C := zcn 1) G q235 q237 qs5 (Or.inl ⟨rfl, rfl⟩) q238 md_X0_need (zc_rc G (zne tw tw.1 (by decide)) tw.1 (by decide) (by decide) rfl) rfl dX0_plain_272) (S 10 _ rfl _ _ _ h (zoks_cons trivial (zoks_cons rv36 (zoks_cons (zr_k 5 (by decide) (by decide)) (zoks_cons rx3 zoks_nil))))) (Or.inl ⟨rfl, rfl⟩) (zc_hk q238 q143) (by decide) (Nat.le_of_ble_eq_true rfl) (fun u37 h => ?_) (fun x56 u57 h => ?_)
    rotate_left
    · exact zx_leave G M rfl h
    refine zc_wk G hp (fun hu37 tu37 => ?_)
    have o40 := h.1
    have h := h.2
    refine zc_new (ci := 10) (t := 11) (n := 2) G M rfl rfl (by decide) rfl q975 q976 q169 o40 dX0_plain_275 (fun u39 eu39 => ?_)
    have h := h u39 eu39
    refine zc_wk G hp (fun hu39 tu39 => ?_)
    refine zv_dup G rfl dX0_plain_278 ?_
    refine zv_aload_n G rfl rfl dX0_plain_279 ?_
    refine zc_ldcs (k := 9) G rfl dX0_plain_280 ?_
    refine zv_callI (as := [ar p, ar (sr u39 9)]) (st := [ar (cz u37 + 1), ar (cz u37 + 1)]) G M (zc_eV (C := zcn 1) G q647 q649 qs8 (Or.inl ⟨rfl, rfl⟩) q650 md_X0_isWord (zc_rc G (zne tu39 tu39.1 (by decide)) tu39.1 (by decide) (by decide) rfl) rfl dX0_plain_282) (S 12 _ rfl _ _ _ h (zoks_cons trivial (zoks_cons trivial zoks_nil))) (Or.inl ⟨rfl, rfl⟩) (zc_hk q650 q143) (by decide) (Nat.le_of_ble_eq_true rfl) (fun v42 u41 rv42 h => ?_) (fun _ _ h => h.elim)
    refine zc_wk G hp (fun hu41 tu41 => ?_)
    refine zv_callV (as := [ar (cz u37 + 1), ai v42]) (st := [ar (cz u37 + 1)]) G M (zc_eI G rfl q977 q978 q979 md_X13_init (Nat.succ_ne_zero _) rfl dX0_plain_285) (S 114 _ rfl _ _ _ h (zoks_cons trivial (zoks_cons rv42 zoks_nil))) (Or.inl ⟨rfl, rfl⟩) (zc_hk q979 q169) (by decide) (Nat.le_of_ble_eq_true rfl) (fun u43 h => ?_) (fun _ _ h => h.elim)
    refine zc_wk G hp (fun hu43 tu43 => ?_)
    refine zv_astore G (by decide) rfl dX0_plain_288 ?_
    refine zv_goto (tgt := 322) G (by decide) dX0_plain_290 ?_
    exact zv_pick [0, 2, 3, 4] rfl (cpC_X0_plain_322 hp G M S hl hk rx2 rx3 h)
  refine zv_icmp_ne (tgt := 269) G rx1 (zr_k 1 (by decide) (by decide)) (by decide) dX0_plain_262 (fun c59 => ?_) (fun c59 => ?_)
  · refine zv_iconst (a := 0) G (by decide) dX0_plain_269 ?_
    exact kj58 _ (if_neg c59).symm
  · refine zv_iconst (a := 1) G (by decide) dX0_plain_265 ?_
    refine zv_goto (tgt := 270) G (by decide) dX0_plain_266 ?_
    exact kj58 _ (if_pos c59).symm
set_option maxHeartbeats 4000000 in
set_option maxRecDepth 100000 in
theorem cpC_X0_plain_0 {Γ : ZG CW} {D : CD} {d p : Nat} (hp : D.K.1 = p) (G : ZOk Γ cX0_plain RX0 6 (KnC D) (ZC D)) (M : ZRm Γ (d + 1) D.lim (Option.some (Jvm.ClassFile.FieldType.object "LetterPost$Pattern")) "plain" []) (S : SdC d D p Γ.l) (hl : Γ.l.stackTraces = false) (hk : 0 ≤ d) {x1 : Int} {x2 : Int} {w : CW} (rx1 : zr x1) (rx2 : zr x2) (h : pC_X0_plain_0 p (wpC p d) (fun v w => Γ.Q (.inl (some (ar v))) w) (fun x w => Γ.Q (.inr x) w) x1 x2 w) : ZV Γ w 0 [(0, ar p), (1, ai x1), (2, ai x2)] [] := by
  refine zc_wk G hp (fun hw tw => ?_)
  refine zv_aload_n G rfl rfl dX0_plain_0 ?_
  refine zc_get (f := 11) (v := ai (fI w 11 p)) G (hFp tw rfl) rfl q2067 (Or.inl rfl) (cV_I (by decide) (by decide)) dX0_plain_1 ?_
  refine zv_istore_nN G rfl (by decide) dX0_plain_4 (fun x3_1 ex3_1 => ?_)
  have h := h x3_1 ex3_1
  have rx3_1 : zr x3_1 := by rw [ex3_1]; exact (hw.i 11 _ (by decide))
  refine zv_aload_n G rfl rfl dX0_plain_5 ?_
  refine zc_get (f := 10) (v := ai (fI w 10 p)) G (hFp tw rfl) rfl q2066 (Or.inl rfl) (cV_I (by decide) (by decide)) dX0_plain_6 ?_
  refine zv_iconst (a := 1) G (by decide) dX0_plain_9 ?_
  refine zv_icmp_ne (tgt := 64) G (hw.i 10 _ (by decide)) (zr_k 1 (by decide) (by decide)) (by decide) dX0_plain_10 (fun c2 => ?_) (fun c2 => ?_)
  · have h := h.2 c2
    refine zv_aload_n G rfl rfl dX0_plain_64 ?_
    refine zv_bipush (a := 95) G (by decide) dX0_plain_65 ?_
    refine zv_callI (as := [ar p, ai 95]) (st := []) G M (zc_eV (C := zcn 1) G q709 q711 qs12 (Or.inl ⟨rfl, rfl⟩) q712 md_X0_isSign (zc_rc G (zne tw tw.1 (by decide)) tw.1 (by decide) (by decide) rfl) rfl dX0_plain_67) (S 16 _ rfl _ _ _ h (zoks_cons trivial (zoks_cons (zr_k 95 (by decide) (by decide)) zoks_nil))) (Or.inl ⟨rfl, rfl⟩) (zc_hk q712 q143) (by decide) (Nat.le_of_ble_eq_true rfl) (fun v4 u3 rv4 h => ?_) (fun _ _ h => h.elim)
    refine zc_wk G hp (fun hu3 tu3 => ?_)
    refine zv_if_eq (tgt := 101) G rv4 (by decide) dX0_plain_70 (fun c5 => ?_) (fun c5 => ?_)
    · have h := h.1 c5
      refine zv_aload_n G rfl rfl dX0_plain_101 ?_
      refine zc_get (f := 10) (v := ai (fI u3 10 p)) G (hFp tu3 rfl) rfl q2066 (Or.inl rfl) (cV_I (by decide) (by decide)) dX0_plain_102 ?_
      refine zv_iconst (a := 3) G (by decide) dX0_plain_105 ?_
      refine zv_icmp_eq (tgt := 118) G (hu3.i 10 _ (by decide)) (zr_k 3 (by decide) (by decide)) (by decide) dX0_plain_106 (fun c6 => ?_) (fun c6 => ?_)
      · have h := h.1 c6
        exact zv_pick [0, 1, 2, 3] rfl (cpC_X0_plain_118 hp G M S hl hk rx1 rx2 rx3_1 h)
      · have h := h.2 c6
        refine zv_aload_n G rfl rfl dX0_plain_109 ?_
        refine zv_bipush (a := 45) G (by decide) dX0_plain_110 ?_
        refine zv_callI (as := [ar p, ai 45]) (st := []) G M (zc_eV (C := zcn 1) G q709 q711 qs12 (Or.inl ⟨rfl, rfl⟩) q712 md_X0_isSign (zc_rc G (zne tu3 tu3.1 (by decide)) tu3.1 (by decide) (by decide) rfl) rfl dX0_plain_112) (S 16 _ rfl _ _ _ h (zoks_cons trivial (zoks_cons (zr_k 45 (by decide) (by decide)) zoks_nil))) (Or.inl ⟨rfl, rfl⟩) (zc_hk q712 q143) (by decide) (Nat.le_of_ble_eq_true rfl) (fun v26 u25 rv26 h => ?_) (fun _ _ h => h.elim)
        refine zc_wk G hp (fun hu25 tu25 => ?_)
        refine zv_if_eq (tgt := 155) G rv26 (by decide) dX0_plain_115 (fun c27 => ?_) (fun c27 => ?_)
        · have h := h.1 c27
          refine zv_aload_n G rfl rfl dX0_plain_155 ?_
          refine zc_get (f := 10) (v := ai (fI u25 10 p)) G (hFp tu25 rfl) rfl q2066 (Or.inl rfl) (cV_I (by decide) (by decide)) dX0_plain_156 ?_
          refine zv_iconst (a := 2) G (by decide) dX0_plain_159 ?_
          refine zv_icmp_ne (tgt := 170) G (hu25.i 10 _ (by decide)) (zr_k 2 (by decide) (by decide)) (by decide) dX0_plain_160 (fun c28 => ?_) (fun c28 => ?_)
          · have h := h.2 c28
            refine zv_aload_n G rfl rfl dX0_plain_170 ?_
            refine zv_bipush (a := 40) G (by decide) dX0_plain_171 ?_
            refine zv_callI (as := [ar p, ai 40]) (st := []) G M (zc_eV (C := zcn 1) G q709 q711 qs12 (Or.inl ⟨rfl, rfl⟩) q712 md_X0_isSign (zc_rc G (zne tu25 tu25.1 (by decide)) tu25.1 (by decide) (by decide) rfl) rfl dX0_plain_173) (S 16 _ rfl _ _ _ h (zoks_cons trivial (zoks_cons (zr_k 40 (by decide) (by decide)) zoks_nil))) (Or.inl ⟨rfl, rfl⟩) (zc_hk q712 q143) (by decide) (Nat.le_of_ble_eq_true rfl) (fun v30 u29 rv30 h => ?_) (fun _ _ h => h.elim)
            refine zc_wk G hp (fun hu29 tu29 => ?_)
            refine zv_if_eq (tgt := 201) G rv30 (by decide) dX0_plain_176 (fun c31 => ?_) (fun c31 => ?_)
            · have h := h.1 c31
              refine zv_aload_n G rfl rfl dX0_plain_201 ?_
              refine zc_get (f := 10) (v := ai (fI u29 10 p)) G (hFp tu29 rfl) rfl q2066 (Or.inl rfl) (cV_I (by decide) (by decide)) dX0_plain_202 ?_
              refine zv_iconst (a := 4) G (by decide) dX0_plain_205 ?_
              refine zv_icmp_ne (tgt := 241) G (hu29.i 10 _ (by decide)) (zr_k 4 (by decide) (by decide)) (by decide) dX0_plain_206 (fun c32 => ?_) (fun c32 => ?_)
              · have h := h.2 c32
                refine zv_aload_n G rfl rfl dX0_plain_241 ?_
                refine zc_ldcs (k := 9) G rfl dX0_plain_242 ?_
                refine zv_callI (as := [ar p, ar (sr u29 9)]) (st := []) G M (zc_eV (C := zcn 1) G q647 q649 qs8 (Or.inl ⟨rfl, rfl⟩) q650 md_X0_isWord (zc_rc G (zne tu29 tu29.1 (by decide)) tu29.1 (by decide) (by decide) rfl) rfl dX0_plain_244) (S 12 _ rfl _ _ _ h (zoks_cons trivial (zoks_cons trivial zoks_nil))) (Or.inl ⟨rfl, rfl⟩) (zc_hk q650 q143) (by decide) (Nat.le_of_ble_eq_true rfl) (fun v34 u33 rv34 h => ?_) (fun _ _ h => h.elim)
                refine zc_wk G hp (fun hu33 tu33 => ?_)
                refine zv_if_ne (tgt := 259) G rv34 (by decide) dX0_plain_247 (fun c35 => ?_) (fun c35 => ?_)
                · have h := h.2 c35
                  exact zv_pick [0, 1, 2, 3] rfl (cpC_X0_plain_259 hp G M S hl hk rx1 rx2 rx3_1 h)
                · have h := h.1 c35
                  refine zv_aload_n G rfl rfl dX0_plain_250 ?_
                  refine zc_ldcs (k := 10) G rfl dX0_plain_251 ?_
                  refine zv_callI (as := [ar p, ar (sr u33 10)]) (st := []) G M (zc_eV (C := zcn 1) G q647 q649 qs8 (Or.inl ⟨rfl, rfl⟩) q650 md_X0_isWord (zc_rc G (zne tu33 tu33.1 (by decide)) tu33.1 (by decide) (by decide) rfl) rfl dX0_plain_253) (S 12 _ rfl _ _ _ h (zoks_cons trivial (zoks_cons trivial zoks_nil))) (Or.inl ⟨rfl, rfl⟩) (zc_hk q650 q143) (by decide) (Nat.le_of_ble_eq_true rfl) (fun v61 u60 rv61 h => ?_) (fun _ _ h => h.elim)
                  refine zc_wk G hp (fun hu60 tu60 => ?_)
                  refine zv_if_eq (tgt := 293) G rv61 (by decide) dX0_plain_256 (fun c62 => ?_) (fun c62 => ?_)
                  · have h := h.1 c62
                    refine zv_aload_n G rfl rfl dX0_plain_293 ?_
                    refine zv_aload_n G rfl rfl dX0_plain_294 ?_
                    refine zc_ldcs (k := 11) G rfl dX0_plain_295 ?_
                    refine zv_callI (as := [ar p, ar (sr u60 11)]) (st := [ar p]) G M (zc_eV (C := zcn 1) G q647 q649 qs8 (Or.inl ⟨rfl, rfl⟩) q650 md_X0_isWord (zc_rc G (zne tu60 tu60.1 (by decide)) tu60.1 (by decide) (by decide) rfl) rfl dX0_plain_297) (S 12 _ rfl _ _ _ h (zoks_cons trivial (zoks_cons trivial zoks_nil))) (Or.inl ⟨rfl, rfl⟩) (zc_hk q650 q143) (by decide) (Nat.le_of_ble_eq_true rfl) (fun v64 u63 rv64 h => ?_) (fun _ _ h => h.elim)
                    refine zc_wk G hp (fun hu63 tu63 => ?_)
                    refine zv_callV (as := [ar p, ai v64]) (st := []) G M (zc_eV (C := zcn 1) G q667 q669 qs10 (Or.inl ⟨rfl, rfl⟩) q670 md_X0_want (zc_rc G (zne tu63 tu63.1 (by decide)) tu63.1 (by decide) (by decide) rfl) rfl dX0_plain_300) (S 14 _ rfl _ _ _ h (zoks_cons trivial (zoks_cons rv64 zoks_nil))) (Or.inl ⟨rfl, rfl⟩) (zc_hk q670 q143) (by decide) (Nat.le_of_ble_eq_true rfl) (fun u65 h => ?_) (fun x77 u78 h => ?_)
                    rotate_left
                    · exact zx_leave G M rfl h
                    refine zc_wk G hp (fun hu65 tu65 => ?_)
                    refine zv_aload_n G rfl rfl dX0_plain_303 ?_
                    refine zv_iload_n G rfl rfl dX0_plain_304 ?_
                    refine zv_callI (as := [ai x1]) (st := [ar p]) G M (zc_eS G q920 q921 q143 q922 md_X0_isKind rfl dX0_plain_305) (S 30 _ rfl _ _ _ h (zoks_cons rx1 zoks_nil)) (Or.inl ⟨rfl, rfl⟩) (zc_hk q922 q143) (by decide) (Nat.le_of_ble_eq_true rfl) (fun v68 u67 rv68 h => ?_) (fun _ _ h => h.elim)
                    refine zc_wk G hp (fun hu67 tu67 => ?_)
                    refine zv_iconst (a := 5) G (by decide) dX0_plain_308 ?_
                    refine zv_iload_n G rfl rfl dX0_plain_309 ?_
                    refine zv_callV (as := [ar p, ai v68, ai 5, ai x3_1]) (st := []) G M (zc_eV (C := zcn 1) G q235 q237 qs5 (Or.inl ⟨rfl, rfl⟩) q238 md_X0_need (zc_rc G (zne tu67 tu67.1 (by decide)) tu67.1 (by decide) (by decide) rfl) rfl dX0_plain_310) (S 10 _ rfl _ _ _ h (zoks_cons trivial (zoks_cons rv68 (zoks_cons (zr_k 5 (by decide) (by decide)) (zoks_cons rx3_1 zoks_nil))))) (Or.inl ⟨rfl, rfl⟩) (zc_hk q238 q143) (by decide) (Nat.le_of_ble_eq_true rfl) (fun u69 h => ?_) (fun x75 u76 h => ?_)
                    rotate_left
                    · exact zx_leave G M rfl h
                    refine zc_wk G hp (fun hu69 tu69 => ?_)
                    have o72 := h.1
                    have h := h.2
                    refine zc_new (ci := 11) (t := 12) (n := 1) G M rfl rfl (by decide) rfl q987 q988 q170 o72 dX0_plain_313 (fun u71 eu71 => ?_)
                    have h := h u71 eu71
                    refine zc_wk G hp (fun hu71 tu71 => ?_)
                    refine zv_dup G rfl dX0_plain_316 ?_
                    refine zv_callV (as := [ar (cz u69 + 1)]) (st := [ar (cz u69 + 1)]) G M (zc_eIN G rfl q989 q990 q991 md_X14_init (Nat.succ_ne_zero _) rfl dX0_plain_317) (S 117 _ rfl _ _ _ h (zoks_cons trivial zoks_nil)) (Or.inl ⟨rfl, rfl⟩) (zc_hk q991 q170) (by decide) (Nat.le_of_ble_eq_true rfl) (fun u73 h => ?_) (fun _ _ h => h.elim)
                    refine zc_wk G hp (fun hu73 tu73 => ?_)
                    refine zv_astore G (by decide) rfl dX0_plain_320 ?_
                    exact zv_pick [0, 2, 3, 4] rfl (cpC_X0_plain_322 hp G M S hl hk rx2 rx3_1 h)
                  · have h := h.2 c62
                    exact zv_pick [0, 1, 2, 3] rfl (cpC_X0_plain_259 hp G M S hl hk rx1 rx2 rx3_1 h)
              · have h := h.1 c32
                refine zv_aload_n G rfl rfl dX0_plain_209 ?_
                refine zv_iload_n G rfl rfl dX0_plain_210 ?_
                refine zv_iconst (a := 2) G (by decide) dX0_plain_211 ?_
                have kj88 : ∀ v79 : Int, v79 = (if x1 = 2 then 1 else 0) → ZV Γ u29 220 [(3, ai x3_1), (0, ar p), (1, ai x1), (2, ai x2)] (ai v79 :: ar p :: []) := by
                  intro v79 ev79
                  have h := h v79 ev79
                  have rv79 : zr v79 := by rw [ev79]; exact (zr_ite (zr_k 1 (by decide) (by decide)) (zr_k 0 (by decide) (by decide)))
                  have bv79 : v79 = 0 ∨ v79 = 1 := by rw [ev79]; exact (zb_ite (Or.inr rfl) (Or.inl rfl))
                  refine zv_iconst (a := 5) G (by decide) dX0_plain_220 ?_
                  refine zv_iload_n G rfl rfl dX0_plain_221 ?_
                  refine zv_callV (as := [ar p, ai v79, ai 5, ai x3_1]) (st := []) G M (zc_eV (C := zcn 1) G q235 q237 qs5 (Or.inl ⟨rfl, rfl⟩) q238 md_X0_need (zc_rc G (zne tu29 tu29.1 (by decide)) tu29.1 (by decide) (by decide) rfl) rfl dX0_plain_222) (S 10 _ rfl _ _ _ h (zoks_cons trivial (zoks_cons rv79 (zoks_cons (zr_k 5 (by decide) (by decide)) (zoks_cons rx3_1 zoks_nil))))) (Or.inl ⟨rfl, rfl⟩) (zc_hk q238 q143) (by decide) (Nat.le_of_ble_eq_true rfl) (fun u80 h => ?_) (fun x86 u87 h => ?_)
                  rotate_left
                  · exact zx_leave G M rfl h
                  refine zc_wk G hp (fun hu80 tu80 => ?_)
                  have o83 := h.1
                  have h := h.2
                  refine zc_new (ci := 9) (t := 10) (n := 2) G M rfl rfl (by decide) rfl q961 q962 q168 o83 dX0_plain_225 (fun u82 eu82 => ?_)
                  have h := h u82 eu82
                  refine zc_wk G hp (fun hu82 tu82 => ?_)
                  refine zv_dup G rfl dX0_plain_228 ?_
                  refine zv_aload_n G rfl rfl dX0_plain_229 ?_
                  refine zc_get (f := 12) (v := al (fI u82 12 p)) G (hFp tu82 rfl) rfl q2068 (Or.inl rfl) (cV_L rfl) dX0_plain_230 ?_
                  refine zv_callV (as := [ar (cz u80 + 1), al (fI u82 12 p)]) (st := [ar (cz u80 + 1)]) G M (zc_eI G rfl q963 q964 q965 md_X12_init (Nat.succ_ne_zero _) rfl dX0_plain_233) (S 111 _ rfl _ _ _ h (zoks_cons trivial (zoks_cons (hu82.l 12 _ (by decide)) zoks_nil))) (Or.inl ⟨rfl, rfl⟩) (zc_hk q965 q168) (by decide) (Nat.le_of_ble_eq_true rfl) (fun u84 h => ?_) (fun _ _ h => h.elim)
                  refine zc_wk G hp (fun hu84 tu84 => ?_)
                  refine zv_astore G (by decide) rfl dX0_plain_236 ?_
                  refine zv_goto (tgt := 322) G (by decide) dX0_plain_238 ?_
                  exact zv_pick [0, 2, 3, 4] rfl (cpC_X0_plain_322 hp G M S hl hk rx2 rx3_1 h)
                refine zv_icmp_ne (tgt := 219) G rx1 (zr_k 2 (by decide) (by decide)) (by decide) dX0_plain_212 (fun c89 => ?_) (fun c89 => ?_)
                · refine zv_iconst (a := 0) G (by decide) dX0_plain_219 ?_
                  exact kj88 _ (if_neg c89).symm
                · refine zv_iconst (a := 1) G (by decide) dX0_plain_215 ?_
                  refine zv_goto (tgt := 220) G (by decide) dX0_plain_216 ?_
                  exact kj88 _ (if_pos c89).symm
            · have h := h.2 c31
              refine zv_aload_n G rfl rfl dX0_plain_179 ?_
              refine zv_iload_n G rfl rfl dX0_plain_180 ?_
              have kj99 : ∀ v90 : Int, v90 = (if x2 = 0 then 1 else 0) → ZV Γ u29 189 [(3, ai x3_1), (0, ar p), (1, ai x1), (2, ai x2)] (ai v90 :: ar p :: []) := by
                intro v90 ev90
                have h := h v90 ev90
                have rv90 : zr v90 := by rw [ev90]; exact (zr_ite (zr_k 1 (by decide) (by decide)) (zr_k 0 (by decide) (by decide)))
                have bv90 : v90 = 0 ∨ v90 = 1 := by rw [ev90]; exact (zb_ite (Or.inr rfl) (Or.inl rfl))
                refine zv_bipush (a := 9) G (by decide) dX0_plain_189 ?_
                refine zv_iload_n G rfl rfl dX0_plain_191 ?_
                refine zv_callV (as := [ar p, ai v90, ai 9, ai x3_1]) (st := []) G M (zc_eV (C := zcn 1) G q235 q237 qs5 (Or.inl ⟨rfl, rfl⟩) q238 md_X0_need (zc_rc G (zne tu29 tu29.1 (by decide)) tu29.1 (by decide) (by decide) rfl) rfl dX0_plain_192) (S 10 _ rfl _ _ _ h (zoks_cons trivial (zoks_cons rv90 (zoks_cons (zr_k 9 (by decide) (by decide)) (zoks_cons rx3_1 zoks_nil))))) (Or.inl ⟨rfl, rfl⟩) (zc_hk q238 q143) (by decide) (Nat.le_of_ble_eq_true rfl) (fun u91 h => ?_) (fun x97 u98 h => ?_)
                rotate_left
                · exact zx_leave G M rfl h
                refine zc_wk G hp (fun hu91 tu91 => ?_)
                refine zv_aload_n G rfl rfl dX0_plain_195 ?_
                refine zv_iload_n G rfl rfl dX0_plain_196 ?_
                refine zv_callR (as := [ar p, ai x1]) (st := []) G M (zc_eV (C := zcn 1) G q945 q947 qs27 (Or.inl ⟨rfl, rfl⟩) q948 md_X0_either (zc_rc G (zne tu91 tu91.1 (by decide)) tu91.1 (by decide) (by decide) rfl) rfl dX0_plain_197) (S 32 _ rfl _ _ _ h (zoks_cons trivial (zoks_cons rx1 zoks_nil))) (Or.inl ⟨rfl, rfl⟩) (zc_hk q948 q143) (by decide) (Nat.le_of_ble_eq_true rfl) (fun v94 u93 h => ?_) (fun x95 u96 h => ?_)
                rotate_left
                · exact zx_leave G M rfl h
                refine zc_wk G hp (fun hu93 tu93 => ?_)
                exact zv_aret G M (Or.inl ⟨_, rfl⟩) dX0_plain_200 h
              refine zv_if_ne (tgt := 188) G rx2 (by decide) dX0_plain_181 (fun c100 => ?_) (fun c100 => ?_)
              · refine zv_iconst (a := 0) G (by decide) dX0_plain_188 ?_
                exact kj99 _ (if_neg c100).symm
              · refine zv_iconst (a := 1) G (by decide) dX0_plain_184 ?_
                refine zv_goto (tgt := 189) G (by decide) dX0_plain_185 ?_
                exact kj99 _ (if_pos c100).symm
          · have h := h.1 c28
            refine zv_aload_n G rfl rfl dX0_plain_163 ?_
            refine zv_iload_n G rfl rfl dX0_plain_164 ?_
            refine zv_iload_n G rfl rfl dX0_plain_165 ?_
            refine zv_callR (as := [ar p, ai x1, ai x2]) (st := []) G M (zc_eV (C := zcn 1) G q916 q918 qs25 (Or.inl ⟨rfl, rfl⟩) q919 md_X0_kinded (zc_rc G (zne tu25 tu25.1 (by decide)) tu25.1 (by decide) (by decide) rfl) rfl dX0_plain_166) (S 29 _ rfl _ _ _ h (zoks_cons trivial (zoks_cons rx1 (zoks_cons rx2 zoks_nil)))) (Or.inl ⟨rfl, rfl⟩) (zc_hk q919 q143) (by decide) (Nat.le_of_ble_eq_true rfl) (fun v102 u101 h => ?_) (fun x103 u104 h => ?_)
            rotate_left
            · exact zx_leave G M rfl h
            refine zc_wk G hp (fun hu101 tu101 => ?_)
            exact zv_aret G M (Or.inl ⟨_, rfl⟩) dX0_plain_169 h
        · have h := h.2 c27
          exact zv_pick [0, 1, 2, 3] rfl (cpC_X0_plain_118 hp G M S hl hk rx1 rx2 rx3_1 h)
    · have h := h.2 c5
      refine zv_aload_n G rfl rfl dX0_plain_73 ?_
      refine zv_iload_n G rfl rfl dX0_plain_74 ?_
      have kj118 : ∀ v105 : Int, v105 = (if x2 = 0 then 1 else 0) → ZV Γ u3 83 [(3, ai x3_1), (0, ar p), (1, ai x1), (2, ai x2)] (ai v105 :: ar p :: []) := by
        intro v105 ev105
        have h := h v105 ev105
        have rv105 : zr v105 := by rw [ev105]; exact (zr_ite (zr_k 1 (by decide) (by decide)) (zr_k 0 (by decide) (by decide)))
        have bv105 : v105 = 0 ∨ v105 = 1 := by rw [ev105]; exact (zb_ite (Or.inr rfl) (Or.inl rfl))
        refine zv_bipush (a := 9) G (by decide) dX0_plain_83 ?_
        refine zv_iload_n G rfl rfl dX0_plain_85 ?_
        refine zv_callV (as := [ar p, ai v105, ai 9, ai x3_1]) (st := []) G M (zc_eV (C := zcn 1) G q235 q237 qs5 (Or.inl ⟨rfl, rfl⟩) q238 md_X0_need (zc_rc G (zne tu3 tu3.1 (by decide)) tu3.1 (by decide) (by decide) rfl) rfl dX0_plain_86) (S 10 _ rfl _ _ _ h (zoks_cons trivial (zoks_cons rv105 (zoks_cons (zr_k 9 (by decide) (by decide)) (zoks_cons rx3_1 zoks_nil))))) (Or.inl ⟨rfl, rfl⟩) (zc_hk q238 q143) (by decide) (Nat.le_of_ble_eq_true rfl) (fun u106 h => ?_) (fun x116 u117 h => ?_)
        rotate_left
        · exact zx_leave G M rfl h
        refine zc_wk G hp (fun hu106 tu106 => ?_)
        refine zv_aload_n G rfl rfl dX0_plain_89 ?_
        refine zv_callV (as := [ar p]) (st := []) G M (zc_eV (C := zcn 1) G q213 q215 qs1 (Or.inl ⟨rfl, rfl⟩) q216 md_X0_next (zc_rc G (zne tu106 tu106.1 (by decide)) tu106.1 (by decide) (by decide) rfl) rfl dX0_plain_90) (S 4 _ rfl _ _ _ h (zoks_cons trivial zoks_nil)) (Or.inl ⟨rfl, rfl⟩) (zc_hk q216 q143) (by decide) (Nat.le_of_ble_eq_true rfl) (fun u108 h => ?_) (fun x114 u115 h => ?_)
        rotate_left
        · exact zx_leave G M rfl h
        refine zc_wk G hp (fun hu108 tu108 => ?_)
        have o111 := h.1
        have h := h.2
        refine zc_new (ci := 5) (t := 6) (n := 1) G M rfl rfl (by decide) rfl q858 q859 q163 o111 dX0_plain_93 (fun u110 eu110 => ?_)
        have h := h u110 eu110
        refine zc_wk G hp (fun hu110 tu110 => ?_)
        refine zv_dup G rfl dX0_plain_96 ?_
        refine zv_callV (as := [ar (cz u108 + 1)]) (st := [ar (cz u108 + 1)]) G M (zc_eIN G rfl q860 q861 q862 md_X7_init (Nat.succ_ne_zero _) rfl dX0_plain_97) (S 95 _ rfl _ _ _ h (zoks_cons trivial zoks_nil)) (Or.inl ⟨rfl, rfl⟩) (zc_hk q862 q163) (by decide) (Nat.le_of_ble_eq_true rfl) (fun u112 h => ?_) (fun _ _ h => h.elim)
        refine zc_wk G hp (fun hu112 tu112 => ?_)
        exact zv_aret G M (Or.inl ⟨_, rfl⟩) dX0_plain_100 h
      refine zv_if_ne (tgt := 82) G rx2 (by decide) dX0_plain_75 (fun c119 => ?_) (fun c119 => ?_)
      · refine zv_iconst (a := 0) G (by decide) dX0_plain_82 ?_
        exact kj118 _ (if_neg c119).symm
      · refine zv_iconst (a := 1) G (by decide) dX0_plain_78 ?_
        refine zv_goto (tgt := 83) G (by decide) dX0_plain_79 ?_
        exact kj118 _ (if_pos c119).symm
  · have h := h.1 c2
    have o121 := h.1
    have h := h.2
    refine zc_new (ci := 5) (t := 6) (n := 1) G M rfl rfl (by decide) rfl q858 q859 q163 o121 dX0_plain_13 (fun u120 eu120 => ?_)
    have h := h u120 eu120
    refine zc_wk G hp (fun hu120 tu120 => ?_)
    refine zv_dup G rfl dX0_plain_16 ?_
    refine zv_callV (as := [ar (cz w + 1)]) (st := [ar (cz w + 1)]) G M (zc_eIN G rfl q860 q861 q862 md_X7_init (Nat.succ_ne_zero _) rfl dX0_plain_17) (S 95 _ rfl _ _ _ h (zoks_cons trivial zoks_nil)) (Or.inl ⟨rfl, rfl⟩) (zc_hk q862 q163) (by decide) (Nat.le_of_ble_eq_true rfl) (fun u122 h => ?_) (fun _ _ h => h.elim)
    refine zc_wk G hp (fun hu122 tu122 => ?_)
    refine zv_astore G (by decide) rfl dX0_plain_20 ?_
    refine zv_aload_n G rfl rfl dX0_plain_22 ?_
    refine zv_iload_n G rfl rfl dX0_plain_23 ?_
    refine zv_callI (as := [ar p, ai x1]) (st := []) G M (zc_eV (C := zcn 1) G q876 q878 qs20 (Or.inl ⟨rfl, rfl⟩) q879 md_X0_nameAt (zc_rc G (zne tu122 tu122.1 (by decide)) tu122.1 (by decide) (by decide) rfl) rfl dX0_plain_24) (S 24 _ rfl _ _ _ h (zoks_cons trivial (zoks_cons rx1 zoks_nil))) (Or.inl ⟨rfl, rfl⟩) (zc_hk q879 q143) (by decide) (Nat.le_of_ble_eq_true rfl) (fun v125 u124 rv125 h => ?_) (fun x143 u144 h => ?_)
    rotate_left
    · exact zx_leave G M rfl h
    refine zc_wk G hp (fun hu124 tu124 => ?_)
    refine zv_istore G (by decide) rfl dX0_plain_27 ?_
    refine zv_aload_n G rfl rfl dX0_plain_29 ?_
    refine zv_iload_n G rfl rfl dX0_plain_30 ?_
    have kj141 : ∀ v126 : Int, v126 = (if x2 = 0 then 1 else 0) → ZV Γ u124 39 [(5, ai v125), (4, ar (cz w + 1)), (3, ai x3_1), (0, ar p), (1, ai x1), (2, ai x2)] (ai v126 :: ar p :: []) := by
      intro v126 ev126
      have h := h v126 ev126
      have rv126 : zr v126 := by rw [ev126]; exact (zr_ite (zr_k 1 (by decide) (by decide)) (zr_k 0 (by decide) (by decide)))
      have bv126 : v126 = 0 ∨ v126 = 1 := by rw [ev126]; exact (zb_ite (Or.inr rfl) (Or.inl rfl))
      refine zv_bipush (a := 9) G (by decide) dX0_plain_39 ?_
      refine zv_iload_n G rfl rfl dX0_plain_41 ?_
      refine zv_callV (as := [ar p, ai v126, ai 9, ai x3_1]) (st := []) G M (zc_eV (C := zcn 1) G q235 q237 qs5 (Or.inl ⟨rfl, rfl⟩) q238 md_X0_need (zc_rc G (zne tu124 tu124.1 (by decide)) tu124.1 (by decide) (by decide) rfl) rfl dX0_plain_42) (S 10 _ rfl _ _ _ h (zoks_cons trivial (zoks_cons rv126 (zoks_cons (zr_k 9 (by decide) (by decide)) (zoks_cons rx3_1 zoks_nil))))) (Or.inl ⟨rfl, rfl⟩) (zc_hk q238 q143) (by decide) (Nat.le_of_ble_eq_true rfl) (fun u127 h => ?_) (fun x139 u140 h => ?_)
      rotate_left
      · exact zx_leave G M rfl h
      refine zc_wk G hp (fun hu127 tu127 => ?_)
      refine zv_aload G rfl dX0_plain_45 ?_
      refine zv_aload_n G rfl rfl dX0_plain_47 ?_
      refine zv_iload G rfl dX0_plain_48 ?_
      refine zv_iload_n G rfl rfl dX0_plain_50 ?_
      refine zv_callI (as := [ar p, ai v125, ai x1]) (st := [ar (cz w + 1)]) G M (zc_eV (C := zcn 1) G q880 q882 qs21 (Or.inl ⟨rfl, rfl⟩) q883 md_X0_bind (zc_rc G (zne tu127 tu127.1 (by decide)) tu127.1 (by decide) (by decide) rfl) rfl dX0_plain_51) (S 25 _ rfl _ _ _ h (zoks_cons trivial (zoks_cons rv125 (zoks_cons rx1 zoks_nil)))) (Or.inl ⟨rfl, rfl⟩) (zc_hk q883 q143) (by decide) (Nat.le_of_ble_eq_true rfl) (fun v130 u129 rv130 h => ?_) (fun x137 u138 h => ?_)
      rotate_left
      · exact zx_leave G M rfl h
      refine zc_wk G hp (fun hu129 tu129 => ?_)
      have o132 := h.1
      have h := h.2
      refine zc_putI (f := 68) G M o132 rfl q871 (Or.inr q872) (Or.inl rfl) (zfty_68) rfl rfl (by decide) (by decide) rv130 dX0_plain_54 (fun u131 eu131 => ?_)
      have h := h u131 eu131
      refine zc_wk G hp (fun hu131 tu131 => ?_)
      refine zv_aload_n G rfl rfl dX0_plain_57 ?_
      refine zv_callV (as := [ar p]) (st := []) G M (zc_eV (C := zcn 1) G q213 q215 qs1 (Or.inl ⟨rfl, rfl⟩) q216 md_X0_next (zc_rc G (zne tu131 tu131.1 (by decide)) tu131.1 (by decide) (by decide) rfl) rfl dX0_plain_58) (S 4 _ rfl _ _ _ h (zoks_cons trivial zoks_nil)) (Or.inl ⟨rfl, rfl⟩) (zc_hk q216 q143) (by decide) (Nat.le_of_ble_eq_true rfl) (fun u133 h => ?_) (fun x135 u136 h => ?_)
      rotate_left
      · exact zx_leave G M rfl h
      refine zc_wk G hp (fun hu133 tu133 => ?_)
      refine zv_aload G rfl dX0_plain_61 ?_
      exact zv_aret G M (Or.inl ⟨_, rfl⟩) dX0_plain_63 h
    refine zv_if_ne (tgt := 38) G rx2 (by decide) dX0_plain_31 (fun c142 => ?_) (fun c142 => ?_)
    · refine zv_iconst (a := 0) G (by decide) dX0_plain_38 ?_
      exact kj141 _ (if_neg c142).symm
    · refine zv_iconst (a := 1) G (by decide) dX0_plain_34 ?_
      refine zv_goto (tgt := 39) G (by decide) dX0_plain_35 ?_
      exact kj141 _ (if_pos c142).symm
end ZCC0
