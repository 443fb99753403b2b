/-! walks of the component's methods, printed by tools/comp.py -/
section ZCC4
set_option maxHeartbeats 4000000 in
set_option maxRecDepth 100000 in
theorem cpC_X18_ends_90 {Γ : ZG CW} {D : CD} {d p : Nat} (hp : D.K.1 = p) (G : ZOk Γ cX18_ends RX18 9 (KnC D) (ZC D)) (M : ZRm Γ (d + 1) D.lim (Option.some (Jvm.ClassFile.FieldType.object "LetterPost$Node")) "ends" []) (S : SdC d D p Γ.l) (hl : Γ.l.stackTraces = false) (hk : 0 ≤ d) {x0 : Nat} {x5 : Nat} {x6 : Nat} {x7 : Int} {w : CW} (rx7 : zr x7) (h : pC_X18_ends_90 p (wpC p d) (fun v w => Γ.Q (.inl (some (ar v))) w) (fun x w => Γ.Q (.inr x) w) x0 x5 x6 x7 w) : ZV Γ w 90 [(0, ar x0), (5, ar x5), (6, ar x6), (7, ai x7)] [] := by
  refine zc_wk G hp (fun hw tw => ?_)
  refine zv_aload G rfl dX18_ends_90 ?_
  refine zv_iconst (a := 1) G (by decide) dX18_ends_92 ?_
  have o14 := h.1
  have h := h.2
  refine zc_anew (t := 113) G M (by decide) q1402 o14.1 o14.2 dX18_ends_93 (fun u13 eu13 => ?_)
  have h := h u13 eu13
  refine zc_wk G hp (fun hu13 tu13 => ?_)
  refine zv_dup G rfl dX18_ends_96 ?_
  refine zv_iconst (a := 0) G (by decide) dX18_ends_97 ?_
  refine zv_aload_n G rfl rfl dX18_ends_98 ?_
  refine zv_aload G rfl dX18_ends_99 ?_
  refine zv_iload G rfl dX18_ends_101 ?_
  have o24 := h.1
  have h := h.2
  refine zv_callR (as := [ar x0, ar x6, ai x7]) (st := [ai 0, ar (cz w + 1), ar (cz w + 1), ar x5]) G M (zc_eV (C := zcn 16) G q1403 q1286 q1287 (Or.inl ⟨rfl, rfl⟩) q1288 md_X18_make (zc_rc G (zne tu13 o24 (by decide)) o24 (by decide) (by decide) rfl) rfl dX18_ends_103) (S 133 _ rfl _ _ _ h (zoks_cons trivial (zoks_cons trivial (zoks_cons rx7 zoks_nil)))) (Or.inl ⟨rfl, rfl⟩) (zc_hk q1288 q174) (by decide) (Nat.le_of_ble_eq_true rfl) (fun v16 u15 h => ?_) (fun x22 u23 h => ?_)
  rotate_left
  · exact zx_leave G M rfl h
  refine zc_wk G hp (fun hu15 tu15 => ?_)
  have o18 := h.1
  have h := h.2
  have o19 := h.1
  have h := h.2
  refine zc_aast G o18.1 o19 (zr_k 0 (by decide) (by decide)) o18.2.1 o18.2.2 dX18_ends_106 (fun u17 eu17 => ?_)
  have h := h u17 eu17
  refine zc_wk G hp (fun hu17 tu17 => ?_)
  have o21 := h.1
  have h := h.2
  refine zc_putR (f := 107) G M o21 rfl q1356 (Or.inr q1347) (Or.inl rfl) (zfty_107) (Or.inr ⟨_, rfl⟩) rfl dX18_ends_107 (fun u20 eu20 => ?_)
  have h := h u20 eu20
  refine zc_wk G hp (fun hu20 tu20 => ?_)
  refine zv_aload G rfl dX18_ends_110 ?_
  exact zv_aret G M (Or.inl ⟨_, rfl⟩) dX18_ends_112 h
set_option maxHeartbeats 4000000 in
set_option maxRecDepth 100000 in
theorem cpC_X18_ends_84 {Γ : ZG CW} {D : CD} {d p : Nat} (hp : D.K.1 = p) (G : ZOk Γ cX18_ends RX18 9 (KnC D) (ZC D)) (M : ZRm Γ (d + 1) D.lim (Option.some (Jvm.ClassFile.FieldType.object "LetterPost$Node")) "ends" []) (S : SdC d D p Γ.l) (hl : Γ.l.stackTraces = false) (hk : 0 ≤ d) {I51 : Int → Int → CW → Prop} {x0 : Nat} {x2 : Nat} {x3 : Int} {x4 : Nat} {x5 : Nat} {x6 : Nat} {x7 : Int} {x8 : Int} {w : CW} (hI51 : ∀ (x7 : Int) (x8 : Int) (w : CW), I51 x7 x8 w → zr x7 → zr x8 → ZV Γ w 51 [(0, ar x0), (2, ar x2), (3, ai x3), (4, ar x4), (5, ar x5), (6, ar x6), (7, ai x7), (8, ai x8)] []) (rx3 : zr x3) (rx7 : zr x7) (rx8 : zr x8) (h : pC_X18_ends_84 p (wpC p d) (fun v w => Γ.Q (.inl (some (ar v))) w) (fun x w => Γ.Q (.inr x) w) I51 x0 x2 x3 x4 x5 x6 x7 x8 w) : ZV Γ w 84 [(0, ar x0), (2, ar x2), (3, ai x3), (4, ar x4), (5, ar x5), (6, ar x6), (7, ai x7), (8, ai x8)] [] := by
  refine zc_wk G hp (fun hw tw => ?_)
  refine zv_iincN G rfl (by decide) dX18_ends_84 (fun x8_29 ex8_29 => ?_)
  have h := h x8_29 ex8_29
  have rx8_29 : zr x8_29 := by rw [ex8_29]; exact w32_r _
  refine zv_goto (tgt := 51) G (by decide) dX18_ends_87 ?_
  exact zv_pick [0, 2, 3, 4, 5, 6, 7, 8] rfl (hI51 _ _ _ h rx7 rx8_29)
set_option maxHeartbeats 4000000 in
set_option maxRecDepth 100000 in
theorem cpC_X18_ends_51 {Γ : ZG CW} {D : CD} {d p : Nat} (hp : D.K.1 = p) (G : ZOk Γ cX18_ends RX18 9 (KnC D) (ZC D)) (M : ZRm Γ (d + 1) D.lim (Option.some (Jvm.ClassFile.FieldType.object "LetterPost$Node")) "ends" []) (S : SdC d D p Γ.l) (hl : Γ.l.stackTraces = false) (hk : 0 ≤ d) {x0 : Nat} {x2 : Nat} {x3 : Int} {x4 : Nat} {x5 : Nat} {x6 : Nat} {x7 : Int} {x8 : Int} {w : CW} (rx3 : zr x3) (rx7 : zr x7) (rx8 : zr x8) (h : pC_X18_ends_51 p (wpC p d) (fun v w => Γ.Q (.inl (some (ar v))) w) (fun x w => Γ.Q (.inr x) w) x0 x2 x3 x4 x5 x6 x7 x8 w) : ZV Γ w 51 [(0, ar x0), (2, ar x2), (3, ai x3), (4, ar x4), (5, ar x5), (6, ar x6), (7, ai x7), (8, ai x8)] [] := by
  obtain ⟨I51, eI51⟩ : ∃ I : Int → Int → CW → Prop, I = (fun x7 x8 w => zr x7 → zr x8 → ZV Γ w 51 [(0, ar x0), (2, ar x2), (3, ai x3), (4, ar x4), (5, ar x5), (6, ar x6), (7, ai x7), (8, ai x8)] []) := ⟨_, rfl⟩
  have hI51 : ∀ (x7 : Int) (x8 : Int) (w : CW), I51 x7 x8 w → zr x7 → zr x8 → ZV Γ w 51 [(0, ar x0), (2, ar x2), (3, ai x3), (4, ar x4), (5, ar x5), (6, ar x6), (7, ai x7), (8, ai x8)] [] := by subst eI51; exact fun _ _ _ z => z
  have hJ51 : ∀ (x7 : Int) (x8 : Int) (w : CW), (zr x7 → zr x8 → ZV Γ w 51 [(0, ar x0), (2, ar x2), (3, ai x3), (4, ar x4), (5, ar x5), (6, ar x6), (7, ai x7), (8, ai x8)] []) → I51 x7 x8 w := by subst eI51; exact fun _ _ _ z => z
  refine hI51 x7 x8 w (h I51 (fun x7 x8 w h => hJ51 x7 x8 w (fun rx7 rx8 => ?_))) rx7 rx8
  refine zc_wk G hp (fun hw tw => ?_)
  refine zv_iload G rfl dX18_ends_51 ?_
  refine zv_iload_n G rfl rfl dX18_ends_53 ?_
  refine zv_icmp_ge (tgt := 90) G rx8 rx3 (by decide) dX18_ends_54 (fun c12 => ?_) (fun c12 => ?_)
  · have h := h.1 c12
    exact zv_pick [0, 5, 6, 7] rfl (cpC_X18_ends_90 hp G M S hl hk rx7 h)
  · have h := h.2 c12
    refine zv_aload_n G rfl rfl dX18_ends_57 ?_
    refine zv_iload G rfl dX18_ends_58 ?_
    have o25 := h.1
    have h := h.2
    refine zc_aald G o25.1 rx8 o25.2.1 o25.2.2 dX18_ends_60 ?_
    have o26 := h.1
    have h := h.2
    refine zc_get (f := 80) (v := ar (fR w 80 (aR w x2 x8))) G o26 rfl q1104 (Or.inl rfl) (cV_R rfl) dX18_ends_61 ?_
    refine zv_aload G rfl dX18_ends_64 ?_
    have o27 := h.1
    have h := h.2
    refine zc_get (f := 80) (v := ar (fR w 80 x4)) G o27 rfl q1104 (Or.inl rfl) (cV_R rfl) dX18_ends_66 ?_
    refine zv_acmp_eq (tgt := 84) G (by decide) dX18_ends_69 (fun c28 => ?_) (fun c28 => ?_)
    · have h := h.1 c28
      exact zv_pick [0, 2, 3, 4, 5, 6, 7, 8] rfl (cpC_X18_ends_84 hp G M S hl hk hI51 rx3 rx7 rx8 h)
    · have h := h.2 c28
      refine zv_aload G rfl dX18_ends_72 ?_
      refine zv_iload G rfl dX18_ends_74 ?_
      refine zv_aload_n G rfl rfl dX18_ends_76 ?_
      refine zv_iload G rfl dX18_ends_77 ?_
      have o30 := h.1
      have h := h.2
      refine zc_aald G o30.1 rx8 o30.2.1 o30.2.2 dX18_ends_79 ?_
      have o32 := h.1
      have h := h.2
      have o33 := h.1
      have h := h.2
      refine zc_aast G o32.1 o33 rx7 o32.2.1 o32.2.2 dX18_ends_80 (fun u31 eu31 => ?_)
      have h := h u31 eu31
      refine zc_wk G hp (fun hu31 tu31 => ?_)
      refine zv_iincN G rfl (by decide) dX18_ends_81 (fun x7_34 ex7_34 => ?_)
      have h := h x7_34 ex7_34
      have rx7_34 : zr x7_34 := by rw [ex7_34]; exact w32_r _
      exact zv_pick [0, 2, 3, 4, 5, 6, 7, 8] rfl (cpC_X18_ends_84 hp G M S hl hk hI51 rx3 rx7_34 rx8 h)
set_option maxHeartbeats 4000000 in
set_option maxRecDepth 100000 in
theorem cpC_X18_ends_0 {Γ : ZG CW} {D : CD} {d p : Nat} (hp : D.K.1 = p) (G : ZOk Γ cX18_ends RX18 9 (KnC D) (ZC D)) (M : ZRm Γ (d + 1) D.lim (Option.some (Jvm.ClassFile.FieldType.object "LetterPost$Node")) "ends" []) (S : SdC d D p Γ.l) (hl : Γ.l.stackTraces = false) (hk : 0 ≤ d) {x0 : Nat} {x1 : Int} {x2 : Nat} {x3 : Int} {w : CW} (rx1 : zr x1) (rx3 : zr x3) (h : pC_X18_ends_0 p (wpC p d) (fun v w => Γ.Q (.inl (some (ar v))) w) (fun x w => Γ.Q (.inr x) w) x0 x1 x2 x3 w) : ZV Γ w 0 [(0, ar x0), (1, ai x1), (2, ar x2), (3, ai x3)] [] := by
  refine zc_wk G hp (fun hw tw => ?_)
  refine zv_aload_n G rfl rfl dX18_ends_0 ?_
  refine zv_iconst (a := 0) G (by decide) dX18_ends_1 ?_
  have o1 := h.1
  have h := h.2
  refine zc_aald G o1.1 (zr_k 0 (by decide) (by decide)) o1.2.1 o1.2.2 dX18_ends_2 ?_
  refine zv_astoreN G (by decide) dX18_ends_3 (fun x4_2 ex4_2 => ?_)
  have h := h x4_2 ex4_2
  refine zv_aload G rfl dX18_ends_5 ?_
  have o3 := h.1
  have h := h.2
  refine zc_get (f := 80) (v := ar (fR w 80 x4_2)) G o3 rfl q1104 (Or.inl rfl) (cV_R rfl) dX18_ends_7 ?_
  have o4 := h.1
  have h := h.2
  refine zc_get (f := 59) (v := ar (fR w 59 (fR w 80 x4_2))) G o4 rfl q810 (Or.inl rfl) (cV_R rfl) dX18_ends_10 ?_
  refine zv_ifnonnull (tgt := 27) G (by decide) dX18_ends_13 (fun c5 => ?_) (fun c5 => ?_)
  · have h := h.2 c5
    have o7 := h.1
    have h := h.2
    refine zc_new (ci := 20) (t := 21) (n := 3) G M rfl rfl (by decide) rfl q1392 q1393 q180 o7 dX18_ends_27 (fun u6 eu6 => ?_)
    have h := h u6 eu6
    refine zc_wk G hp (fun hu6 tu6 => ?_)
    refine zv_dup G rfl dX18_ends_30 ?_
    refine zv_iload_n G rfl rfl dX18_ends_31 ?_
    refine zv_aload G rfl dX18_ends_32 ?_
    refine zv_callV (as := [ar (cz w + 1), ai x1, ar x4_2]) (st := [ar (cz w + 1)]) G M (zc_eI G rfl q1394 q1395 q1396 md_X24_init (Nat.succ_ne_zero _) rfl dX18_ends_34) (S 166 _ rfl _ _ _ h (zoks_cons trivial (zoks_cons rx1 (zoks_cons trivial zoks_nil)))) (Or.inl ⟨rfl, rfl⟩) (zc_hk q1396 q180) (by decide) (Nat.le_of_ble_eq_true rfl) (fun u8 h => ?_) (fun _ _ h => h.elim)
    refine zc_wk G hp (fun hu8 tu8 => ?_)
    refine zv_astore G (by decide) rfl dX18_ends_37 ?_
    refine zv_iload_n G rfl rfl dX18_ends_39 ?_
    have o11 := h.1
    have h := h.2
    refine zc_anew (t := 116) G M (by decide) q1289 o11.1 o11.2 dX18_ends_40 (fun u10 eu10 => ?_)
    have h := h u10 eu10
    refine zc_wk G hp (fun hu10 tu10 => ?_)
    refine zv_astore G (by decide) rfl dX18_ends_43 ?_
    refine zv_iconst (a := 0) G (by decide) dX18_ends_45 ?_
    refine zv_istore G (by decide) rfl dX18_ends_46 ?_
    refine zv_iconst (a := 1) G (by decide) dX18_ends_48 ?_
    refine zv_istore G (by decide) rfl dX18_ends_49 ?_
    exact zv_pick [0, 2, 3, 4, 5, 6, 7, 8] rfl (cpC_X18_ends_51 hp G M S hl hk rx3 (zr_k 0 (by decide) (by decide)) (zr_k 1 (by decide) (by decide)) h)
  · have h := h.1 c5
    have o36 := h.1
    have h := h.2
    refine zc_new (ci := 19) (t := 20) (n := 3) G M rfl rfl (by decide) rfl q1379 q1380 q179 o36 dX18_ends_16 (fun u35 eu35 => ?_)
    have h := h u35 eu35
    refine zc_wk G hp (fun hu35 tu35 => ?_)
    refine zv_dup G rfl dX18_ends_19 ?_
    refine zv_iload_n G rfl rfl dX18_ends_20 ?_
    refine zv_aload G rfl dX18_ends_21 ?_
    refine zv_callV (as := [ar (cz w + 1), ai x1, ar x4_2]) (st := [ar (cz w + 1)]) G M (zc_eI G rfl q1381 q1382 q1383 md_X23_init (Nat.succ_ne_zero _) rfl dX18_ends_23) (S 162 _ rfl _ _ _ h (zoks_cons trivial (zoks_cons rx1 (zoks_cons trivial zoks_nil)))) (Or.inl ⟨rfl, rfl⟩) (zc_hk q1383 q179) (by decide) (Nat.le_of_ble_eq_true rfl) (fun u37 h => ?_) (fun _ _ h => h.elim)
    refine zc_wk G hp (fun hu37 tu37 => ?_)
    exact zv_aret G M (Or.inl ⟨_, rfl⟩) dX18_ends_26 h
set_option maxHeartbeats 4000000 in
set_option maxRecDepth 100000 in
theorem cpC_X18_chosen_115 {Γ : ZG CW} {D : CD} {d p : Nat} (hp : D.K.1 = p) (G : ZOk Γ cX18_chosen RX18 7 (KnC D) (ZC D)) (M : ZRm Γ (d + 1) D.lim (Option.some (Jvm.ClassFile.FieldType.object "LetterPost$Place")) "chosen" []) (S : SdC d D p Γ.l) (hl : Γ.l.stackTraces = false) (hk : 0 ≤ d) {I23 : Int → Int → CW → Prop} {x0 : Nat} {x1 : Nat} {x2 : Int} {x3 : Int} {x4 : Int} {x5 : Int} {s0 : Int} {w : CW} (hI23 : ∀ (x4 : Int) (x5 : Int) (w : CW), I23 x4 x5 w → zr x4 → zr x5 → ZV Γ w 23 [(0, ar x0), (1, ar x1), (2, ai x2), (3, ai x3), (4, ai x4), (5, ai x5)] []) (rx2 : zr x2) (rx3 : zr x3) (rx4 : zr x4) (rx5 : zr x5) (rs0 : zr s0) (h : pC_X18_chosen_115 p (wpC p d) (fun v w => Γ.Q (.inl (some (ar v))) w) I23 x0 x1 x2 x3 x4 x5 s0 w) : ZV Γ w 115 [(0, ar x0), (1, ar x1), (2, ai x2), (3, ai x3), (4, ai x4), (5, ai x5)] [ai s0] := by
  refine zc_wk G hp (fun hw tw => ?_)
  refine zv_istore G (by decide) rfl dX18_chosen_115 ?_
  refine zv_iload G rfl dX18_chosen_117 ?_
  have kj17 : ∀ v15 : Int, v15 = (if ¬ (s0 = 0) then x5 else x4) → ZV Γ w 129 [(6, ai s0), (0, ar x0), (1, ar x1), (2, ai x2), (3, ai x3), (4, ai x4), (5, ai x5)] (ai v15 :: []) := by
    intro v15 ev15
    have h := h v15 ev15
    have rv15 : zr v15 := by rw [ev15]; exact (zr_ite rx5 rx4)
    refine zv_istore G (by decide) rfl dX18_chosen_129 ?_
    refine zv_iincN G rfl (by decide) dX18_chosen_131 (fun x5_16 ex5_16 => ?_)
    have h := h x5_16 ex5_16
    have rx5_16 : zr x5_16 := by rw [ex5_16]; exact w32_r _
    refine zv_goto (tgt := 23) G (by decide) dX18_chosen_134 ?_
    exact zv_pick [0, 1, 2, 3, 4, 5] rfl (hI23 _ _ _ h rv15 rx5_16)
  refine zv_if_eq (tgt := 127) G rs0 (by decide) dX18_chosen_119 (fun c18 => ?_) (fun c18 => ?_)
  · refine zv_iload G rfl dX18_chosen_127 ?_
    exact kj17 _ (if_neg (fun q => q c18)).symm
  · refine zv_iload G rfl dX18_chosen_122 ?_
    refine zv_goto (tgt := 129) G (by decide) dX18_chosen_124 ?_
    exact kj17 _ (if_pos c18).symm
set_option maxHeartbeats 4000000 in
set_option maxRecDepth 100000 in
theorem cpC_X18_chosen_137 {Γ : ZG CW} {D : CD} {d p : Nat} (hp : D.K.1 = p) (G : ZOk Γ cX18_chosen RX18 7 (KnC D) (ZC D)) (M : ZRm Γ (d + 1) D.lim (Option.some (Jvm.ClassFile.FieldType.object "LetterPost$Place")) "chosen" []) (S : SdC d D p Γ.l) (hl : Γ.l.stackTraces = false) (hk : 0 ≤ d) {x0 : Nat} {x4 : Int} {w : CW} (rx4 : zr x4) (h : pC_X18_chosen_137 p (wpC p d) (fun v w => Γ.Q (.inl (some (ar v))) w) x0 x4 w) : ZV Γ w 137 [(0, ar x0), (4, ai x4)] [] := by
  refine zc_wk G hp (fun hw tw => ?_)
  refine zv_aload_n G rfl rfl dX18_chosen_137 ?_
  have o32 := h.1
  have h := h.2
  refine zc_get (f := 94) (v := ar (fR w 94 x0)) G o32 rfl q1266 (Or.inl rfl) (cV_R rfl) dX18_chosen_138 ?_
  refine zv_iload G rfl dX18_chosen_141 ?_
  have o33 := h.1
  have h := h.2
  refine zc_aald G o33.1 rx4 o33.2.1 o33.2.2 dX18_chosen_143 ?_
  exact zv_aret G M (Or.inl ⟨_, rfl⟩) dX18_chosen_144 h
set_option maxHeartbeats 4000000 in
set_option maxRecDepth 100000 in
theorem cpC_X18_chosen_23 {Γ : ZG CW} {D : CD} {d p : Nat} (hp : D.K.1 = p) (G : ZOk Γ cX18_chosen RX18 7 (KnC D) (ZC D)) (M : ZRm Γ (d + 1) D.lim (Option.some (Jvm.ClassFile.FieldType.object "LetterPost$Place")) "chosen" []) (S : SdC d D p Γ.l) (hl : Γ.l.stackTraces = false) (hk : 0 ≤ d) {x0 : Nat} {x1 : Nat} {x2 : Int} {x3 : Int} {x4 : Int} {x5 : Int} {w : CW} (rx2 : zr x2) (rx3 : zr x3) (rx4 : zr x4) (rx5 : zr x5) (h : pC_X18_chosen_23 p (wpC p d) (fun v w => Γ.Q (.inl (some (ar v))) w) x0 x1 x2 x3 x4 x5 w) : ZV Γ w 23 [(0, ar x0), (1, ar x1), (2, ai x2), (3, ai x3), (4, ai x4), (5, ai x5)] [] := by
  obtain ⟨I23, eI23⟩ : ∃ I : Int → Int → CW → Prop, I = (fun x4 x5 w => zr x4 → zr x5 → ZV Γ w 23 [(0, ar x0), (1, ar x1), (2, ai x2), (3, ai x3), (4, ai x4), (5, ai x5)] []) := ⟨_, rfl⟩
  have hI23 : ∀ (x4 : Int) (x5 : Int) (w : CW), I23 x4 x5 w → zr x4 → zr x5 → ZV Γ w 23 [(0, ar x0), (1, ar x1), (2, ai x2), (3, ai x3), (4, ai x4), (5, ai x5)] [] := by subst eI23; exact fun _ _ _ z => z
  have hJ23 : ∀ (x4 : Int) (x5 : Int) (w : CW), (zr x4 → zr x5 → ZV Γ w 23 [(0, ar x0), (1, ar x1), (2, ai x2), (3, ai x3), (4, ai x4), (5, ai x5)] []) → I23 x4 x5 w := by subst eI23; exact fun _ _ _ z => z
  refine hI23 x4 x5 w (h I23 (fun x4 x5 w h => hJ23 x4 x5 w (fun rx4 rx5 => ?_))) rx4 rx5
  refine zc_wk G hp (fun hw tw => ?_)
  refine zv_iload G rfl dX18_chosen_23 ?_
  refine zv_iload_n G rfl rfl dX18_chosen_25 ?_
  have o3 := h.1
  have h := h.2
  have kt34 : ¬ (x3 ≤ x5) ∧ (¬ ((fI w 92 x0) ≤ 0)) → ZV Γ w 36 [(0, ar x0), (1, ar x1), (2, ai x2), (3, ai x3), (4, ai x4), (5, ai x5)] [] := by
    intro c36
    have h := h.1 c36
    refine zv_aload_n G rfl rfl dX18_chosen_36 ?_
    have o4 := h.1
    have h := h.2
    refine zc_get (f := 92) (v := ai (fI w 92 x0)) G o4 rfl q1264 (Or.inl rfl) (cV_I (by decide) (by decide)) dX18_chosen_37 ?_
    refine zv_iconst (a := 1) G (by decide) dX18_chosen_40 ?_
    refine zv_icmp_ne (tgt := 81) G (hw.i 92 _ (by decide)) (zr_k 1 (by decide) (by decide)) (by decide) dX18_chosen_41 (fun c5 => ?_) (fun c5 => ?_)
    · have h := h.2 c5
      refine zv_aload_n G rfl rfl dX18_chosen_81 ?_
      refine zv_aload_n G rfl rfl dX18_chosen_82 ?_
      refine zv_iload_n G rfl rfl dX18_chosen_83 ?_
      refine zv_aload_n G rfl rfl dX18_chosen_84 ?_
      have o6 := h.1
      have h := h.2
      refine zc_get (f := 94) (v := ar (fR w 94 x0)) G o6 rfl q1266 (Or.inl rfl) (cV_R rfl) dX18_chosen_85 ?_
      refine zv_iload G rfl dX18_chosen_88 ?_
      have o7 := h.1
      have h := h.2
      refine zc_aald G o7.1 rx5 o7.2.1 o7.2.2 dX18_chosen_90 ?_
      have o20 := h.1
      have h := h.2
      refine zv_callI (as := [ar x0, ar x1, ai x2, ar (aR w (fR w 94 x0) x5)]) (st := []) G M (zc_eV (C := zcn 16) G q1416 q1418 qs41 (Or.inl ⟨rfl, rfl⟩) q1419 md_X18_branches (zc_rc G (zne tw o20 (by decide)) o20 (by decide) (by decide) rfl) rfl dX18_chosen_91) (S 137 _ rfl _ _ _ h (zoks_cons trivial (zoks_cons trivial (zoks_cons rx2 (zoks_cons trivial zoks_nil))))) (Or.inl ⟨rfl, rfl⟩) (zc_hk q1419 q174) (by decide) (Nat.le_of_ble_eq_true rfl) (fun v9 u8 rv9 h => ?_) (fun _ _ h => h.elim)
      refine zc_wk G hp (fun hu8 tu8 => ?_)
      refine zv_aload_n G rfl rfl dX18_chosen_94 ?_
      refine zv_aload_n G rfl rfl dX18_chosen_95 ?_
      refine zv_iload_n G rfl rfl dX18_chosen_96 ?_
      refine zv_aload_n G rfl rfl dX18_chosen_97 ?_
      have o10 := h.1
      have h := h.2
      refine zc_get (f := 94) (v := ar (fR u8 94 x0)) G o10 rfl q1266 (Or.inl rfl) (cV_R rfl) dX18_chosen_98 ?_
      refine zv_iload G rfl dX18_chosen_101 ?_
      have o11 := h.1
      have h := h.2
      refine zc_aald G o11.1 rx4 o11.2.1 o11.2.2 dX18_chosen_103 ?_
      have o19 := h.1
      have h := h.2
      refine zv_callI (as := [ar x0, ar x1, ai x2, ar (aR u8 (fR u8 94 x0) x4)]) (st := [ai v9]) G M (zc_eV (C := zcn 16) G q1416 q1418 qs41 (Or.inl ⟨rfl, rfl⟩) q1419 md_X18_branches (zc_rc G (zne tu8 o19 (by decide)) o19 (by decide) (by decide) rfl) rfl dX18_chosen_104) (S 137 _ rfl _ _ _ h (zoks_cons trivial (zoks_cons trivial (zoks_cons rx2 (zoks_cons trivial zoks_nil))))) (Or.inl ⟨rfl, rfl⟩) (zc_hk q1419 q174) (by decide) (Nat.le_of_ble_eq_true rfl) (fun v13 u12 rv13 h => ?_) (fun _ _ h => h.elim)
      refine zc_wk G hp (fun hu12 tu12 => ?_)
      refine zv_icmp_ge (tgt := 114) G rv9 rv13 (by decide) dX18_chosen_107 (fun c14 => ?_) (fun c14 => ?_)
      · have h := h.1 c14
        refine zv_iconst (a := 0) G (by decide) dX18_chosen_114 ?_
        exact zv_pick [0, 1, 2, 3, 4, 5] rfl (cpC_X18_chosen_115 hp G M S hl hk hI23 rx2 rx3 rx4 rx5 (zr_k 0 (by decide) (by decide)) h)
      · have h := h.2 c14
        refine zv_iconst (a := 1) G (by decide) dX18_chosen_110 ?_
        refine zv_goto (tgt := 115) G (by decide) dX18_chosen_111 ?_
        exact zv_pick [0, 1, 2, 3, 4, 5] rfl (cpC_X18_chosen_115 hp G M S hl hk hI23 rx2 rx3 rx4 rx5 (zr_k 1 (by decide) (by decide)) h)
    · have h := h.1 c5
      refine zv_aload_n G rfl rfl dX18_chosen_44 ?_
      refine zv_aload_n G rfl rfl dX18_chosen_45 ?_
      refine zv_iload_n G rfl rfl dX18_chosen_46 ?_
      refine zv_aload_n G rfl rfl dX18_chosen_47 ?_
      have o21 := h.1
      have h := h.2
      refine zc_get (f := 94) (v := ar (fR w 94 x0)) G o21 rfl q1266 (Or.inl rfl) (cV_R rfl) dX18_chosen_48 ?_
      refine zv_iload G rfl dX18_chosen_51 ?_
      have o22 := h.1
      have h := h.2
      refine zc_aald G o22.1 rx5 o22.2.1 o22.2.2 dX18_chosen_53 ?_
      have o31 := h.1
      have h := h.2
      refine zv_callI (as := [ar x0, ar x1, ai x2, ar (aR w (fR w 94 x0) x5)]) (st := []) G M (zc_eV (C := zcn 16) G q1408 q1410 qs40 (Or.inl ⟨rfl, rfl⟩) q1411 md_X18_wanted (zc_rc G (zne tw o31 (by decide)) o31 (by decide) (by decide) rfl) rfl dX18_chosen_54) (S 136 _ rfl _ _ _ h (zoks_cons trivial (zoks_cons trivial (zoks_cons rx2 (zoks_cons trivial zoks_nil))))) (Or.inl ⟨rfl, rfl⟩) (zc_hk q1411 q174) (by decide) (Nat.le_of_ble_eq_true rfl) (fun v24 u23 rv24 h => ?_) (fun _ _ h => h.elim)
      refine zc_wk G hp (fun hu23 tu23 => ?_)
      refine zv_aload_n G rfl rfl dX18_chosen_57 ?_
      refine zv_aload_n G rfl rfl dX18_chosen_58 ?_
      refine zv_iload_n G rfl rfl dX18_chosen_59 ?_
      refine zv_aload_n G rfl rfl dX18_chosen_60 ?_
      have o25 := h.1
      have h := h.2
      refine zc_get (f := 94) (v := ar (fR u23 94 x0)) G o25 rfl q1266 (Or.inl rfl) (cV_R rfl) dX18_chosen_61 ?_
      refine zv_iload G rfl dX18_chosen_64 ?_
      have o26 := h.1
      have h := h.2
      refine zc_aald G o26.1 rx4 o26.2.1 o26.2.2 dX18_chosen_66 ?_
      have o30 := h.1
      have h := h.2
      refine zv_callI (as := [ar x0, ar x1, ai x2, ar (aR u23 (fR u23 94 x0) x4)]) (st := [ai v24]) G M (zc_eV (C := zcn 16) G q1408 q1410 qs40 (Or.inl ⟨rfl, rfl⟩) q1411 md_X18_wanted (zc_rc G (zne tu23 o30 (by decide)) o30 (by decide) (by decide) rfl) rfl dX18_chosen_67) (S 136 _ rfl _ _ _ h (zoks_cons trivial (zoks_cons trivial (zoks_cons rx2 (zoks_cons trivial zoks_nil))))) (Or.inl ⟨rfl, rfl⟩) (zc_hk q1411 q174) (by decide) (Nat.le_of_ble_eq_true rfl) (fun v28 u27 rv28 h => ?_) (fun _ _ h => h.elim)
      refine zc_wk G hp (fun hu27 tu27 => ?_)
      refine zv_icmp_le (tgt := 77) G rv24 rv28 (by decide) dX18_chosen_70 (fun c29 => ?_) (fun c29 => ?_)
      · have h := h.1 c29
        refine zv_iconst (a := 0) G (by decide) dX18_chosen_77 ?_
        refine zv_goto (tgt := 115) G (by decide) dX18_chosen_78 ?_
        exact zv_pick [0, 1, 2, 3, 4, 5] rfl (cpC_X18_chosen_115 hp G M S hl hk hI23 rx2 rx3 rx4 rx5 (zr_k 0 (by decide) (by decide)) h)
      · have h := h.2 c29
        refine zv_iconst (a := 1) G (by decide) dX18_chosen_73 ?_
        refine zv_goto (tgt := 115) G (by decide) dX18_chosen_74 ?_
        exact zv_pick [0, 1, 2, 3, 4, 5] rfl (cpC_X18_chosen_115 hp G M S hl hk hI23 rx2 rx3 rx4 rx5 (zr_k 1 (by decide) (by decide)) h)
  have kf35 : ¬ (¬ (x3 ≤ x5) ∧ (¬ ((fI w 92 x0) ≤ 0))) → ZV Γ w 137 [(0, ar x0), (1, ar x1), (2, ai x2), (3, ai x3), (4, ai x4), (5, ai x5)] [] := by
    intro c36
    have h := h.2 c36
    exact zv_pick [0, 4] rfl (cpC_X18_chosen_137 hp G M S hl hk rx4 h)
  refine zv_icmp_ge (tgt := 137) G rx5 rx3 (by decide) dX18_chosen_26 (fun c37 => ?_) (fun c37 => ?_)
  · exact kf35 (fun q => q.1 c37)
  · refine zv_aload_n G rfl rfl dX18_chosen_29 ?_
    refine zc_get (f := 92) (v := ai (fI w 92 x0)) G (o3 c37) rfl q1264 (Or.inl rfl) (cV_I (by decide) (by decide)) dX18_chosen_30 ?_
    refine zv_if_le (tgt := 137) G (hw.i 92 _ (by decide)) (by decide) dX18_chosen_33 (fun c38 => ?_) (fun c38 => ?_)
    · exact kf35 (fun q => (fun q => q c38) q.2)
    · exact kt34 ⟨c37, c38⟩
set_option maxHeartbeats 4000000 in
set_option maxRecDepth 100000 in
theorem cpC_X18_chosen_0 {Γ : ZG CW} {D : CD} {d p : Nat} (hp : D.K.1 = p) (G : ZOk Γ cX18_chosen RX18 7 (KnC D) (ZC D)) (M : ZRm Γ (d + 1) D.lim (Option.some (Jvm.ClassFile.FieldType.object "LetterPost$Place")) "chosen" []) (S : SdC d D p Γ.l) (hl : Γ.l.stackTraces = false) (hk : 0 ≤ d) {x0 : Nat} {x1 : Nat} {x2 : Int} {x3 : Int} {w : CW} (rx2 : zr x2) (rx3 : zr x3) (h : pC_X18_chosen_0 p (wpC p d) (fun v w => Γ.Q (.inl (some (ar v))) w) x0 x1 x2 x3 w) : ZV Γ w 0 [(0, ar x0), (1, ar x1), (2, ai x2), (3, ai x3)] [] := by
  refine zc_wk G hp (fun hw tw => ?_)
  refine zv_aload_n G rfl rfl dX18_chosen_0 ?_
  have o1 := h.1
  have h := h.2
  refine zc_get (f := 92) (v := ai (fI w 92 x0)) G o1 rfl q1264 (Or.inl rfl) (cV_I (by decide) (by decide)) dX18_chosen_1 ?_
  refine zv_iconst (a := 3) G (by decide) dX18_chosen_4 ?_
  refine zv_icmp_ne (tgt := 17) G (hw.i 92 _ (by decide)) (zr_k 3 (by decide) (by decide)) (by decide) dX18_chosen_5 (fun c2 => ?_) (fun c2 => ?_)
  · have h := h.2 c2
    refine zv_iconst (a := 0) G (by decide) dX18_chosen_17 ?_
    refine zv_istore G (by decide) rfl dX18_chosen_18 ?_
    refine zv_iconst (a := 1) G (by decide) dX18_chosen_20 ?_
    refine zv_istore G (by decide) rfl dX18_chosen_21 ?_
    exact zv_pick [0, 1, 2, 3, 4, 5] rfl (cpC_X18_chosen_23 hp G M S hl hk rx2 rx3 (zr_k 0 (by decide) (by decide)) (zr_k 1 (by decide) (by decide)) h)
  · have h := h.1 c2
    refine zv_aload_n G rfl rfl dX18_chosen_8 ?_
    have o39 := h.1
    have h := h.2
    refine zc_get (f := 94) (v := ar (fR w 94 x0)) G o39 rfl q1266 (Or.inl rfl) (cV_R rfl) dX18_chosen_9 ?_
    refine zv_iload_n G rfl rfl dX18_chosen_12 ?_
    refine zv_iconst (a := 1) G (by decide) dX18_chosen_13 ?_
    refine zv_isub G dX18_chosen_14 ?_
    have o40 := h.1
    have h := h.2
    refine zc_aald G o40.1 (w32_r _) o40.2.1 o40.2.2 dX18_chosen_15 ?_
    exact zv_aret G M (Or.inl ⟨_, rfl⟩) dX18_chosen_16 h
set_option maxHeartbeats 4000000 in
set_option maxRecDepth 100000 in
theorem cpC_X18_wanted_43 {Γ : ZG CW} {D : CD} {d p : Nat} (hp : D.K.1 = p) (G : ZOk Γ cX18_wanted RX18 6 (KnC D) (ZC D)) (M : ZRm Γ (d + 1) D.lim (Option.some Jvm.ClassFile.FieldType.int) "wanted" []) (S : SdC d D p Γ.l) (hl : Γ.l.stackTraces = false) (hk : 0 ≤ d) {x4 : Int} {w : CW} (rx4 : zr x4) (h : pC_X18_wanted_43 p (wpC p d) (fun v w => Γ.Q (.inl (some (ai v))) w) x4 w) : ZV Γ w 43 [(4, ai x4)] [] := by
  refine zc_wk G hp (fun hw tw => ?_)
  refine zv_iload G rfl dX18_wanted_43 ?_
  exact zv_iret (ty := .int) rx4 G M rfl dX18_wanted_45 h
set_option maxHeartbeats 4000000 in
set_option maxRecDepth 100000 in
theorem cpC_X18_wanted_6 {Γ : ZG CW} {D : CD} {d p : Nat} (hp : D.K.1 = p) (G : ZOk Γ cX18_wanted RX18 6 (KnC D) (ZC D)) (M : ZRm Γ (d + 1) D.lim (Option.some Jvm.ClassFile.FieldType.int) "wanted" []) (S : SdC d D p Γ.l) (hl : Γ.l.stackTraces = false) (hk : 0 ≤ d) {x0 : Nat} {x1 : Nat} {x2 : Int} {x3 : Nat} {x4 : Int} {x5 : Int} {w : CW} (rx2 : zr x2) (rx4 : zr x4) (rx5 : zr x5) (h : pC_X18_wanted_6 p (wpC p d) (fun v w => Γ.Q (.inl (some (ai v))) w) x0 x1 x2 x3 x4 x5 w) : ZV Γ w 6 [(0, ar x0), (1, ar x1), (2, ai x2), (3, ar x3), (4, ai x4), (5, ai x5)] [] := by
  obtain ⟨I6, eI6⟩ : ∃ I : Int → Int → CW → Prop, I = (fun x4 x5 w => zr x4 → zr x5 → ZV Γ w 6 [(0, ar x0), (1, ar x1), (2, ai x2), (3, ar x3), (4, ai x4), (5, ai x5)] []) := ⟨_, rfl⟩
  have hI6 : ∀ (x4 : Int) (x5 : Int) (w : CW), I6 x4 x5 w → zr x4 → zr x5 → ZV Γ w 6 [(0, ar x0), (1, ar x1), (2, ai x2), (3, ar x3), (4, ai x4), (5, ai x5)] [] := by subst eI6; exact fun _ _ _ z => z
  have hJ6 : ∀ (x4 : Int) (x5 : Int) (w : CW), (zr x4 → zr x5 → ZV Γ w 6 [(0, ar x0), (1, ar x1), (2, ai x2), (3, ar x3), (4, ai x4), (5, ai x5)] []) → I6 x4 x5 w := by subst eI6; exact fun _ _ _ z => z
  refine hI6 x4 x5 w (h I6 (fun x4 x5 w h => hJ6 x4 x5 w (fun rx4 rx5 => ?_))) rx4 rx5
  refine zc_wk G hp (fun hw tw => ?_)
  refine zv_iload G rfl dX18_wanted_6 ?_
  refine zv_iload_n G rfl rfl dX18_wanted_8 ?_
  refine zv_icmp_ge (tgt := 43) G rx5 rx2 (by decide) dX18_wanted_9 (fun c1 => ?_) (fun c1 => ?_)
  · have h := h.1 c1
    exact zv_pick [4] rfl (cpC_X18_wanted_43 hp G M S hl hk rx4 h)
  · have h := h.2 c1
    refine zv_iload G rfl dX18_wanted_12 ?_
    refine zv_aload_n G rfl rfl dX18_wanted_14 ?_
    refine zv_iload G rfl dX18_wanted_15 ?_
    have o2 := h.1
    have h := h.2
    refine zc_aald G o2.1 rx5 o2.2.1 o2.2.2 dX18_wanted_17 ?_
    refine zv_aload_n G rfl rfl dX18_wanted_18 ?_
    have o3 := h.1
    have h := h.2
    refine zc_get (f := 91) (v := ar (fR w 91 x0)) G o3 rfl q1263 (Or.inl rfl) (cV_R rfl) dX18_wanted_19 ?_
    refine zv_aload_n G rfl rfl dX18_wanted_22 ?_
    have o11 := h.1
    have h := h.2
    refine zv_callR (as := [ar (aR w x1 x5), ar (fR w 91 x0), ar x3]) (st := [ai x4]) G M (zc_eV (C := zcn 14) G q1412 q1413 q1414 (Or.inl ⟨rfl, rfl⟩) q1415 md_X16_left (zc_rc G (zne tw o11 (by decide)) o11 (by decide) (by decide) rfl) rfl dX18_wanted_23) (S 128 _ rfl _ _ _ h (zoks_cons trivial (zoks_cons trivial (zoks_cons trivial zoks_nil)))) (Or.inl ⟨rfl, rfl⟩) (zc_hk q1415 q172) (by decide) (Nat.le_of_ble_eq_true rfl) (fun v5 u4 h => ?_) (fun _ _ h => h.elim)
    refine zc_wk G hp (fun hu4 tu4 => ?_)
    have kj9 : ∀ v6 : Int, v6 = (if ¬ (v5 = 0) then 1 else 0) → ZV Γ u4 34 [(0, ar x0), (1, ar x1), (2, ai x2), (3, ar x3), (4, ai x4), (5, ai x5)] (ai v6 :: ai x4 :: []) := by
      intro v6 ev6
      have h := h v6 ev6
      have rv6 : zr v6 := by rw [ev6]; exact (zr_ite (zr_k 1 (by decide) (by decide)) (zr_k 0 (by decide) (by decide)))
      have bv6 : v6 = 0 ∨ v6 = 1 := by rw [ev6]; exact (zb_ite (Or.inr rfl) (Or.inl rfl))
      refine zv_iadd G dX18_wanted_34 ?_
      refine zv_istoreN G (by decide) dX18_wanted_35 (fun x4_7 ex4_7 => ?_)
      have h := h x4_7 ex4_7
      have rx4_7 : zr x4_7 := by rw [ex4_7]; exact (w32_r _)
      refine zv_iincN G rfl (by decide) dX18_wanted_37 (fun x5_8 ex5_8 => ?_)
      have h := h x5_8 ex5_8
      have rx5_8 : zr x5_8 := by rw [ex5_8]; exact w32_r _
      refine zv_goto (tgt := 6) G (by decide) dX18_wanted_40 ?_
      exact zv_pick [0, 1, 2, 3, 4, 5] rfl (hI6 _ _ _ h rx4_7 rx5_8)
    refine zv_ifnonnull (tgt := 33) G (by decide) dX18_wanted_26 (fun c10 => ?_) (fun c10 => ?_)
    · refine zv_iconst (a := 1) G (by decide) dX18_wanted_33 ?_
      exact kj9 _ (if_pos c10).symm
    · refine zv_iconst (a := 0) G (by decide) dX18_wanted_29 ?_
      refine zv_goto (tgt := 34) G (by decide) dX18_wanted_30 ?_
      exact kj9 _ (if_neg (fun q => q c10)).symm
set_option maxHeartbeats 4000000 in
set_option maxRecDepth 100000 in
theorem cpC_X18_wanted_0 {Γ : ZG CW} {D : CD} {d p : Nat} (hp : D.K.1 = p) (G : ZOk Γ cX18_wanted RX18 6 (KnC D) (ZC D)) (M : ZRm Γ (d + 1) D.lim (Option.some Jvm.ClassFile.FieldType.int) "wanted" []) (S : SdC d D p Γ.l) (hl : Γ.l.stackTraces = false) (hk : 0 ≤ d) {x0 : Nat} {x1 : Nat} {x2 : Int} {x3 : Nat} {w : CW} (rx2 : zr x2) (h : pC_X18_wanted_0 p (wpC p d) (fun v w => Γ.Q (.inl (some (ai v))) w) x0 x1 x2 x3 w) : ZV Γ w 0 [(0, ar x0), (1, ar x1), (2, ai x2), (3, ar x3)] [] := by
  refine zc_wk G hp (fun hw tw => ?_)
  refine zv_iconst (a := 0) G (by decide) dX18_wanted_0 ?_
  refine zv_istore G (by decide) rfl dX18_wanted_1 ?_
  refine zv_iconst (a := 0) G (by decide) dX18_wanted_3 ?_
  refine zv_istore G (by decide) rfl dX18_wanted_4 ?_
  exact zv_pick [0, 1, 2, 3, 4, 5] rfl (cpC_X18_wanted_6 hp G M S hl hk rx2 (zr_k 0 (by decide) (by decide)) (zr_k 0 (by decide) (by decide)) h)
set_option maxHeartbeats 4000000 in
set_option maxRecDepth 100000 in
theorem cpC_X18_branches_60 {Γ : ZG CW} {D : CD} {d p : Nat} (hp : D.K.1 = p) (G : ZOk Γ cX18_branches RX18 4 (KnC D) (ZC D)) (M : ZRm Γ (d + 1) D.lim (Option.some Jvm.ClassFile.FieldType.int) "branches" []) (S : SdC d D p Γ.l) (hl : Γ.l.stackTraces = false) (hk : 0 ≤ d) {s0 : Int} {w : CW} (rs0 : zr s0) (h : pC_X18_branches_60 p (wpC p d) (fun v w => Γ.Q (.inl (some (ai v))) w) s0 w) : ZV Γ w 60 [] [ai s0] := by
  refine zc_wk G hp (fun hw tw => ?_)
  exact zv_iret (ty := .int) rs0 G M rfl dX18_branches_60 h
set_option maxHeartbeats 4000000 in
set_option maxRecDepth 100000 in
theorem cpC_X18_branches_0 {Γ : ZG CW} {D : CD} {d p : Nat} (hp : D.K.1 = p) (G : ZOk Γ cX18_branches RX18 4 (KnC D) (ZC D)) (M : ZRm Γ (d + 1) D.lim (Option.some Jvm.ClassFile.FieldType.int) "branches" []) (S : SdC d D p Γ.l) (hl : Γ.l.stackTraces = false) (hk : 0 ≤ d) {x0 : Nat} {x1 : Nat} {x2 : Int} {x3 : Nat} {w : CW} (rx2 : zr x2) (h : pC_X18_branches_0 p (wpC p d) (fun v w => Γ.Q (.inl (some (ai v))) w) x0 x1 x2 x3 w) : ZV Γ w 0 [(0, ar x0), (1, ar x1), (2, ai x2), (3, ar x3)] [] := by
  refine zc_wk G hp (fun hw tw => ?_)
  refine zv_aload_n G rfl rfl dX18_branches_0 ?_
  have o1 := h.1
  have h := h.2
  refine zc_get (f := 88) (v := ai (fI w 88 x3)) G o1 rfl q1142 (Or.inl rfl) (cV_I (by decide) (by decide)) dX18_branches_1 ?_
  refine zv_iconst (a := 3) G (by decide) dX18_branches_4 ?_
  refine zv_icmp_lt (tgt := 21) G (hw.i 88 _ (by decide)) (zr_k 3 (by decide) (by decide)) (by decide) dX18_branches_5 (fun c2 => ?_) (fun c2 => ?_)
  · have h := h.1 c2
    refine zv_aload_n G rfl rfl dX18_branches_21 ?_
    have o3 := h.1
    have h := h.2
    refine zc_get (f := 88) (v := ai (fI w 88 x3)) G o3 rfl q1142 (Or.inl rfl) (cV_I (by decide) (by decide)) dX18_branches_22 ?_
    refine zv_iconst (a := 1) G (by decide) dX18_branches_25 ?_
    refine zv_icmp_ne (tgt := 33) G (hw.i 88 _ (by decide)) (zr_k 1 (by decide) (by decide)) (by decide) dX18_branches_26 (fun c4 => ?_) (fun c4 => ?_)
    · have h := h.2 c4
      refine zv_aload_n G rfl rfl dX18_branches_33 ?_
      have o5 := h.1
      have h := h.2
      refine zc_get (f := 88) (v := ai (fI w 88 x3)) G o5 rfl q1142 (Or.inl rfl) (cV_I (by decide) (by decide)) dX18_branches_34 ?_
      refine zv_iconst (a := 2) G (by decide) dX18_branches_37 ?_
      refine zv_icmp_ne (tgt := 53) G (hw.i 88 _ (by decide)) (zr_k 2 (by decide) (by decide)) (by decide) dX18_branches_38 (fun c6 => ?_) (fun c6 => ?_)
      · have h := h.2 c6
        refine zv_aload_n G rfl rfl dX18_branches_53 ?_
        refine zv_aload_n G rfl rfl dX18_branches_54 ?_
        refine zv_iload_n G rfl rfl dX18_branches_55 ?_
        refine zv_aload_n G rfl rfl dX18_branches_56 ?_
        have o9 := h.1
        have h := h.2
        refine zv_callI (as := [ar x0, ar x1, ai x2, ar x3]) (st := []) G M (zc_eV (C := zcn 16) G q1431 q1433 qs44 (Or.inl ⟨rfl, rfl⟩) q1434 md_X18_borderMany (zc_rc G (zne tw o9 (by decide)) o9 (by decide) (by decide) rfl) rfl dX18_branches_57) (S 140 _ rfl _ _ _ h (zoks_cons trivial (zoks_cons trivial (zoks_cons rx2 (zoks_cons trivial zoks_nil))))) (Or.inl ⟨rfl, rfl⟩) (zc_hk q1434 q174) (by decide) (Nat.le_of_ble_eq_true rfl) (fun v8 u7 rv8 h => ?_) (fun _ _ h => h.elim)
        refine zc_wk G hp (fun hu7 tu7 => ?_)
        exact zv_pick [] rfl (cpC_X18_branches_60 hp G M S hl hk rv8 h)
      · have h := h.1 c6
        refine zv_aload_n G rfl rfl dX18_branches_41 ?_
        refine zv_aload_n G rfl rfl dX18_branches_42 ?_
        refine zv_iload_n G rfl rfl dX18_branches_43 ?_
        refine zv_aload_n G rfl rfl dX18_branches_44 ?_
        have o12 := h.1
        have h := h.2
        refine zv_callI (as := [ar x0, ar x1, ai x2, ar x3]) (st := []) G M (zc_eV (C := zcn 16) G q1426 q1428 qs43 (Or.inl ⟨rfl, rfl⟩) q1429 md_X18_textMany (zc_rc G (zne tw o12 (by decide)) o12 (by decide) (by decide) rfl) rfl dX18_branches_45) (S 139 _ rfl _ _ _ h (zoks_cons trivial (zoks_cons trivial (zoks_cons rx2 (zoks_cons trivial zoks_nil))))) (Or.inl ⟨rfl, rfl⟩) (zc_hk q1429 q174) (by decide) (Nat.le_of_ble_eq_true rfl) (fun v11 u10 rv11 h => ?_) (fun _ _ h => h.elim)
        refine zc_wk G hp (fun hu10 tu10 => ?_)
        refine zv_iconst (a := 1) G (by decide) dX18_branches_48 ?_
        refine zv_iadd G dX18_branches_49 ?_
        refine zv_goto (tgt := 60) G (by decide) dX18_branches_50 ?_
        exact zv_pick [] rfl (cpC_X18_branches_60 hp G M S hl hk (w32_r _) h)
    · have h := h.1 c4
      refine zv_iconst (a := 2) G (by decide) dX18_branches_29 ?_
      refine zv_goto (tgt := 60) G (by decide) dX18_branches_30 ?_
      exact zv_pick [] rfl (cpC_X18_branches_60 hp G M S hl hk (zr_k 2 (by decide) (by decide)) h)
  · have h := h.2 c2
    refine zv_aload_n G rfl rfl dX18_branches_8 ?_
    refine zv_aload_n G rfl rfl dX18_branches_9 ?_
    have o13 := h.1
    have h := h.2
    refine zc_get (f := 88) (v := ai (fI w 88 x3)) G o13 rfl q1142 (Or.inl rfl) (cV_I (by decide) (by decide)) dX18_branches_10 ?_
    have o16 := h.1
    have h := h.2
    refine zv_callI (as := [ar x0, ai (fI w 88 x3)]) (st := []) G M (zc_eV (C := zcn 16) G q1420 q1422 qs42 (Or.inl ⟨rfl, rfl⟩) q1423 md_X18_leafMany (zc_rc G (zne tw o16 (by decide)) o16 (by decide) (by decide) rfl) rfl dX18_branches_13) (S 138 _ rfl _ _ _ h (zoks_cons trivial (zoks_cons (hw.i 88 _ (by decide)) zoks_nil))) (Or.inl ⟨rfl, rfl⟩) (zc_hk q1423 q174) (by decide) (Nat.le_of_ble_eq_true rfl) (fun v15 u14 rv15 h => ?_) (fun _ _ h => h.elim)
    refine zc_wk G hp (fun hu14 tu14 => ?_)
    refine zv_iconst (a := 1) G (by decide) dX18_branches_16 ?_
    refine zv_iadd G dX18_branches_17 ?_
    refine zv_goto (tgt := 60) G (by decide) dX18_branches_18 ?_
    exact zv_pick [] rfl (cpC_X18_branches_60 hp G M S hl hk (w32_r _) h)
set_option maxHeartbeats 4000000 in
set_option maxRecDepth 100000 in
theorem cpC_X18_leafMany_67 {Γ : ZG CW} {D : CD} {d p : Nat} (hp : D.K.1 = p) (G : ZOk Γ cX18_leafMany RX18 4 (KnC D) (ZC D)) (M : ZRm Γ (d + 1) D.lim (Option.some Jvm.ClassFile.FieldType.int) "leafMany" []) (S : SdC d D p Γ.l) (hl : Γ.l.stackTraces = false) (hk : 0 ≤ d) {x2 : Int} {w : CW} (rx2 : zr x2) (h : pC_X18_leafMany_67 p (wpC p d) (fun v w => Γ.Q (.inl (some (ai v))) w) x2 w) : ZV Γ w 67 [(2, ai x2)] [] := by
  refine zc_wk G hp (fun hw tw => ?_)
  refine zv_iload_n G rfl rfl dX18_leafMany_67 ?_
  exact zv_iret (ty := .int) rx2 G M rfl dX18_leafMany_68 h
set_option maxHeartbeats 4000000 in
set_option maxRecDepth 100000 in
theorem cpC_X18_leafMany_59 {Γ : ZG CW} {D : CD} {d p : Nat} (hp : D.K.1 = p) (G : ZOk Γ cX18_leafMany RX18 4 (KnC D) (ZC D)) (M : ZRm Γ (d + 1) D.lim (Option.some Jvm.ClassFile.FieldType.int) "leafMany" []) (S : SdC d D p Γ.l) (hl : Γ.l.stackTraces = false) (hk : 0 ≤ d) {I4 : Int → Int → CW → Prop} {x0 : Nat} {x1 : Int} {x3 : Int} {s0 : Int} {s1 : Int} {w : CW} (hI4 : ∀ (x2 : Int) (x3 : Int) (w : CW), I4 x2 x3 w → zr x2 → zr x3 → ZV Γ w 4 [(0, ar x0), (1, ai x1), (2, ai x2), (3, ai x3)] []) (rx1 : zr x1) (rx3 : zr x3) (rs0 : zr s0) (rs1 : zr s1) (h : pC_X18_leafMany_59 p (wpC p d) (fun v w => Γ.Q (.inl (some (ai v))) w) I4 x0 x1 x3 s0 s1 w) : ZV Γ w 59 [(0, ar x0), (1, ai x1), (3, ai x3)] [ai s0, ai s1] := by
  refine zc_wk G hp (fun hw tw => ?_)
  refine zv_iadd G dX18_leafMany_59 ?_
  refine zv_istore_nN G rfl (by decide) dX18_leafMany_60 (fun x2_9 ex2_9 => ?_)
  have h := h x2_9 ex2_9
  have rx2_9 : zr x2_9 := by rw [ex2_9]; exact (w32_r _)
  refine zv_iincN G rfl (by decide) dX18_leafMany_61 (fun x3_10 ex3_10 => ?_)
  have h := h x3_10 ex3_10
  have rx3_10 : zr x3_10 := by rw [ex3_10]; exact w32_r _
  refine zv_goto (tgt := 4) G (by decide) dX18_leafMany_64 ?_
  exact zv_pick [0, 1, 2, 3] rfl (hI4 _ _ _ h rx2_9 rx3_10)
set_option maxHeartbeats 4000000 in
set_option maxRecDepth 100000 in
theorem cpC_X18_leafMany_58 {Γ : ZG CW} {D : CD} {d p : Nat} (hp : D.K.1 = p) (G : ZOk Γ cX18_leafMany RX18 4 (KnC D) (ZC D)) (M : ZRm Γ (d + 1) D.lim (Option.some Jvm.ClassFile.FieldType.int) "leafMany" []) (S : SdC d D p Γ.l) (hl : Γ.l.stackTraces = false) (hk : 0 ≤ d) {I4 : Int → Int → CW → Prop} {x0 : Nat} {x1 : Int} {x3 : Int} {s0 : Int} {w : CW} (hI4 : ∀ (x2 : Int) (x3 : Int) (w : CW), I4 x2 x3 w → zr x2 → zr x3 → ZV Γ w 4 [(0, ar x0), (1, ai x1), (2, ai x2), (3, ai x3)] []) (rx1 : zr x1) (rx3 : zr x3) (rs0 : zr s0) (h : pC_X18_leafMany_58 p (wpC p d) (fun v w => Γ.Q (.inl (some (ai v))) w) I4 x0 x1 x3 s0 w) : ZV Γ w 58 [(0, ar x0), (1, ai x1), (3, ai x3)] [ai s0] := by
  refine zc_wk G hp (fun hw tw => ?_)
  refine zv_iconst (a := 0) G (by decide) dX18_leafMany_58 ?_
  exact zv_pick [0, 1, 3] rfl (cpC_X18_leafMany_59 hp G M S hl hk hI4 rx1 rx3 (zr_k 0 (by decide) (by decide)) rs0 h)
set_option maxHeartbeats 4000000 in
set_option maxRecDepth 100000 in
theorem cpC_X18_leafMany_4 {Γ : ZG CW} {D : CD} {d p : Nat} (hp : D.K.1 = p) (G : ZOk Γ cX18_leafMany RX18 4 (KnC D) (ZC D)) (M : ZRm Γ (d + 1) D.lim (Option.some Jvm.ClassFile.FieldType.int) "leafMany" []) (S : SdC d D p Γ.l) (hl : Γ.l.stackTraces = false) (hk : 0 ≤ d) {x0 : Nat} {x1 : Int} {x2 : Int} {x3 : Int} {w : CW} (rx1 : zr x1) (rx2 : zr x2) (rx3 : zr x3) (h : pC_X18_leafMany_4 p (wpC p d) (fun v w => Γ.Q (.inl (some (ai v))) w) x0 x1 x2 x3 w) : ZV Γ w 4 [(0, ar x0), (1, ai x1), (2, ai x2), (3, ai x3)] [] := by
  obtain ⟨I4, eI4⟩ : ∃ I : Int → Int → CW → Prop, I = (fun x2 x3 w => zr x2 → zr x3 → ZV Γ w 4 [(0, ar x0), (1, ai x1), (2, ai x2), (3, ai x3)] []) := ⟨_, rfl⟩
  have hI4 : ∀ (x2 : Int) (x3 : Int) (w : CW), I4 x2 x3 w → zr x2 → zr x3 → ZV Γ w 4 [(0, ar x0), (1, ai x1), (2, ai x2), (3, ai x3)] [] := by subst eI4; exact fun _ _ _ z => z
  have hJ4 : ∀ (x2 : Int) (x3 : Int) (w : CW), (zr x2 → zr x3 → ZV Γ w 4 [(0, ar x0), (1, ai x1), (2, ai x2), (3, ai x3)] []) → I4 x2 x3 w := by subst eI4; exact fun _ _ _ z => z
  refine hI4 x2 x3 w (h I4 (fun x2 x3 w h => hJ4 x2 x3 w (fun rx2 rx3 => ?_))) rx2 rx3
  refine zc_wk G hp (fun hw tw => ?_)
  refine zv_iload_n G rfl rfl dX18_leafMany_4 ?_
  refine zv_aload_n G rfl rfl dX18_leafMany_5 ?_
  have o1 := h.1
  have h := h.2
  refine zc_get (f := 97) (v := ar (fR w 97 x0)) G o1 rfl q1269 (Or.inl rfl) (cV_R rfl) dX18_leafMany_6 ?_
  have o2 := h.1
  have h := h.2
  refine zc_getN (f := 1) (v := ai (fI w 1 (fR w 97 x0))) G o2 rfl q2057 (Or.inl rfl) (cV_I (by decide) (by decide)) dX18_leafMany_9 ?_
  refine zv_icmp_ge (tgt := 67) G rx3 (hw.i 1 _ (by decide)) (by decide) dX18_leafMany_12 (fun c3 => ?_) (fun c3 => ?_)
  · have h := h.1 c3
    exact zv_pick [2] rfl (cpC_X18_leafMany_67 hp G M S hl hk rx2 h)
  · have h := h.2 c3
    refine zv_iload_n G rfl rfl dX18_leafMany_15 ?_
    refine zv_aload_n G rfl rfl dX18_leafMany_16 ?_
    have o4 := h.1
    have h := h.2
    refine zc_get (f := 97) (v := ar (fR w 97 x0)) G o4 rfl q1269 (Or.inl rfl) (cV_R rfl) dX18_leafMany_17 ?_
    have o5 := h.1
    have h := h.2
    refine zc_getN (f := 0) (v := ar (fR w 0 (fR w 97 x0))) G o5 rfl q2054 (Or.inl rfl) (cV_R rfl) dX18_leafMany_20 ?_
    refine zv_iload_n G rfl rfl dX18_leafMany_23 ?_
    have o6 := h.1
    have h := h.2
    refine zc_aald G o6.1 rx3 o6.2.1 o6.2.2 dX18_leafMany_24 ?_
    have o7 := h.1
    have h := h.2
    refine zc_get (f := 40) (v := ai (fI w 40 (aR w (fR w 0 (fR w 97 x0)) x3))) G o7 rfl q689 (Or.inl rfl) (cV_I (by decide) (by decide)) dX18_leafMany_25 ?_
    refine zv_if_ne (tgt := 58) G (hw.i 40 _ (by decide)) (by decide) dX18_leafMany_28 (fun c8 => ?_) (fun c8 => ?_)
    · have h := h.2 c8
      exact zv_pick [0, 1, 3] rfl (cpC_X18_leafMany_58 hp G M S hl hk hI4 rx1 rx3 rx2 h)
    · have h := h.1 c8
      refine zv_aload_n G rfl rfl dX18_leafMany_31 ?_
      have o11 := h.1
      have h := h.2
      refine zc_get (f := 97) (v := ar (fR w 97 x0)) G o11 rfl q1269 (Or.inl rfl) (cV_R rfl) dX18_leafMany_32 ?_
      have o12 := h.1
      have h := h.2
      refine zc_getN (f := 0) (v := ar (fR w 0 (fR w 97 x0))) G o12 rfl q2054 (Or.inl rfl) (cV_R rfl) dX18_leafMany_35 ?_
      refine zv_iload_n G rfl rfl dX18_leafMany_38 ?_
      have o13 := h.1
      have h := h.2
      refine zc_aald G o13.1 rx3 o13.2.1 o13.2.2 dX18_leafMany_39 ?_
      refine zv_aload_n G rfl rfl dX18_leafMany_40 ?_
      have o14 := h.1
      have h := h.2
      refine zc_get (f := 97) (v := ar (fR w 97 x0)) G o14 rfl q1269 (Or.inl rfl) (cV_R rfl) dX18_leafMany_41 ?_
      refine zv_iload_n G rfl rfl dX18_leafMany_44 ?_
      have o21 := h.1
      have h := h.2
      refine zv_callR (as := [ar (fR w 97 x0), ai x1]) (st := [ar (aR w (fR w 0 (fR w 97 x0)) x3), ai x2]) G M (zc_eVN (C := zcn 1) G q1424 q925 qs26 (Or.inl ⟨rfl, rfl⟩) q926 md_X0_kindOf (zc_rc G (zne tw o21 (by decide)) o21 (by decide) (by decide) rfl) rfl dX18_leafMany_45) (S 31 _ rfl _ _ _ h (zoks_cons trivial (zoks_cons rx1 zoks_nil))) (Or.inl ⟨rfl, rfl⟩) (zc_hk q926 q143) (by decide) (Nat.le_of_ble_eq_true rfl) (fun v16 u15 h => ?_) (fun _ _ h => h.elim)
      refine zc_wk G hp (fun hu15 tu15 => ?_)
      have o20 := h.1
      have h := h.2
      refine zv_callI (as := [ar (aR w (fR w 0 (fR w 97 x0)) x3), ar v16]) (st := [ai x2]) G M (zc_eV (C := zcn 3) G q1425 q928 q929 (Or.inl ⟨rfl, rfl⟩) q930 md_X3_is (zc_rc G (zne tu15 o20 (by decide)) o20 (by decide) (by decide) rfl) rfl dX18_leafMany_48) (S 83 _ rfl _ _ _ h (zoks_cons trivial (zoks_cons trivial zoks_nil))) (Or.inl ⟨rfl, rfl⟩) (zc_hk q930 q159) (by decide) (Nat.le_of_ble_eq_true rfl) (fun v18 u17 rv18 h => ?_) (fun _ _ h => h.elim)
      refine zc_wk G hp (fun hu17 tu17 => ?_)
      refine zv_if_eq (tgt := 58) G rv18 (by decide) dX18_leafMany_51 (fun c19 => ?_) (fun c19 => ?_)
      · have h := h.1 c19
        exact zv_pick [0, 1, 3] rfl (cpC_X18_leafMany_58 hp G M S hl hk hI4 rx1 rx3 rx2 h)
      · have h := h.2 c19
        refine zv_iconst (a := 1) G (by decide) dX18_leafMany_54 ?_
        refine zv_goto (tgt := 59) G (by decide) dX18_leafMany_55 ?_
        exact zv_pick [0, 1, 3] rfl (cpC_X18_leafMany_59 hp G M S hl hk hI4 rx1 rx3 (zr_k 1 (by decide) (by decide)) rx2 h)
set_option maxHeartbeats 4000000 in
set_option maxRecDepth 100000 in
theorem cpC_X18_leafMany_0 {Γ : ZG CW} {D : CD} {d p : Nat} (hp : D.K.1 = p) (G : ZOk Γ cX18_leafMany RX18 4 (KnC D) (ZC D)) (M : ZRm Γ (d + 1) D.lim (Option.some Jvm.ClassFile.FieldType.int) "leafMany" []) (S : SdC d D p Γ.l) (hl : Γ.l.stackTraces = false) (hk : 0 ≤ d) {x0 : Nat} {x1 : Int} {w : CW} (rx1 : zr x1) (h : pC_X18_leafMany_0 p (wpC p d) (fun v w => Γ.Q (.inl (some (ai v))) w) x0 x1 w) : ZV Γ w 0 [(0, ar x0), (1, ai x1)] [] := by
  refine zc_wk G hp (fun hw tw => ?_)
  refine zv_iconst (a := 0) G (by decide) dX18_leafMany_0 ?_
  refine zv_istore_n G rfl (by decide) rfl dX18_leafMany_1 ?_
  refine zv_iconst (a := 0) G (by decide) dX18_leafMany_2 ?_
  refine zv_istore_n G rfl (by decide) rfl dX18_leafMany_3 ?_
  exact zv_pick [0, 1, 2, 3] rfl (cpC_X18_leafMany_4 hp G M S hl hk rx1 (zr_k 0 (by decide) (by decide)) (zr_k 0 (by decide) (by decide)) h)
set_option maxHeartbeats 4000000 in
set_option maxRecDepth 100000 in
theorem cpC_X18_textMany_113 {Γ : ZG CW} {D : CD} {d p : Nat} (hp : D.K.1 = p) (G : ZOk Γ cX18_textMany RX18 11 (KnC D) (ZC D)) (M : ZRm Γ (d + 1) D.lim (Option.some Jvm.ClassFile.FieldType.int) "textMany" []) (S : SdC d D p Γ.l) (hl : Γ.l.stackTraces = false) (hk : 0 ≤ d) {x4 : Int} {w : CW} (rx4 : zr x4) (h : pC_X18_textMany_113 p (wpC p d) (fun v w => Γ.Q (.inl (some (ai v))) w) x4 w) : ZV Γ w 113 [(4, ai x4)] [] := by
  refine zc_wk G hp (fun hw tw => ?_)
  refine zv_iload G rfl dX18_textMany_113 ?_
  exact zv_iret (ty := .int) rx4 G M rfl dX18_textMany_115 h
set_option maxHeartbeats 4000000 in
set_option maxRecDepth 100000 in
theorem cpC_X18_textMany_107 {Γ : ZG CW} {D : CD} {d p : Nat} (hp : D.K.1 = p) (G : ZOk Γ cX18_textMany RX18 11 (KnC D) (ZC D)) (M : ZRm Γ (d + 1) D.lim (Option.some Jvm.ClassFile.FieldType.int) "textMany" []) (S : SdC d D p Γ.l) (hl : Γ.l.stackTraces = false) (hk : 0 ≤ d) {I6 : Int → Int → CW → Prop} {x0 : Nat} {x1 : Nat} {x2 : Int} {x3 : Nat} {x4 : Int} {x5 : Int} {w : CW} (hI6 : ∀ (x4 : Int) (x5 : Int) (w : CW), I6 x4 x5 w → zr x4 → zr x5 → ZV Γ w 6 [(0, ar x0), (1, ar x1), (2, ai x2), (3, ar x3), (4, ai x4), (5, ai x5)] []) (rx2 : zr x2) (rx4 : zr x4) (rx5 : zr x5) (h : pC_X18_textMany_107 p (wpC p d) (fun v w => Γ.Q (.inl (some (ai v))) w) I6 x0 x1 x2 x3 x4 x5 w) : ZV Γ w 107 [(0, ar x0), (1, ar x1), (2, ai x2), (3, ar x3), (4, ai x4), (5, ai x5)] [] := by
  refine zc_wk G hp (fun hw tw => ?_)
  refine zv_iincN G rfl (by decide) dX18_textMany_107 (fun x5_7 ex5_7 => ?_)
  have h := h x5_7 ex5_7
  have rx5_7 : zr x5_7 := by rw [ex5_7]; exact w32_r _
  refine zv_goto (tgt := 6) G (by decide) dX18_textMany_110 ?_
  exact zv_pick [0, 1, 2, 3, 4, 5] rfl (hI6 _ _ _ h rx4 rx5_7)
set_option maxHeartbeats 4000000 in
set_option maxRecDepth 100000 in
theorem cpC_X18_textMany_83 {Γ : ZG CW} {D : CD} {d p : Nat} (hp : D.K.1 = p) (G : ZOk Γ cX18_textMany RX18 11 (KnC D) (ZC D)) (M : ZRm Γ (d + 1) D.lim (Option.some Jvm.ClassFile.FieldType.int) "textMany" []) (S : SdC d D p Γ.l) (hl : Γ.l.stackTraces = false) (hk : 0 ≤ d) {I6 : Int → Int → CW → Prop} {x0 : Nat} {x1 : Nat} {x2 : Int} {x3 : Nat} {x4 : Int} {x5 : Int} {x7 : Int} {x9 : Int} {w : CW} (hI6 : ∀ (x4 : Int) (x5 : Int) (w : CW), I6 x4 x5 w → zr x4 → zr x5 → ZV Γ w 6 [(0, ar x0), (1, ar x1), (2, ai x2), (3, ar x3), (4, ai x4), (5, ai x5)] []) (rx2 : zr x2) (rx4 : zr x4) (rx5 : zr x5) (rx7 : zrl x7) (rx9 : zr x9) (h : pC_X18_textMany_83 p (wpC p d) (fun v w => Γ.Q (.inl (some (ai v))) w) I6 x0 x1 x2 x3 x4 x5 x7 x9 w) : ZV Γ w 83 [(0, ar x0), (1, ar x1), (2, ai x2), (3, ar x3), (4, ai x4), (5, ai x5), (7, al x7), (9, ai x9)] [] := by
  refine zc_wk G hp (fun hw tw => ?_)
  refine zv_aload_n G rfl rfl dX18_textMany_83 ?_
  have o12 := h.1
  have h := h.2
  refine zc_get (f := 95) (v := ar (fR w 95 x0)) G o12 rfl q1267 (Or.inl rfl) (cV_R rfl) dX18_textMany_84 ?_
  refine zv_iload G rfl dX18_textMany_87 ?_
  refine zv_lload G rfl dX18_textMany_89 ?_
  have o14 := h.1
  have h := h.2
  refine zc_last G o14.1 rx4 rx7 o14.2.1 o14.2.2 dX18_textMany_91 (fun u13 eu13 => ?_)
  have h := h u13 eu13
  refine zc_wk G hp (fun hu13 tu13 => ?_)
  refine zv_iload G rfl dX18_textMany_92 ?_
  refine zv_iload G rfl dX18_textMany_94 ?_
  have kj17 : ∀ v15 : Int, v15 = (if ¬ (x9 = 0) then 1 else 0) → ZV Γ u13 104 [(0, ar x0), (1, ar x1), (2, ai x2), (3, ar x3), (4, ai x4), (5, ai x5), (7, al x7), (9, ai x9)] (ai v15 :: ai x4 :: []) := by
    intro v15 ev15
    have h := h v15 ev15
    have rv15 : zr v15 := by rw [ev15]; exact (zr_ite (zr_k 1 (by decide) (by decide)) (zr_k 0 (by decide) (by decide)))
    have bv15 : v15 = 0 ∨ v15 = 1 := by rw [ev15]; exact (zb_ite (Or.inr rfl) (Or.inl rfl))
    refine zv_iadd G dX18_textMany_104 ?_
    refine zv_istoreN G (by decide) dX18_textMany_105 (fun x4_16 ex4_16 => ?_)
    have h := h x4_16 ex4_16
    have rx4_16 : zr x4_16 := by rw [ex4_16]; exact (w32_r _)
    exact zv_pick [0, 1, 2, 3, 4, 5] rfl (cpC_X18_textMany_107 hp G M S hl hk hI6 rx2 rx4_16 rx5 h)
  refine zv_if_eq (tgt := 103) G rx9 (by decide) dX18_textMany_96 (fun c18 => ?_) (fun c18 => ?_)
  · refine zv_iconst (a := 0) G (by decide) dX18_textMany_103 ?_
    exact kj17 _ (if_neg (fun q => q c18)).symm
  · refine zv_iconst (a := 1) G (by decide) dX18_textMany_99 ?_
    refine zv_goto (tgt := 104) G (by decide) dX18_textMany_100 ?_
    exact kj17 _ (if_pos c18).symm
set_option maxHeartbeats 4000000 in
set_option maxRecDepth 100000 in
theorem cpC_X18_textMany_47 {Γ : ZG CW} {D : CD} {d p : Nat} (hp : D.K.1 = p) (G : ZOk Γ cX18_textMany RX18 11 (KnC D) (ZC D)) (M : ZRm Γ (d + 1) D.lim (Option.some Jvm.ClassFile.FieldType.int) "textMany" []) (S : SdC d D p Γ.l) (hl : Γ.l.stackTraces = false) (hk : 0 ≤ d) {I6 : Int → Int → CW → Prop} {x0 : Nat} {x1 : Nat} {x2 : Int} {x3 : Nat} {x4 : Int} {x5 : Int} {x7 : Int} {x9 : Int} {x10 : Int} {w : CW} (hI6 : ∀ (x4 : Int) (x5 : Int) (w : CW), I6 x4 x5 w → zr x4 → zr x5 → ZV Γ w 6 [(0, ar x0), (1, ar x1), (2, ai x2), (3, ar x3), (4, ai x4), (5, ai x5)] []) (rx2 : zr x2) (rx4 : zr x4) (rx5 : zr x5) (rx7 : zrl x7) (rx9 : zr x9) (rx10 : zr x10) (h : pC_X18_textMany_47 p (wpC p d) (fun v w => Γ.Q (.inl (some (ai v))) w) I6 x0 x1 x2 x3 x4 x5 x7 x9 x10 w) : ZV Γ w 47 [(0, ar x0), (1, ar x1), (2, ai x2), (3, ar x3), (4, ai x4), (5, ai x5), (7, al x7), (9, ai x9), (10, ai x10)] [] := by
  obtain ⟨I47, eI47⟩ : ∃ I : Int → Int → CW → Prop, I = (fun x9 x10 w => zr x9 → zr x10 → ZV Γ w 47 [(0, ar x0), (1, ar x1), (2, ai x2), (3, ar x3), (4, ai x4), (5, ai x5), (7, al x7), (9, ai x9), (10, ai x10)] []) := ⟨_, rfl⟩
  have hI47 : ∀ (x9 : Int) (x10 : Int) (w : CW), I47 x9 x10 w → zr x9 → zr x10 → ZV Γ w 47 [(0, ar x0), (1, ar x1), (2, ai x2), (3, ar x3), (4, ai x4), (5, ai x5), (7, al x7), (9, ai x9), (10, ai x10)] [] := by subst eI47; exact fun _ _ _ z => z
  have hJ47 : ∀ (x9 : Int) (x10 : Int) (w : CW), (zr x9 → zr x10 → ZV Γ w 47 [(0, ar x0), (1, ar x1), (2, ai x2), (3, ar x3), (4, ai x4), (5, ai x5), (7, al x7), (9, ai x9), (10, ai x10)] []) → I47 x9 x10 w := by subst eI47; exact fun _ _ _ z => z
  refine hI47 x9 x10 w (h I47 (fun x9 x10 w h => hJ47 x9 x10 w (fun rx9 rx10 => ?_))) rx9 rx10
  refine zc_wk G hp (fun hw tw => ?_)
  refine zv_iload G rfl dX18_textMany_47 ?_
  refine zv_iload G rfl dX18_textMany_49 ?_
  refine zv_icmp_ge (tgt := 83) G rx10 rx4 (by decide) dX18_textMany_51 (fun c11 => ?_) (fun c11 => ?_)
  · have h := h.1 c11
    exact zv_pick [0, 1, 2, 3, 4, 5, 7, 9] rfl (cpC_X18_textMany_83 hp G M S hl hk hI6 rx2 rx4 rx5 rx7 rx9 h)
  · have h := h.2 c11
    refine zv_iload G rfl dX18_textMany_54 ?_
    refine zv_aload_n G rfl rfl dX18_textMany_56 ?_
    have o19 := h.1
    have h := h.2
    refine zc_get (f := 95) (v := ar (fR w 95 x0)) G o19 rfl q1267 (Or.inl rfl) (cV_R rfl) dX18_textMany_57 ?_
    refine zv_iload G rfl dX18_textMany_60 ?_
    have o20 := h.1
    have h := h.2
    refine zc_laldN G o20.1 rx10 o20.2.1 o20.2.2 dX18_textMany_62 ?_
    refine zv_lload G rfl dX18_textMany_63 ?_
    refine zv_lcmp G (aW_r hw _ _) rx7 dX18_textMany_65 ?_
    have kj24 : ∀ v21 : Int, v21 = (if ¬ ((aW w (fR w 95 x0) x10) = x7) then 1 else 0) → ZV Γ w 74 [(0, ar x0), (1, ar x1), (2, ai x2), (3, ar x3), (4, ai x4), (5, ai x5), (7, al x7), (9, ai x9), (10, ai x10)] (ai v21 :: ai x9 :: []) := by
      intro v21 ev21
      have h := h v21 ev21
      have rv21 : zr v21 := by rw [ev21]; exact (zr_ite (zr_k 1 (by decide) (by decide)) (zr_k 0 (by decide) (by decide)))
      have bv21 : v21 = 0 ∨ v21 = 1 := by rw [ev21]; exact (zb_ite (Or.inr rfl) (Or.inl rfl))
      refine zv_iand G dX18_textMany_74 ?_
      refine zv_istoreN G (by decide) dX18_textMany_75 (fun x9_22 ex9_22 => ?_)
      have h := h x9_22 ex9_22
      have rx9_22 : zr x9_22 := by rw [ex9_22]; exact (show zr _ from by first | with_reducible exact i_and_r _ _ | with_reducible exact i_or_r _ _ | with_reducible exact i_shl_r _ _ | with_reducible exact i_shr_r _ _ | with_reducible exact i_ushr_r _ _ | with_reducible exact i_b_r _ | with_reducible exact i_c_r _ | with_reducible exact i_xor_r _ _ | with_reducible exact i_div_r _ _ | with_reducible exact i_rem_r _ _ | exact zr_of _)
      refine zv_iincN G rfl (by decide) dX18_textMany_77 (fun x10_23 ex10_23 => ?_)
      have h := h x10_23 ex10_23
      have rx10_23 : zr x10_23 := by rw [ex10_23]; exact w32_r _
      refine zv_goto (tgt := 47) G (by decide) dX18_textMany_80 ?_
      exact zv_pick [0, 1, 2, 3, 4, 5, 7, 9, 10] rfl (hI47 _ _ _ h rx9_22 rx10_23)
    refine zv_lif_eq (tgt := 73) G (by decide) dX18_textMany_66 (fun c25 => ?_) (fun c25 => ?_)
    · refine zv_iconst (a := 0) G (by decide) dX18_textMany_73 ?_
      exact kj24 _ (if_neg (fun q => q c25)).symm
    · refine zv_iconst (a := 1) G (by decide) dX18_textMany_69 ?_
      refine zv_goto (tgt := 74) G (by decide) dX18_textMany_70 ?_
      exact kj24 _ (if_pos c25).symm
set_option maxHeartbeats 4000000 in
set_option maxRecDepth 100000 in
theorem cpC_X18_textMany_6 {Γ : ZG CW} {D : CD} {d p : Nat} (hp : D.K.1 = p) (G : ZOk Γ cX18_textMany RX18 11 (KnC D) (ZC D)) (M : ZRm Γ (d + 1) D.lim (Option.some Jvm.ClassFile.FieldType.int) "textMany" []) (S : SdC d D p Γ.l) (hl : Γ.l.stackTraces = false) (hk : 0 ≤ d) {x0 : Nat} {x1 : Nat} {x2 : Int} {x3 : Nat} {x4 : Int} {x5 : Int} {w : CW} (rx2 : zr x2) (rx4 : zr x4) (rx5 : zr x5) (h : pC_X18_textMany_6 p (wpC p d) (fun v w => Γ.Q (.inl (some (ai v))) w) x0 x1 x2 x3 x4 x5 w) : ZV Γ w 6 [(0, ar x0), (1, ar x1), (2, ai x2), (3, ar x3), (4, ai x4), (5, ai x5)] [] := by
  obtain ⟨I6, eI6⟩ : ∃ I : Int → Int → CW → Prop, I = (fun x4 x5 w => zr x4 → zr x5 → ZV Γ w 6 [(0, ar x0), (1, ar x1), (2, ai x2), (3, ar x3), (4, ai x4), (5, ai x5)] []) := ⟨_, rfl⟩
  have hI6 : ∀ (x4 : Int) (x5 : Int) (w : CW), I6 x4 x5 w → zr x4 → zr x5 → ZV Γ w 6 [(0, ar x0), (1, ar x1), (2, ai x2), (3, ar x3), (4, ai x4), (5, ai x5)] [] := by subst eI6; exact fun _ _ _ z => z
  have hJ6 : ∀ (x4 : Int) (x5 : Int) (w : CW), (zr x4 → zr x5 → ZV Γ w 6 [(0, ar x0), (1, ar x1), (2, ai x2), (3, ar x3), (4, ai x4), (5, ai x5)] []) → I6 x4 x5 w := by subst eI6; exact fun _ _ _ z => z
  refine hI6 x4 x5 w (h I6 (fun x4 x5 w h => hJ6 x4 x5 w (fun rx4 rx5 => ?_))) rx4 rx5
  refine zc_wk G hp (fun hw tw => ?_)
  refine zv_iload G rfl dX18_textMany_6 ?_
  refine zv_iload_n G rfl rfl dX18_textMany_8 ?_
  refine zv_icmp_ge (tgt := 113) G rx5 rx2 (by decide) dX18_textMany_9 (fun c1 => ?_) (fun c1 => ?_)
  · have h := h.1 c1
    exact zv_pick [4] rfl (cpC_X18_textMany_113 hp G M S hl hk rx4 h)
  · have h := h.2 c1
    refine zv_aload_n G rfl rfl dX18_textMany_12 ?_
    refine zv_iload G rfl dX18_textMany_13 ?_
    have o2 := h.1
    have h := h.2
    refine zc_aald G o2.1 rx5 o2.2.1 o2.2.2 dX18_textMany_15 ?_
    refine zv_aload_n G rfl rfl dX18_textMany_16 ?_
    have o3 := h.1
    have h := h.2
    refine zc_get (f := 91) (v := ar (fR w 91 x0)) G o3 rfl q1263 (Or.inl rfl) (cV_R rfl) dX18_textMany_17 ?_
    refine zv_aload_n G rfl rfl dX18_textMany_20 ?_
    have o26 := h.1
    have h := h.2
    refine zv_callR (as := [ar (aR w x1 x5), ar (fR w 91 x0), ar x3]) (st := []) G M (zc_eV (C := zcn 14) G q1412 q1413 q1414 (Or.inl ⟨rfl, rfl⟩) q1415 md_X16_left (zc_rc G (zne tw o26 (by decide)) o26 (by decide) (by decide) rfl) rfl dX18_textMany_21) (S 128 _ rfl _ _ _ h (zoks_cons trivial (zoks_cons trivial (zoks_cons trivial zoks_nil)))) (Or.inl ⟨rfl, rfl⟩) (zc_hk q1415 q172) (by decide) (Nat.le_of_ble_eq_true rfl) (fun v5 u4 h => ?_) (fun _ _ h => h.elim)
    refine zc_wk G hp (fun hu4 tu4 => ?_)
    refine zv_astore G (by decide) rfl dX18_textMany_24 ?_
    refine zv_aload G rfl dX18_textMany_26 ?_
    refine zv_ifnull (tgt := 107) G (by decide) dX18_textMany_28 (fun c6 => ?_) (fun c6 => ?_)
    · have h := h.1 c6
      exact zv_pick [0, 1, 2, 3, 4, 5] rfl (cpC_X18_textMany_107 hp G M S hl hk hI6 rx2 rx4 rx5 h)
    · have h := h.2 c6
      refine zv_aload G rfl dX18_textMany_31 ?_
      have o8 := h.1
      have h := h.2
      refine zc_cast G q1430 o8 dX18_textMany_33 ?_
      have o9 := h.1
      have h := h.2
      refine zc_get (f := 74) (v := al (fI u4 74 v5)) G o9 rfl q968 (Or.inl rfl) (cV_L rfl) dX18_textMany_36 ?_
      refine zv_lstoreN G (by decide) dX18_textMany_39 (fun x7_10 ex7_10 => ?_)
      have h := h x7_10 ex7_10
      have rx7_10 : zrl x7_10 := by rw [ex7_10]; exact (hu4.l 74 _ (by decide))
      refine zv_iconst (a := 1) G (by decide) dX18_textMany_41 ?_
      refine zv_istore G (by decide) rfl dX18_textMany_42 ?_
      refine zv_iconst (a := 0) G (by decide) dX18_textMany_44 ?_
      refine zv_istore G (by decide) rfl dX18_textMany_45 ?_
      exact zv_pick [0, 1, 2, 3, 4, 5, 7, 9, 10] rfl (cpC_X18_textMany_47 hp G M S hl hk hI6 rx2 rx4 rx5 rx7_10 (zr_k 1 (by decide) (by decide)) (zr_k 0 (by decide) (by decide)) h)
set_option maxHeartbeats 4000000 in
set_option maxRecDepth 100000 in
theorem cpC_X18_textMany_0 {Γ : ZG CW} {D : CD} {d p : Nat} (hp : D.K.1 = p) (G : ZOk Γ cX18_textMany RX18 11 (KnC D) (ZC D)) (M : ZRm Γ (d + 1) D.lim (Option.some Jvm.ClassFile.FieldType.int) "textMany" []) (S : SdC d D p Γ.l) (hl : Γ.l.stackTraces = false) (hk : 0 ≤ d) {x0 : Nat} {x1 : Nat} {x2 : Int} {x3 : Nat} {w : CW} (rx2 : zr x2) (h : pC_X18_textMany_0 p (wpC p d) (fun v w => Γ.Q (.inl (some (ai v))) w) x0 x1 x2 x3 w) : ZV Γ w 0 [(0, ar x0), (1, ar x1), (2, ai x2), (3, ar x3)] [] := by
  refine zc_wk G hp (fun hw tw => ?_)
  refine zv_iconst (a := 0) G (by decide) dX18_textMany_0 ?_
  refine zv_istore G (by decide) rfl dX18_textMany_1 ?_
  refine zv_iconst (a := 0) G (by decide) dX18_textMany_3 ?_
  refine zv_istore G (by decide) rfl dX18_textMany_4 ?_
  exact zv_pick [0, 1, 2, 3, 4, 5] rfl (cpC_X18_textMany_6 hp G M S hl hk rx2 (zr_k 0 (by decide) (by decide)) (zr_k 0 (by decide) (by decide)) h)
set_option maxHeartbeats 4000000 in
set_option maxRecDepth 100000 in
theorem cpC_X18_borderMany_129 {Γ : ZG CW} {D : CD} {d p : Nat} (hp : D.K.1 = p) (G : ZOk Γ cX18_borderMany RX18 9 (KnC D) (ZC D)) (M : ZRm Γ (d + 1) D.lim (Option.some Jvm.ClassFile.FieldType.int) "borderMany" []) (S : SdC d D p Γ.l) (hl : Γ.l.stackTraces = false) (hk : 0 ≤ d) {x0 : Nat} {x5 : Int} {x6 : Int} {w : CW} (rx5 : zr x5) (rx6 : zr x6) (h : pC_X18_borderMany_129 p (wpC p d) (fun v w => Γ.Q (.inl (some (ai v))) w) x0 x5 x6 w) : ZV Γ w 129 [(0, ar x0), (5, ai x5), (6, ai x6)] [] := by
  refine zc_wk G hp (fun hw tw => ?_)
  refine zv_aload_n G rfl rfl dX18_borderMany_129 ?_
  refine zv_aload_n G rfl rfl dX18_borderMany_130 ?_
  have o12 := h.1
  have h := h.2
  refine zc_get (f := 96) (v := ar (fR w 96 x0)) G o12 rfl q1268 (Or.inl rfl) (cV_R rfl) dX18_borderMany_131 ?_
  refine zv_iload G rfl dX18_borderMany_134 ?_
  refine zv_iload G rfl dX18_borderMany_136 ?_
  have o15 := h.1
  have h := h.2
  refine zv_callI (as := [ar x0, ar (fR w 96 x0), ai x6, ai x5]) (st := []) G M (zc_eV (C := zcn 16) G q1436 q1438 qs45 (Or.inl ⟨rfl, rfl⟩) q1439 md_X18_put (zc_rc G (zne tw o15 (by decide)) o15 (by decide) (by decide) rfl) rfl dX18_borderMany_138) (S 141 _ rfl _ _ _ h (zoks_cons trivial (zoks_cons trivial (zoks_cons rx6 (zoks_cons rx5 zoks_nil))))) (Or.inl ⟨rfl, rfl⟩) (zc_hk q1439 q174) (by decide) (Nat.le_of_ble_eq_true rfl) (fun v14 u13 rv14 h => ?_) (fun _ _ h => h.elim)
  refine zc_wk G hp (fun hu13 tu13 => ?_)
  exact zv_iret (ty := .int) rv14 G M rfl dX18_borderMany_141 h
set_option maxHeartbeats 4000000 in
set_option maxRecDepth 100000 in
theorem cpC_X18_borderMany_123 {Γ : ZG CW} {D : CD} {d p : Nat} (hp : D.K.1 = p) (G : ZOk Γ cX18_borderMany RX18 9 (KnC D) (ZC D)) (M : ZRm Γ (d + 1) D.lim (Option.some Jvm.ClassFile.FieldType.int) "borderMany" []) (S : SdC d D p Γ.l) (hl : Γ.l.stackTraces = false) (hk : 0 ≤ d) {I34 : Int → Int → CW → Prop} {x0 : Nat} {x1 : Nat} {x2 : Int} {x3 : Nat} {x4 : Int} {x5 : Int} {x6 : Int} {x7 : Int} {w : CW} (hI34 : ∀ (x6 : Int) (x7 : Int) (w : CW), I34 x6 x7 w → zr x6 → zr x7 → ZV Γ w 34 [(0, ar x0), (1, ar x1), (2, ai x2), (3, ar x3), (4, ai x4), (5, ai x5), (6, ai x6), (7, ai x7)] []) (rx2 : zr x2) (rx4 : zr x4) (rx5 : zr x5) (rx6 : zr x6) (rx7 : zr x7) (h : pC_X18_borderMany_123 p (wpC p d) (fun v w => Γ.Q (.inl (some (ai v))) w) I34 x0 x1 x2 x3 x4 x5 x6 x7 w) : ZV Γ w 123 [(0, ar x0), (1, ar x1), (2, ai x2), (3, ar x3), (4, ai x4), (5, ai x5), (6, ai x6), (7, ai x7)] [] := by
  refine zc_wk G hp (fun hw tw => ?_)
  refine zv_iincN G rfl (by decide) dX18_borderMany_123 (fun x7_31 ex7_31 => ?_)
  have h := h x7_31 ex7_31
  have rx7_31 : zr x7_31 := by rw [ex7_31]; exact w32_r _
  refine zv_goto (tgt := 34) G (by decide) dX18_borderMany_126 ?_
  exact zv_pick [0, 1, 2, 3, 4, 5, 6, 7] rfl (hI34 _ _ _ h rx6 rx7_31)
set_option maxHeartbeats 4000000 in
set_option maxRecDepth 100000 in
theorem cpC_X18_borderMany_91 {Γ : ZG CW} {D : CD} {d p : Nat} (hp : D.K.1 = p) (G : ZOk Γ cX18_borderMany RX18 9 (KnC D) (ZC D)) (M : ZRm Γ (d + 1) D.lim (Option.some Jvm.ClassFile.FieldType.int) "borderMany" []) (S : SdC d D p Γ.l) (hl : Γ.l.stackTraces = false) (hk : 0 ≤ d) {I34 : Int → Int → CW → Prop} {x0 : Nat} {x1 : Nat} {x2 : Int} {x3 : Nat} {x4 : Int} {x5 : Int} {x6 : Int} {x7 : Int} {x8 : Nat} {w : CW} (hI34 : ∀ (x6 : Int) (x7 : Int) (w : CW), I34 x6 x7 w → zr x6 → zr x7 → ZV Γ w 34 [(0, ar x0), (1, ar x1), (2, ai x2), (3, ar x3), (4, ai x4), (5, ai x5), (6, ai x6), (7, ai x7)] []) (rx2 : zr x2) (rx4 : zr x4) (rx5 : zr x5) (rx6 : zr x6) (rx7 : zr x7) (h : pC_X18_borderMany_91 p (wpC p d) (fun v w => Γ.Q (.inl (some (ai v))) w) I34 x0 x1 x2 x3 x4 x5 x6 x7 x8 w) : ZV Γ w 91 [(0, ar x0), (1, ar x1), (2, ai x2), (3, ar x3), (4, ai x4), (5, ai x5), (6, ai x6), (7, ai x7), (8, ar x8)] [] := by
  refine zc_wk G hp (fun hw tw => ?_)
  refine zv_aload G rfl dX18_borderMany_91 ?_
  have o26 := h.1
  have h := h.2
  have kt33 : ¬ (x8 = 0) ∧ (¬ (x5 ≤ (fI w 70 x8))) → ZV Γ w 106 [(0, ar x0), (1, ar x1), (2, ai x2), (3, ar x3), (4, ai x4), (5, ai x5), (6, ai x6), (7, ai x7), (8, ar x8)] [] := by
    intro c35
    have h := h.1 c35
    refine zv_aload_n G rfl rfl dX18_borderMany_106 ?_
    refine zv_aload_n G rfl rfl dX18_borderMany_107 ?_
    have o27 := h.1
    have h := h.2
    refine zc_get (f := 96) (v := ar (fR w 96 x0)) G o27 rfl q1268 (Or.inl rfl) (cV_R rfl) dX18_borderMany_108 ?_
    refine zv_iload G rfl dX18_borderMany_111 ?_
    refine zv_aload G rfl dX18_borderMany_113 ?_
    have o28 := h.1
    have h := h.2
    refine zc_get (f := 70) (v := ai (fI w 70 x8)) G o28 rfl q909 (Or.inl rfl) (cV_I (by decide) (by decide)) dX18_borderMany_115 ?_
    have o32 := h.1
    have h := h.2
    refine zv_callI (as := [ar x0, ar (fR w 96 x0), ai x6, ai (fI w 70 x8)]) (st := []) G M (zc_eV (C := zcn 16) G q1436 q1438 qs45 (Or.inl ⟨rfl, rfl⟩) q1439 md_X18_put (zc_rc G (zne tw o32 (by decide)) o32 (by decide) (by decide) rfl) rfl dX18_borderMany_118) (S 141 _ rfl _ _ _ h (zoks_cons trivial (zoks_cons trivial (zoks_cons rx6 (zoks_cons (hw.i 70 _ (by decide)) zoks_nil))))) (Or.inl ⟨rfl, rfl⟩) (zc_hk q1439 q174) (by decide) (Nat.le_of_ble_eq_true rfl) (fun v30 u29 rv30 h => ?_) (fun _ _ h => h.elim)
    refine zc_wk G hp (fun hu29 tu29 => ?_)
    refine zv_istore G (by decide) rfl dX18_borderMany_121 ?_
    exact zv_pick [0, 1, 2, 3, 4, 5, 6, 7] rfl (cpC_X18_borderMany_123 hp G M S hl hk hI34 rx2 rx4 rx5 rv30 rx7 h)
  have kf34 : ¬ (¬ (x8 = 0) ∧ (¬ (x5 ≤ (fI w 70 x8)))) → ZV Γ w 123 [(0, ar x0), (1, ar x1), (2, ai x2), (3, ar x3), (4, ai x4), (5, ai x5), (6, ai x6), (7, ai x7), (8, ar x8)] [] := by
    intro c35
    have h := h.2 c35
    exact zv_pick [0, 1, 2, 3, 4, 5, 6, 7] rfl (cpC_X18_borderMany_123 hp G M S hl hk hI34 rx2 rx4 rx5 rx6 rx7 h)
  refine zv_ifnull (tgt := 123) G (by decide) dX18_borderMany_93 (fun c36 => ?_) (fun c36 => ?_)
  · exact kf34 (fun q => q.1 c36)
  · refine zv_aload G rfl dX18_borderMany_96 ?_
    refine zc_get (f := 70) (v := ai (fI w 70 x8)) G (o26 c36) rfl q909 (Or.inl rfl) (cV_I (by decide) (by decide)) dX18_borderMany_98 ?_
    refine zv_iload G rfl dX18_borderMany_101 ?_
    refine zv_icmp_ge (tgt := 123) G (hw.i 70 _ (by decide)) rx5 (by decide) dX18_borderMany_103 (fun c37 => ?_) (fun c37 => ?_)
    · exact kf34 (fun q => (fun q => q c37) q.2)
    · exact kt33 ⟨c36, c37⟩
set_option maxHeartbeats 4000000 in
set_option maxRecDepth 100000 in
theorem cpC_X18_borderMany_34 {Γ : ZG CW} {D : CD} {d p : Nat} (hp : D.K.1 = p) (G : ZOk Γ cX18_borderMany RX18 9 (KnC D) (ZC D)) (M : ZRm Γ (d + 1) D.lim (Option.some Jvm.ClassFile.FieldType.int) "borderMany" []) (S : SdC d D p Γ.l) (hl : Γ.l.stackTraces = false) (hk : 0 ≤ d) {x0 : Nat} {x1 : Nat} {x2 : Int} {x3 : Nat} {x4 : Int} {x5 : Int} {x6 : Int} {x7 : Int} {w : CW} (rx2 : zr x2) (rx4 : zr x4) (rx5 : zr x5) (rx6 : zr x6) (rx7 : zr x7) (h : pC_X18_borderMany_34 p (wpC p d) (fun v w => Γ.Q (.inl (some (ai v))) w) x0 x1 x2 x3 x4 x5 x6 x7 w) : ZV Γ w 34 [(0, ar x0), (1, ar x1), (2, ai x2), (3, ar x3), (4, ai x4), (5, ai x5), (6, ai x6), (7, ai x7)] [] := by
  obtain ⟨I34, eI34⟩ : ∃ I : Int → Int → CW → Prop, I = (fun x6 x7 w => zr x6 → zr x7 → ZV Γ w 34 [(0, ar x0), (1, ar x1), (2, ai x2), (3, ar x3), (4, ai x4), (5, ai x5), (6, ai x6), (7, ai x7)] []) := ⟨_, rfl⟩
  have hI34 : ∀ (x6 : Int) (x7 : Int) (w : CW), I34 x6 x7 w → zr x6 → zr x7 → ZV Γ w 34 [(0, ar x0), (1, ar x1), (2, ai x2), (3, ar x3), (4, ai x4), (5, ai x5), (6, ai x6), (7, ai x7)] [] := by subst eI34; exact fun _ _ _ z => z
  have hJ34 : ∀ (x6 : Int) (x7 : Int) (w : CW), (zr x6 → zr x7 → ZV Γ w 34 [(0, ar x0), (1, ar x1), (2, ai x2), (3, ar x3), (4, ai x4), (5, ai x5), (6, ai x6), (7, ai x7)] []) → I34 x6 x7 w := by subst eI34; exact fun _ _ _ z => z
  refine hI34 x6 x7 w (h I34 (fun x6 x7 w h => hJ34 x6 x7 w (fun rx6 rx7 => ?_))) rx6 rx7
  refine zc_wk G hp (fun hw tw => ?_)
  refine zv_iload G rfl dX18_borderMany_34 ?_
  refine zv_iload_n G rfl rfl dX18_borderMany_36 ?_
  refine zv_icmp_ge (tgt := 129) G rx7 rx2 (by decide) dX18_borderMany_37 (fun c11 => ?_) (fun c11 => ?_)
  · have h := h.1 c11
    exact zv_pick [0, 5, 6] rfl (cpC_X18_borderMany_129 hp G M S hl hk rx5 rx6 h)
  · have h := h.2 c11
    refine zv_aload_n G rfl rfl dX18_borderMany_40 ?_
    refine zv_iload G rfl dX18_borderMany_41 ?_
    have o16 := h.1
    have h := h.2
    refine zc_aald G o16.1 rx7 o16.2.1 o16.2.2 dX18_borderMany_43 ?_
    refine zv_aload_n G rfl rfl dX18_borderMany_44 ?_
    have o17 := h.1
    have h := h.2
    refine zc_get (f := 91) (v := ar (fR w 91 x0)) G o17 rfl q1263 (Or.inl rfl) (cV_R rfl) dX18_borderMany_45 ?_
    refine zv_aload_n G rfl rfl dX18_borderMany_48 ?_
    have o44 := h.1
    have h := h.2
    refine zv_callR (as := [ar (aR w x1 x7), ar (fR w 91 x0), ar x3]) (st := []) G M (zc_eV (C := zcn 14) G q1412 q1413 q1414 (Or.inl ⟨rfl, rfl⟩) q1415 md_X16_left (zc_rc G (zne tw o44 (by decide)) o44 (by decide) (by decide) rfl) rfl dX18_borderMany_49) (S 128 _ rfl _ _ _ h (zoks_cons trivial (zoks_cons trivial (zoks_cons trivial zoks_nil)))) (Or.inl ⟨rfl, rfl⟩) (zc_hk q1415 q172) (by decide) (Nat.le_of_ble_eq_true rfl) (fun v19 u18 h => ?_) (fun _ _ h => h.elim)
    refine zc_wk G hp (fun hu18 tu18 => ?_)
    have o20 := h.1
    have h := h.2
    refine zc_cast G q1435 o20 dX18_borderMany_52 ?_
    refine zv_astore G (by decide) rfl dX18_borderMany_55 ?_
    refine zv_aload G rfl dX18_borderMany_57 ?_
    have o21 := h.1
    have h := h.2
    have kt39 : ¬ (v19 = 0) ∧ (¬ ((fI u18 69 v19) ≤ x4)) → ZV Γ u18 72 [(8, ar v19), (0, ar x0), (1, ar x1), (2, ai x2), (3, ar x3), (4, ai x4), (5, ai x5), (6, ai x6), (7, ai x7)] [] := by
      intro c41
      have h := h.1 c41
      refine zv_aload_n G rfl rfl dX18_borderMany_72 ?_
      refine zv_aload_n G rfl rfl dX18_borderMany_73 ?_
      have o22 := h.1
      have h := h.2
      refine zc_get (f := 96) (v := ar (fR u18 96 x0)) G o22 rfl q1268 (Or.inl rfl) (cV_R rfl) dX18_borderMany_74 ?_
      refine zv_iload G rfl dX18_borderMany_77 ?_
      refine zv_aload G rfl dX18_borderMany_79 ?_
      have o23 := h.1
      have h := h.2
      refine zc_get (f := 69) (v := ai (fI u18 69 v19)) G o23 rfl q907 (Or.inl rfl) (cV_I (by decide) (by decide)) dX18_borderMany_81 ?_
      refine zv_iconst (a := 1) G (by decide) dX18_borderMany_84 ?_
      refine zv_isub G dX18_borderMany_85 ?_
      have o38 := h.1
      have h := h.2
      refine zv_callI (as := [ar x0, ar (fR u18 96 x0), ai x6, ai (w32 ((fI u18 69 v19) - 1))]) (st := []) G M (zc_eV (C := zcn 16) G q1436 q1438 qs45 (Or.inl ⟨rfl, rfl⟩) q1439 md_X18_put (zc_rc G (zne tu18 o38 (by decide)) o38 (by decide) (by decide) rfl) rfl dX18_borderMany_86) (S 141 _ rfl _ _ _ h (zoks_cons trivial (zoks_cons trivial (zoks_cons rx6 (zoks_cons (w32_r _) zoks_nil))))) (Or.inl ⟨rfl, rfl⟩) (zc_hk q1439 q174) (by decide) (Nat.le_of_ble_eq_true rfl) (fun v25 u24 rv25 h => ?_) (fun _ _ h => h.elim)
      refine zc_wk G hp (fun hu24 tu24 => ?_)
      refine zv_istore G (by decide) rfl dX18_borderMany_89 ?_
      exact zv_pick [0, 1, 2, 3, 4, 5, 6, 7, 8] rfl (cpC_X18_borderMany_91 hp G M S hl hk hI34 rx2 rx4 rx5 rv25 rx7 h)
    have kf40 : ¬ (¬ (v19 = 0) ∧ (¬ ((fI u18 69 v19) ≤ x4))) → ZV Γ u18 91 [(8, ar v19), (0, ar x0), (1, ar x1), (2, ai x2), (3, ar x3), (4, ai x4), (5, ai x5), (6, ai x6), (7, ai x7)] [] := by
      intro c41
      have h := h.2 c41
      exact zv_pick [0, 1, 2, 3, 4, 5, 6, 7, 8] rfl (cpC_X18_borderMany_91 hp G M S hl hk hI34 rx2 rx4 rx5 rx6 rx7 h)
    refine zv_ifnull (tgt := 91) G (by decide) dX18_borderMany_59 (fun c42 => ?_) (fun c42 => ?_)
    · exact kf40 (fun q => q.1 c42)
    · refine zv_aload G rfl dX18_borderMany_62 ?_
      refine zc_get (f := 69) (v := ai (fI u18 69 v19)) G (o21 c42) rfl q907 (Or.inl rfl) (cV_I (by decide) (by decide)) dX18_borderMany_64 ?_
      refine zv_iload G rfl dX18_borderMany_67 ?_
      refine zv_icmp_le (tgt := 91) G (hu18.i 69 _ (by decide)) rx4 (by decide) dX18_borderMany_69 (fun c43 => ?_) (fun c43 => ?_)
      · exact kf40 (fun q => (fun q => q c43) q.2)
      · exact kt39 ⟨c42, c43⟩
set_option maxHeartbeats 4000000 in
set_option maxRecDepth 100000 in
theorem cpC_X18_borderMany_0 {Γ : ZG CW} {D : CD} {d p : Nat} (hp : D.K.1 = p) (G : ZOk Γ cX18_borderMany RX18 9 (KnC D) (ZC D)) (M : ZRm Γ (d + 1) D.lim (Option.some Jvm.ClassFile.FieldType.int) "borderMany" []) (S : SdC d D p Γ.l) (hl : Γ.l.stackTraces = false) (hk : 0 ≤ d) {x0 : Nat} {x1 : Nat} {x2 : Int} {x3 : Nat} {w : CW} (rx2 : zr x2) (h : pC_X18_borderMany_0 p (wpC p d) (fun v w => Γ.Q (.inl (some (ai v))) w) x0 x1 x2 x3 w) : ZV Γ w 0 [(0, ar x0), (1, ar x1), (2, ai x2), (3, ar x3)] [] := by
  refine zc_wk G hp (fun hw tw => ?_)
  refine zv_aload_n G rfl rfl dX18_borderMany_0 ?_
  have o1 := h.1
  have h := h.2
  refine zc_get (f := 91) (v := ar (fR w 91 x0)) G o1 rfl q1263 (Or.inl rfl) (cV_R rfl) dX18_borderMany_1 ?_
  have o2 := h.1
  have h := h.2
  refine zc_get (f := 101) (v := ar (fR w 101 (fR w 91 x0))) G o2 rfl q1234 (Or.inl rfl) (cV_R rfl) dX18_borderMany_4 ?_
  refine zv_aload_n G rfl rfl dX18_borderMany_7 ?_
  have o3 := h.1
  have h := h.2
  refine zc_get (f := 89) (v := ai (fI w 89 x3)) G o3 rfl q1149 (Or.inl rfl) (cV_I (by decide) (by decide)) dX18_borderMany_8 ?_
  have o4 := h.1
  have h := h.2
  refine zc_ialdN G o4.1 (hw.i 89 _ (by decide)) o4.2.1 o4.2.2 dX18_borderMany_11 ?_
  refine zv_istoreN G (by decide) dX18_borderMany_12 (fun x4_5 ex4_5 => ?_)
  have h := h x4_5 ex4_5
  have rx4_5 : zr x4_5 := by rw [ex4_5]; exact (aN_r hw _ _)
  refine zv_aload_n G rfl rfl dX18_borderMany_14 ?_
  have o6 := h.1
  have h := h.2
  refine zc_get (f := 91) (v := ar (fR w 91 x0)) G o6 rfl q1263 (Or.inl rfl) (cV_R rfl) dX18_borderMany_15 ?_
  have o7 := h.1
  have h := h.2
  refine zc_get (f := 102) (v := ar (fR w 102 (fR w 91 x0))) G o7 rfl q1237 (Or.inl rfl) (cV_R rfl) dX18_borderMany_18 ?_
  refine zv_aload_n G rfl rfl dX18_borderMany_21 ?_
  have o8 := h.1
  have h := h.2
  refine zc_get (f := 89) (v := ai (fI w 89 x3)) G o8 rfl q1149 (Or.inl rfl) (cV_I (by decide) (by decide)) dX18_borderMany_22 ?_
  have o9 := h.1
  have h := h.2
  refine zc_ialdN G o9.1 (hw.i 89 _ (by decide)) o9.2.1 o9.2.2 dX18_borderMany_25 ?_
  refine zv_istoreN G (by decide) dX18_borderMany_26 (fun x5_10 ex5_10 => ?_)
  have h := h x5_10 ex5_10
  have rx5_10 : zr x5_10 := by rw [ex5_10]; exact (aN_r hw _ _)
  refine zv_iconst (a := 0) G (by decide) dX18_borderMany_28 ?_
  refine zv_istore G (by decide) rfl dX18_borderMany_29 ?_
  refine zv_iconst (a := 0) G (by decide) dX18_borderMany_31 ?_
  refine zv_istore G (by decide) rfl dX18_borderMany_32 ?_
  exact zv_pick [0, 1, 2, 3, 4, 5, 6, 7] rfl (cpC_X18_borderMany_34 hp G M S hl hk rx2 rx4_5 rx5_10 (zr_k 0 (by decide) (by decide)) (zr_k 0 (by decide) (by decide)) h)
set_option maxHeartbeats 4000000 in
set_option maxRecDepth 100000 in
theorem cpC_X18_put_41 {Γ : ZG CW} {D : CD} {d p : Nat} (hp : D.K.1 = p) (G : ZOk Γ cX18_put RX18 5 (KnC D) (ZC D)) (M : ZRm Γ (d + 1) D.lim (Option.some Jvm.ClassFile.FieldType.int) "put" []) (S : SdC d D p Γ.l) (hl : Γ.l.stackTraces = false) (hk : 0 ≤ d) {x1 : Nat} {x2 : Int} {x3 : Int} {x4 : Int} {w : CW} (rx2 : zr x2) (rx3 : zr x3) (rx4 : zr x4) (h : pC_X18_put_41 p (wpC p d) (fun v w => Γ.Q (.inl (some (ai v))) w) x1 x2 x3 x4 w) : ZV Γ w 41 [(1, ar x1), (2, ai x2), (3, ai x3), (4, ai x4)] [] := by
  refine zc_wk G hp (fun hw tw => ?_)
  refine zv_aload_n G rfl rfl dX18_put_41 ?_
  refine zv_iload G rfl dX18_put_42 ?_
  refine zv_aload_n G rfl rfl dX18_put_44 ?_
  refine zv_iload G rfl dX18_put_45 ?_
  refine zv_iconst (a := 1) G (by decide) dX18_put_47 ?_
  refine zv_iadd G dX18_put_48 ?_
  refine zv_iload_n G rfl rfl dX18_put_49 ?_
  refine zv_iload G rfl dX18_put_50 ?_
  refine zv_isub G dX18_put_52 ?_
  have o5 := h.1
  have h := h.2
  refine zc_copy G M q1440 q389 q388 q155 o5.1 o5.2 (Nat.le_of_ble_eq_true rfl) dX18_put_53 (fun u4 eu4 => ?_)
  have h := h u4 eu4
  refine zc_wk G hp (fun hu4 tu4 => ?_)
  refine zv_aload_n G rfl rfl dX18_put_56 ?_
  refine zv_iload G rfl dX18_put_57 ?_
  refine zv_iload_n G rfl rfl dX18_put_59 ?_
  have o7 := h.1
  have h := h.2
  refine zc_iast G o7.1 rx4 rx3 o7.2.1 o7.2.2 dX18_put_60 (fun u6 eu6 => ?_)
  have h := h u6 eu6
  refine zc_wk G hp (fun hu6 tu6 => ?_)
  refine zv_iload_n G rfl rfl dX18_put_61 ?_
  refine zv_iconst (a := 1) G (by decide) dX18_put_62 ?_
  refine zv_iadd G dX18_put_63 ?_
  exact zv_iret (ty := .int) (w32_r _) G M rfl dX18_put_64 h
set_option maxHeartbeats 4000000 in
set_option maxRecDepth 100000 in
theorem cpC_X18_put_24 {Γ : ZG CW} {D : CD} {d p : Nat} (hp : D.K.1 = p) (G : ZOk Γ cX18_put RX18 5 (KnC D) (ZC D)) (M : ZRm Γ (d + 1) D.lim (Option.some Jvm.ClassFile.FieldType.int) "put" []) (S : SdC d D p Γ.l) (hl : Γ.l.stackTraces = false) (hk : 0 ≤ d) {x1 : Nat} {x2 : Int} {x3 : Int} {x4 : Int} {w : CW} (rx2 : zr x2) (rx3 : zr x3) (rx4 : zr x4) (h : pC_X18_put_24 p (wpC p d) (fun v w => Γ.Q (.inl (some (ai v))) w) x1 x2 x3 x4 w) : ZV Γ w 24 [(1, ar x1), (2, ai x2), (3, ai x3), (4, ai x4)] [] := by
  refine zc_wk G hp (fun hw tw => ?_)
  refine zv_iload G rfl dX18_put_24 ?_
  have o3 := h.1
  have h := h.2
  have kt8 : ¬ (x4 ≤ 0) ∧ ((aN w x1 (w32 (x4 - 1))) = x3) → ZV Γ w 39 [(1, ar x1), (2, ai x2), (3, ai x3), (4, ai x4)] [] := by
    intro c10
    have h := h.1 c10
    refine zv_iload_n G rfl rfl dX18_put_39 ?_
    exact zv_iret (ty := .int) rx2 G M rfl dX18_put_40 h
  have kf9 : ¬ (¬ (x4 ≤ 0) ∧ ((aN w x1 (w32 (x4 - 1))) = x3)) → ZV Γ w 41 [(1, ar x1), (2, ai x2), (3, ai x3), (4, ai x4)] [] := by
    intro c10
    have h := h.2 c10
    exact zv_pick [1, 2, 3, 4] rfl (cpC_X18_put_41 hp G M S hl hk rx2 rx3 rx4 h)
  refine zv_if_le (tgt := 41) G rx4 (by decide) dX18_put_26 (fun c11 => ?_) (fun c11 => ?_)
  · exact kf9 (fun q => q.1 c11)
  · refine zv_aload_n G rfl rfl dX18_put_29 ?_
    refine zv_iload G rfl dX18_put_30 ?_
    refine zv_iconst (a := 1) G (by decide) dX18_put_32 ?_
    refine zv_isub G dX18_put_33 ?_
    refine zc_ialdN G (o3 c11).1 (w32_r _) (o3 c11).2.1 (o3 c11).2.2 dX18_put_34 ?_
    refine zv_iload_n G rfl rfl dX18_put_35 ?_
    refine zv_icmp_ne (tgt := 41) G (aN_r hw _ _) rx3 (by decide) dX18_put_36 (fun c12 => ?_) (fun c12 => ?_)
    · exact kf9 (fun q => c12 q.2)
    · exact kt8 ⟨c11, c12⟩
set_option maxHeartbeats 4000000 in
set_option maxRecDepth 100000 in
theorem cpC_X18_put_3 {Γ : ZG CW} {D : CD} {d p : Nat} (hp : D.K.1 = p) (G : ZOk Γ cX18_put RX18 5 (KnC D) (ZC D)) (M : ZRm Γ (d + 1) D.lim (Option.some Jvm.ClassFile.FieldType.int) "put" []) (S : SdC d D p Γ.l) (hl : Γ.l.stackTraces = false) (hk : 0 ≤ d) {x1 : Nat} {x2 : Int} {x3 : Int} {x4 : Int} {w : CW} (rx2 : zr x2) (rx3 : zr x3) (rx4 : zr x4) (h : pC_X18_put_3 p (wpC p d) (fun v w => Γ.Q (.inl (some (ai v))) w) x1 x2 x3 x4 w) : ZV Γ w 3 [(1, ar x1), (2, ai x2), (3, ai x3), (4, ai x4)] [] := by
  obtain ⟨I3, eI3⟩ : ∃ I : Int → CW → Prop, I = (fun x4 w => zr x4 → ZV Γ w 3 [(1, ar x1), (2, ai x2), (3, ai x3), (4, ai x4)] []) := ⟨_, rfl⟩
  have hI3 : ∀ (x4 : Int) (w : CW), I3 x4 w → zr x4 → ZV Γ w 3 [(1, ar x1), (2, ai x2), (3, ai x3), (4, ai x4)] [] := by subst eI3; exact fun _ _ z => z
  have hJ3 : ∀ (x4 : Int) (w : CW), (zr x4 → ZV Γ w 3 [(1, ar x1), (2, ai x2), (3, ai x3), (4, ai x4)] []) → I3 x4 w := by subst eI3; exact fun _ _ z => z
  refine hI3 x4 w (h I3 (fun x4 w h => hJ3 x4 w (fun rx4 => ?_))) rx4
  refine zc_wk G hp (fun hw tw => ?_)
  refine zv_iload G rfl dX18_put_3 ?_
  have o1 := h.1
  have h := h.2
  have kt13 : ¬ (x4 ≤ 0) ∧ (¬ ((aN w x1 (w32 (x4 - 1))) ≤ x3)) → ZV Γ w 18 [(1, ar x1), (2, ai x2), (3, ai x3), (4, ai x4)] [] := by
    intro c15
    have h := h.1 c15
    refine zv_iincN G rfl (by decide) dX18_put_18 (fun x4_2 ex4_2 => ?_)
    have h := h x4_2 ex4_2
    have rx4_2 : zr x4_2 := by rw [ex4_2]; exact w32_r _
    refine zv_goto (tgt := 3) G (by decide) dX18_put_21 ?_
    exact zv_pick [1, 2, 3, 4] rfl (hI3 _ _ h rx4_2)
  have kf14 : ¬ (¬ (x4 ≤ 0) ∧ (¬ ((aN w x1 (w32 (x4 - 1))) ≤ x3))) → ZV Γ w 24 [(1, ar x1), (2, ai x2), (3, ai x3), (4, ai x4)] [] := by
    intro c15
    have h := h.2 c15
    exact zv_pick [1, 2, 3, 4] rfl (cpC_X18_put_24 hp G M S hl hk rx2 rx3 rx4 h)
  refine zv_if_le (tgt := 24) G rx4 (by decide) dX18_put_5 (fun c16 => ?_) (fun c16 => ?_)
  · exact kf14 (fun q => q.1 c16)
  · refine zv_aload_n G rfl rfl dX18_put_8 ?_
    refine zv_iload G rfl dX18_put_9 ?_
    refine zv_iconst (a := 1) G (by decide) dX18_put_11 ?_
    refine zv_isub G dX18_put_12 ?_
    refine zc_ialdN G (o1 c16).1 (w32_r _) (o1 c16).2.1 (o1 c16).2.2 dX18_put_13 ?_
    refine zv_iload_n G rfl rfl dX18_put_14 ?_
    refine zv_icmp_le (tgt := 24) G (aN_r hw _ _) rx3 (by decide) dX18_put_15 (fun c17 => ?_) (fun c17 => ?_)
    · exact kf14 (fun q => (fun q => q c17) q.2)
    · exact kt13 ⟨c16, c17⟩
set_option maxHeartbeats 4000000 in
set_option maxRecDepth 100000 in
theorem cpC_X18_put_0 {Γ : ZG CW} {D : CD} {d p : Nat} (hp : D.K.1 = p) (G : ZOk Γ cX18_put RX18 5 (KnC D) (ZC D)) (M : ZRm Γ (d + 1) D.lim (Option.some Jvm.ClassFile.FieldType.int) "put" []) (S : SdC d D p Γ.l) (hl : Γ.l.stackTraces = false) (hk : 0 ≤ d) {x1 : Nat} {x2 : Int} {x3 : Int} {w : CW} (rx2 : zr x2) (rx3 : zr x3) (h : pC_X18_put_0 p (wpC p d) (fun v w => Γ.Q (.inl (some (ai v))) w) x1 x2 x3 w) : ZV Γ w 0 [(1, ar x1), (2, ai x2), (3, ai x3)] [] := by
  refine zc_wk G hp (fun hw tw => ?_)
  refine zv_iload_n G rfl rfl dX18_put_0 ?_
  refine zv_istore G (by decide) rfl dX18_put_1 ?_
  exact zv_pick [1, 2, 3, 4] rfl (cpC_X18_put_3 hp G M S hl hk rx2 rx3 rx2 h)
set_option maxHeartbeats 4000000 in
set_option maxRecDepth 100000 in
theorem cpC_X18_byKind_125 {Γ : ZG CW} {D : CD} {d p : Nat} (hp : D.K.1 = p) (G : ZOk Γ cX18_byKind RX18 8 (KnC D) (ZC D)) (M : ZRm Γ (d + 1) D.lim (Option.some (Jvm.ClassFile.FieldType.object "LetterPost$Node")) "byKind" []) (S : SdC d D p Γ.l) (hl : Γ.l.stackTraces = false) (hk : 0 ≤ d) {x0 : Nat} {x5 : Nat} {x6 : Int} {w : CW} (rx6 : zr x6) (h : pC_X18_byKind_125 p (wpC p d) (fun v w => Γ.Q (.inl (some (ar v))) w) (fun x w => Γ.Q (.inr x) w) x0 x5 x6 w) : ZV Γ w 125 [(0, ar x0), (5, ar x5), (6, ai x6)] [] := by
  refine zc_wk G hp (fun hw tw => ?_)
  refine zv_aload_n G rfl rfl dX18_byKind_125 ?_
  have o19 := h.1
  have h := h.2
  refine zc_get (f := 91) (v := ar (fR w 91 x0)) G o19 rfl q1263 (Or.inl rfl) (cV_R rfl) dX18_byKind_126 ?_
  have o20 := h.1
  have h := h.2
  refine zc_get (f := 98) (v := ar (fR w 98 (fR w 91 x0))) G o20 rfl q1225 (Or.inl rfl) (cV_R rfl) dX18_byKind_129 ?_
  refine zv_iload G rfl dX18_byKind_132 ?_
  refine zv_iconst (a := 0) G (by decide) dX18_byKind_134 ?_
  have o22 := h.1
  have h := h.2
  refine zc_iast G o22.1 rx6 (zr_k 0 (by decide) (by decide)) o22.2.1 o22.2.2 dX18_byKind_135 (fun u21 eu21 => ?_)
  have h := h u21 eu21
  refine zc_wk G hp (fun hu21 tu21 => ?_)
  refine zv_aload G rfl dX18_byKind_136 ?_
  exact zv_aret G M (Or.inl ⟨_, rfl⟩) dX18_byKind_138 h
set_option maxHeartbeats 4000000 in
set_option maxRecDepth 100000 in
theorem cpC_X18_byKind_44 {Γ : ZG CW} {D : CD} {d p : Nat} (hp : D.K.1 = p) (G : ZOk Γ cX18_byKind RX18 8 (KnC D) (ZC D)) (M : ZRm Γ (d + 1) D.lim (Option.some (Jvm.ClassFile.FieldType.object "LetterPost$Node")) "byKind" []) (S : SdC d D p Γ.l) (hl : Γ.l.stackTraces = false) (hk : 0 ≤ d) {x0 : Nat} {x3 : Nat} {x4 : Int} {x5 : Nat} {x6 : Int} {x7 : Int} {w : CW} (rx4 : zr x4) (rx6 : zr x6) (rx7 : zr x7) (h : pC_X18_byKind_44 p (wpC p d) (fun v w => Γ.Q (.inl (some (ar v))) w) (fun x w => Γ.Q (.inr x) w) x0 x3 x4 x5 x6 x7 w) : ZV Γ w 44 [(0, ar x0), (3, ar x3), (4, ai x4), (5, ar x5), (6, ai x6), (7, ai x7)] [] := by
  obtain ⟨I44, eI44⟩ : ∃ I : Int → CW → Prop, I = (fun x7 w => zr x7 → ZV Γ w 44 [(0, ar x0), (3, ar x3), (4, ai x4), (5, ar x5), (6, ai x6), (7, ai x7)] []) := ⟨_, rfl⟩
  have hI44 : ∀ (x7 : Int) (w : CW), I44 x7 w → zr x7 → ZV Γ w 44 [(0, ar x0), (3, ar x3), (4, ai x4), (5, ar x5), (6, ai x6), (7, ai x7)] [] := by subst eI44; exact fun _ _ z => z
  have hJ44 : ∀ (x7 : Int) (w : CW), (zr x7 → ZV Γ w 44 [(0, ar x0), (3, ar x3), (4, ai x4), (5, ar x5), (6, ai x6), (7, ai x7)] []) → I44 x7 w := by subst eI44; exact fun _ _ z => z
  refine hI44 x7 w (h I44 (fun x7 w h => hJ44 x7 w (fun rx7 => ?_))) rx7
  refine zc_wk G hp (fun hw tw => ?_)
  refine zv_iload G rfl dX18_byKind_44 ?_
  refine zv_aload G rfl dX18_byKind_46 ?_
  have o16 := h.1
  have h := h.2
  refine zc_get (f := 107) (v := ar (fR w 107 x5)) G o16 rfl q1357 (Or.inr q1351) (cV_R rfl) dX18_byKind_48 ?_
  have o17 := h.1
  have h := h.2
  refine zc_alen G o17 dX18_byKind_51 ?_
  refine zv_icmp_ge (tgt := 125) G rx7 (zc_lnr hw _) (by decide) dX18_byKind_52 (fun c18 => ?_) (fun c18 => ?_)
  · have h := h.1 c18
    exact zv_pick [0, 5, 6] rfl (cpC_X18_byKind_125 hp G M S hl hk rx6 h)
  · have h := h.2 c18
    refine zv_aload_n G rfl rfl dX18_byKind_55 ?_
    have o23 := h.1
    have h := h.2
    refine zc_get (f := 91) (v := ar (fR w 91 x0)) G o23 rfl q1263 (Or.inl rfl) (cV_R rfl) dX18_byKind_56 ?_
    have o24 := h.1
    have h := h.2
    refine zc_get (f := 98) (v := ar (fR w 98 (fR w 91 x0))) G o24 rfl q1225 (Or.inl rfl) (cV_R rfl) dX18_byKind_59 ?_
    refine zv_iload G rfl dX18_byKind_62 ?_
    refine zv_iload G rfl dX18_byKind_64 ?_
    have kj47 : ∀ v25 : Int, v25 = (if x7 = 0 then 1 else 2) → ZV Γ w 74 [(0, ar x0), (3, ar x3), (4, ai x4), (5, ar x5), (6, ai x6), (7, ai x7)] (ai v25 :: ai x6 :: ar (fR w 98 (fR w 91 x0)) :: []) := by
      intro v25 ev25
      have h := h v25 ev25
      have rv25 : zr v25 := by rw [ev25]; exact (zr_ite (zr_k 1 (by decide) (by decide)) (zr_k 2 (by decide) (by decide)))
      have o27 := h.1
      have h := h.2
      refine zc_iast G o27.1 rx6 rv25 o27.2.1 o27.2.2 dX18_byKind_74 (fun u26 eu26 => ?_)
      have h := h u26 eu26
      refine zc_wk G hp (fun hu26 tu26 => ?_)
      refine zv_aload_n G rfl rfl dX18_byKind_75 ?_
      have o28 := h.1
      have h := h.2
      refine zc_get (f := 91) (v := ar (fR u26 91 x0)) G o28 rfl q1263 (Or.inl rfl) (cV_R rfl) dX18_byKind_76 ?_
      have o29 := h.1
      have h := h.2
      refine zc_get (f := 99) (v := ar (fR u26 99 (fR u26 91 x0))) G o29 rfl q1228 (Or.inl rfl) (cV_R rfl) dX18_byKind_79 ?_
      refine zv_iload G rfl dX18_byKind_82 ?_
      refine zv_iload G rfl dX18_byKind_84 ?_
      have o31 := h.1
      have h := h.2
      have kj45 : ∀ v30 : Nat, v30 = (if x7 = 0 then 0 else aR u26 (fR u26 110 x5) (w32 (x7 - 1))) → ZV Γ u26 103 [(0, ar x0), (3, ar x3), (4, ai x4), (5, ar x5), (6, ai x6), (7, ai x7)] (ar v30 :: ai x6 :: ar (fR u26 99 (fR u26 91 x0)) :: []) := by
        intro v30 ev30
        have h := h v30 ev30
        have o33 := h.1
        have h := h.2
        have o34 := h.1
        have h := h.2
        refine zc_aast G o33.1 o34 rx6 o33.2.1 o33.2.2 dX18_byKind_103 (fun u32 eu32 => ?_)
        have h := h u32 eu32
        refine zc_wk G hp (fun hu32 tu32 => ?_)
        refine zv_aload G rfl dX18_byKind_104 ?_
        have o35 := h.1
        have h := h.2
        refine zc_get (f := 107) (v := ar (fR u32 107 x5)) G o35 rfl q1357 (Or.inr q1351) (cV_R rfl) dX18_byKind_106 ?_
        refine zv_iload G rfl dX18_byKind_109 ?_
        refine zv_aload_n G rfl rfl dX18_byKind_111 ?_
        refine zv_aload_n G rfl rfl dX18_byKind_112 ?_
        refine zv_iload G rfl dX18_byKind_113 ?_
        have o44 := h.1
        have h := h.2
        refine zv_callR (as := [ar x0, ar x3, ai x4]) (st := [ai x7, ar (fR u32 107 x5)]) G M (zc_eV (C := zcn 16) G q1403 q1286 q1287 (Or.inl ⟨rfl, rfl⟩) q1288 md_X18_make (zc_rc G (zne tu32 o44 (by decide)) o44 (by decide) (by decide) rfl) rfl dX18_byKind_115) (S 133 _ rfl _ _ _ h (zoks_cons trivial (zoks_cons trivial (zoks_cons rx4 zoks_nil)))) (Or.inl ⟨rfl, rfl⟩) (zc_hk q1288 q174) (by decide) (Nat.le_of_ble_eq_true rfl) (fun v37 u36 h => ?_) (fun x42 u43 h => ?_)
        rotate_left
        · exact zx_leave G M rfl h
        refine zc_wk G hp (fun hu36 tu36 => ?_)
        have o39 := h.1
        have h := h.2
        have o40 := h.1
        have h := h.2
        refine zc_aast G o39.1 o40 rx7 o39.2.1 o39.2.2 dX18_byKind_118 (fun u38 eu38 => ?_)
        have h := h u38 eu38
        refine zc_wk G hp (fun hu38 tu38 => ?_)
        refine zv_iincN G rfl (by decide) dX18_byKind_119 (fun x7_41 ex7_41 => ?_)
        have h := h x7_41 ex7_41
        have rx7_41 : zr x7_41 := by rw [ex7_41]; exact w32_r _
        refine zv_goto (tgt := 44) G (by decide) dX18_byKind_122 ?_
        exact zv_pick [0, 3, 4, 5, 6, 7] rfl (hI44 _ _ h rx7_41)
      refine zv_if_ne (tgt := 93) G rx7 (by decide) dX18_byKind_86 (fun c46 => ?_) (fun c46 => ?_)
      · refine zv_aload G rfl dX18_byKind_93 ?_
        refine zc_get (f := 110) (v := ar (fR u26 110 x5)) G (o31 c46).1 rfl q1460 (Or.inl rfl) (cV_R rfl) dX18_byKind_95 ?_
        refine zv_iload G rfl dX18_byKind_98 ?_
        refine zv_iconst (a := 1) G (by decide) dX18_byKind_100 ?_
        refine zv_isub G dX18_byKind_101 ?_
        refine zc_aald G (o31 c46).2.1 (w32_r _) (o31 c46).2.2.1 (o31 c46).2.2.2 dX18_byKind_102 ?_
        exact kj45 _ (if_neg c46).symm
      · refine zv_null G dX18_byKind_89 ?_
        refine zv_goto (tgt := 103) G (by decide) dX18_byKind_90 ?_
        exact kj45 _ (if_pos c46).symm
    refine zv_if_ne (tgt := 73) G rx7 (by decide) dX18_byKind_66 (fun c48 => ?_) (fun c48 => ?_)
    · refine zv_iconst (a := 2) G (by decide) dX18_byKind_73 ?_
      exact kj47 _ (if_neg c48).symm
    · refine zv_iconst (a := 1) G (by decide) dX18_byKind_69 ?_
      refine zv_goto (tgt := 74) G (by decide) dX18_byKind_70 ?_
      exact kj47 _ (if_pos c48).symm
set_option maxHeartbeats 4000000 in
set_option maxRecDepth 100000 in
theorem cpC_X18_byKind_0 {Γ : ZG CW} {D : CD} {d p : Nat} (hp : D.K.1 = p) (G : ZOk Γ cX18_byKind RX18 8 (KnC D) (ZC D)) (M : ZRm Γ (d + 1) D.lim (Option.some (Jvm.ClassFile.FieldType.object "LetterPost$Node")) "byKind" []) (S : SdC d D p Γ.l) (hl : Γ.l.stackTraces = false) (hk : 0 ≤ d) {x0 : Nat} {x1 : Int} {x2 : Nat} {x3 : Nat} {x4 : Int} {w : CW} (rx1 : zr x1) (rx4 : zr x4) (h : pC_X18_byKind_0 p (wpC p d) (fun v w => Γ.Q (.inl (some (ar v))) w) (fun x w => Γ.Q (.inr x) w) x0 x1 x2 x3 x4 w) : ZV Γ w 0 [(0, ar x0), (1, ai x1), (2, ar x2), (3, ar x3), (4, ai x4)] [] := by
  refine zc_wk G hp (fun hw tw => ?_)
  have o2 := h.1
  have h := h.2
  refine zc_new (ci := 21) (t := 22) (n := 4) G M rfl rfl (by decide) rfl q1445 q1446 q182 o2 dX18_byKind_0 (fun u1 eu1 => ?_)
  have h := h u1 eu1
  refine zc_wk G hp (fun hu1 tu1 => ?_)
  refine zv_dup G rfl dX18_byKind_3 ?_
  refine zv_iload_n G rfl rfl dX18_byKind_4 ?_
  refine zv_aload_n G rfl rfl dX18_byKind_5 ?_
  refine zv_aload_n G rfl rfl dX18_byKind_6 ?_
  refine zv_aload_n G rfl rfl dX18_byKind_7 ?_
  have o3 := h.1
  have h := h.2
  refine zc_get (f := 88) (v := ai (fI u1 88 x2)) G o3 rfl q1142 (Or.inl rfl) (cV_I (by decide) (by decide)) dX18_byKind_8 ?_
  have o49 := h.1
  have h := h.2
  refine zv_callR (as := [ar x0, ai (fI u1 88 x2)]) (st := [ar x2, ai x1, ar (cz w + 1), ar (cz w + 1)]) G M (zc_eV (C := zcn 16) G q1447 q1449 qs47 (Or.inl ⟨rfl, rfl⟩) q1450 md_X18_leaves (zc_rc G (zne tu1 o49 (by decide)) o49 (by decide) (by decide) rfl) rfl dX18_byKind_11) (S 143 _ rfl _ _ _ h (zoks_cons trivial (zoks_cons (hu1.i 88 _ (by decide)) zoks_nil))) (Or.inl ⟨rfl, rfl⟩) (zc_hk q1450 q174) (by decide) (Nat.le_of_ble_eq_true rfl) (fun v5 u4 h => ?_) (fun _ _ h => h.elim)
  refine zc_wk G hp (fun hu4 tu4 => ?_)
  refine zv_callV (as := [ar (cz w + 1), ai x1, ar x2, ar v5]) (st := [ar (cz w + 1)]) G M (zc_eI G rfl q1452 q1453 q1454 md_X26_init (Nat.succ_ne_zero _) rfl dX18_byKind_14) (S 171 _ rfl _ _ _ h (zoks_cons trivial (zoks_cons rx1 (zoks_cons trivial (zoks_cons trivial zoks_nil))))) (Or.inl ⟨rfl, rfl⟩) (zc_hk q1454 q182) (by decide) (Nat.le_of_ble_eq_true rfl) (fun u6 h => ?_) (fun _ _ h => h.elim)
  refine zc_wk G hp (fun hu6 tu6 => ?_)
  refine zv_astore G (by decide) rfl dX18_byKind_17 ?_
  refine zv_aload G rfl dX18_byKind_19 ?_
  refine zv_aload G rfl dX18_byKind_21 ?_
  have o8 := h.1
  have h := h.2
  refine zc_get (f := 110) (v := ar (fR u6 110 (cz w + 1))) G o8 rfl q1460 (Or.inl rfl) (cV_R rfl) dX18_byKind_23 ?_
  have o9 := h.1
  have h := h.2
  refine zc_alen G o9 dX18_byKind_26 ?_
  refine zv_iconst (a := 1) G (by decide) dX18_byKind_27 ?_
  refine zv_iadd G dX18_byKind_28 ?_
  have o11 := h.1
  have h := h.2
  refine zc_anew (t := 113) G M (by decide) q1402 o11.1 o11.2 dX18_byKind_29 (fun u10 eu10 => ?_)
  have h := h u10 eu10
  refine zc_wk G hp (fun hu10 tu10 => ?_)
  have o13 := h.1
  have h := h.2
  refine zc_putR (f := 107) G M o13 rfl q1357 (Or.inr q1351) (Or.inl rfl) (zfty_107) (Or.inr ⟨_, rfl⟩) rfl dX18_byKind_32 (fun u12 eu12 => ?_)
  have h := h u12 eu12
  refine zc_wk G hp (fun hu12 tu12 => ?_)
  refine zv_aload_n G rfl rfl dX18_byKind_35 ?_
  have o14 := h.1
  have h := h.2
  refine zc_get (f := 89) (v := ai (fI u12 89 x2)) G o14 rfl q1149 (Or.inl rfl) (cV_I (by decide) (by decide)) dX18_byKind_36 ?_
  refine zv_istoreN G (by decide) dX18_byKind_39 (fun x6_15 ex6_15 => ?_)
  have h := h x6_15 ex6_15
  have rx6_15 : zr x6_15 := by rw [ex6_15]; exact (hu12.i 89 _ (by decide))
  refine zv_iconst (a := 0) G (by decide) dX18_byKind_41 ?_
  refine zv_istore G (by decide) rfl dX18_byKind_42 ?_
  exact zv_pick [0, 3, 4, 5, 6, 7] rfl (cpC_X18_byKind_44 hp G M S hl hk rx4 rx6_15 (zr_k 0 (by decide) (by decide)) h)
set_option maxHeartbeats 4000000 in
set_option maxRecDepth 100000 in
theorem cpC_X18_leaves_88 {Γ : ZG CW} {D : CD} {d p : Nat} (hp : D.K.1 = p) (G : ZOk Γ cX18_leaves RX18 5 (KnC D) (ZC D)) (M : ZRm Γ (d + 1) D.lim (Option.some (Jvm.ClassFile.FieldType.array (Jvm.ClassFile.FieldType.object "LetterPost$Kind"))) "leaves" []) (S : SdC d D p Γ.l) (hl : Γ.l.stackTraces = false) (hk : 0 ≤ d) {x2 : Nat} {w : CW} (h : pC_X18_leaves_88 p (wpC p d) (fun v w => Γ.Q (.inl (some (ar v))) w) x2 w) : ZV Γ w 88 [(2, ar x2)] [] := by
  refine zc_wk G hp (fun hw tw => ?_)
  refine zv_aload_n G rfl rfl dX18_leaves_88 ?_
  exact zv_aret G M (Or.inr ⟨_, rfl⟩) dX18_leaves_89 h
set_option maxHeartbeats 4000000 in
set_option maxRecDepth 100000 in
theorem cpC_X18_leaves_82 {Γ : ZG CW} {D : CD} {d p : Nat} (hp : D.K.1 = p) (G : ZOk Γ cX18_leaves RX18 5 (KnC D) (ZC D)) (M : ZRm Γ (d + 1) D.lim (Option.some (Jvm.ClassFile.FieldType.array (Jvm.ClassFile.FieldType.object "LetterPost$Kind"))) "leaves" []) (S : SdC d D p Γ.l) (hl : Γ.l.stackTraces = false) (hk : 0 ≤ d) {I14 : Int → Int → CW → Prop} {x0 : Nat} {x1 : Int} {x2 : Nat} {x3 : Int} {x4 : Int} {w : CW} (hI14 : ∀ (x3 : Int) (x4 : Int) (w : CW), I14 x3 x4 w → zr x3 → zr x4 → ZV Γ w 14 [(0, ar x0), (1, ai x1), (2, ar x2), (3, ai x3), (4, ai x4)] []) (rx1 : zr x1) (rx3 : zr x3) (rx4 : zr x4) (h : pC_X18_leaves_82 p (wpC p d) (fun v w => Γ.Q (.inl (some (ar v))) w) I14 x0 x1 x2 x3 x4 w) : ZV Γ w 82 [(0, ar x0), (1, ai x1), (2, ar x2), (3, ai x3), (4, ai x4)] [] := by
  refine zc_wk G hp (fun hw tw => ?_)
  refine zv_iincN G rfl (by decide) dX18_leaves_82 (fun x4_13 ex4_13 => ?_)
  have h := h x4_13 ex4_13
  have rx4_13 : zr x4_13 := by rw [ex4_13]; exact w32_r _
  refine zv_goto (tgt := 14) G (by decide) dX18_leaves_85 ?_
  exact zv_pick [0, 1, 2, 3, 4] rfl (hI14 _ _ _ h rx3 rx4_13)
set_option maxHeartbeats 4000000 in
set_option maxRecDepth 100000 in
theorem cpC_X18_leaves_14 {Γ : ZG CW} {D : CD} {d p : Nat} (hp : D.K.1 = p) (G : ZOk Γ cX18_leaves RX18 5 (KnC D) (ZC D)) (M : ZRm Γ (d + 1) D.lim (Option.some (Jvm.ClassFile.FieldType.array (Jvm.ClassFile.FieldType.object "LetterPost$Kind"))) "leaves" []) (S : SdC d D p Γ.l) (hl : Γ.l.stackTraces = false) (hk : 0 ≤ d) {x0 : Nat} {x1 : Int} {x2 : Nat} {x3 : Int} {x4 : Int} {w : CW} (rx1 : zr x1) (rx3 : zr x3) (rx4 : zr x4) (h : pC_X18_leaves_14 p (wpC p d) (fun v w => Γ.Q (.inl (some (ar v))) w) x0 x1 x2 x3 x4 w) : ZV Γ w 14 [(0, ar x0), (1, ai x1), (2, ar x2), (3, ai x3), (4, ai x4)] [] := by
  obtain ⟨I14, eI14⟩ : ∃ I : Int → Int → CW → Prop, I = (fun x3 x4 w => zr x3 → zr x4 → ZV Γ w 14 [(0, ar x0), (1, ai x1), (2, ar x2), (3, ai x3), (4, ai x4)] []) := ⟨_, rfl⟩
  have hI14 : ∀ (x3 : Int) (x4 : Int) (w : CW), I14 x3 x4 w → zr x3 → zr x4 → ZV Γ w 14 [(0, ar x0), (1, ai x1), (2, ar x2), (3, ai x3), (4, ai x4)] [] := by subst eI14; exact fun _ _ _ z => z
  have hJ14 : ∀ (x3 : Int) (x4 : Int) (w : CW), (zr x3 → zr x4 → ZV Γ w 14 [(0, ar x0), (1, ai x1), (2, ar x2), (3, ai x3), (4, ai x4)] []) → I14 x3 x4 w := by subst eI14; exact fun _ _ _ z => z
  refine hI14 x3 x4 w (h I14 (fun x3 x4 w h => hJ14 x3 x4 w (fun rx3 rx4 => ?_))) rx3 rx4
  refine zc_wk G hp (fun hw tw => ?_)
  refine zv_iload G rfl dX18_leaves_14 ?_
  refine zv_aload_n G rfl rfl dX18_leaves_16 ?_
  have o5 := h.1
  have h := h.2
  refine zc_get (f := 97) (v := ar (fR w 97 x0)) G o5 rfl q1269 (Or.inl rfl) (cV_R rfl) dX18_leaves_17 ?_
  have o6 := h.1
  have h := h.2
  refine zc_getN (f := 1) (v := ai (fI w 1 (fR w 97 x0))) G o6 rfl q2057 (Or.inl rfl) (cV_I (by decide) (by decide)) dX18_leaves_20 ?_
  refine zv_icmp_ge (tgt := 88) G rx4 (hw.i 1 _ (by decide)) (by decide) dX18_leaves_23 (fun c7 => ?_) (fun c7 => ?_)
  · have h := h.1 c7
    exact zv_pick [2] rfl (cpC_X18_leaves_88 hp G M S hl hk h)
  · have h := h.2 c7
    refine zv_aload_n G rfl rfl dX18_leaves_26 ?_
    have o8 := h.1
    have h := h.2
    refine zc_get (f := 97) (v := ar (fR w 97 x0)) G o8 rfl q1269 (Or.inl rfl) (cV_R rfl) dX18_leaves_27 ?_
    have o9 := h.1
    have h := h.2
    refine zc_getN (f := 0) (v := ar (fR w 0 (fR w 97 x0))) G o9 rfl q2054 (Or.inl rfl) (cV_R rfl) dX18_leaves_30 ?_
    refine zv_iload G rfl dX18_leaves_33 ?_
    have o10 := h.1
    have h := h.2
    refine zc_aald G o10.1 rx4 o10.2.1 o10.2.2 dX18_leaves_35 ?_
    have o11 := h.1
    have h := h.2
    refine zc_get (f := 40) (v := ai (fI w 40 (aR w (fR w 0 (fR w 97 x0)) x4))) G o11 rfl q689 (Or.inl rfl) (cV_I (by decide) (by decide)) dX18_leaves_36 ?_
    refine zv_if_ne (tgt := 82) G (hw.i 40 _ (by decide)) (by decide) dX18_leaves_39 (fun c12 => ?_) (fun c12 => ?_)
    · have h := h.2 c12
      exact zv_pick [0, 1, 2, 3, 4] rfl (cpC_X18_leaves_82 hp G M S hl hk hI14 rx1 rx3 rx4 h)
    · have h := h.1 c12
      refine zv_aload_n G rfl rfl dX18_leaves_42 ?_
      have o14 := h.1
      have h := h.2
      refine zc_get (f := 97) (v := ar (fR w 97 x0)) G o14 rfl q1269 (Or.inl rfl) (cV_R rfl) dX18_leaves_43 ?_
      have o15 := h.1
      have h := h.2
      refine zc_getN (f := 0) (v := ar (fR w 0 (fR w 97 x0))) G o15 rfl q2054 (Or.inl rfl) (cV_R rfl) dX18_leaves_46 ?_
      refine zv_iload G rfl dX18_leaves_49 ?_
      have o16 := h.1
      have h := h.2
      refine zc_aald G o16.1 rx4 o16.2.1 o16.2.2 dX18_leaves_51 ?_
      refine zv_aload_n G rfl rfl dX18_leaves_52 ?_
      have o17 := h.1
      have h := h.2
      refine zc_get (f := 97) (v := ar (fR w 97 x0)) G o17 rfl q1269 (Or.inl rfl) (cV_R rfl) dX18_leaves_53 ?_
      refine zv_iload_n G rfl rfl dX18_leaves_56 ?_
      have o31 := h.1
      have h := h.2
      refine zv_callR (as := [ar (fR w 97 x0), ai x1]) (st := [ar (aR w (fR w 0 (fR w 97 x0)) x4)]) G M (zc_eVN (C := zcn 1) G q1424 q925 qs26 (Or.inl ⟨rfl, rfl⟩) q926 md_X0_kindOf (zc_rc G (zne tw o31 (by decide)) o31 (by decide) (by decide) rfl) rfl dX18_leaves_57) (S 31 _ rfl _ _ _ h (zoks_cons trivial (zoks_cons rx1 zoks_nil))) (Or.inl ⟨rfl, rfl⟩) (zc_hk q926 q143) (by decide) (Nat.le_of_ble_eq_true rfl) (fun v19 u18 h => ?_) (fun _ _ h => h.elim)
      refine zc_wk G hp (fun hu18 tu18 => ?_)
      have o30 := h.1
      have h := h.2
      refine zv_callI (as := [ar (aR w (fR w 0 (fR w 97 x0)) x4), ar v19]) (st := []) G M (zc_eV (C := zcn 3) G q1425 q928 q929 (Or.inl ⟨rfl, rfl⟩) q930 md_X3_is (zc_rc G (zne tu18 o30 (by decide)) o30 (by decide) (by decide) rfl) rfl dX18_leaves_60) (S 83 _ rfl _ _ _ h (zoks_cons trivial (zoks_cons trivial zoks_nil))) (Or.inl ⟨rfl, rfl⟩) (zc_hk q930 q159) (by decide) (Nat.le_of_ble_eq_true rfl) (fun v21 u20 rv21 h => ?_) (fun _ _ h => h.elim)
      refine zc_wk G hp (fun hu20 tu20 => ?_)
      refine zv_if_eq (tgt := 82) G rv21 (by decide) dX18_leaves_63 (fun c22 => ?_) (fun c22 => ?_)
      · have h := h.1 c22
        exact zv_pick [0, 1, 2, 3, 4] rfl (cpC_X18_leaves_82 hp G M S hl hk hI14 rx1 rx3 rx4 h)
      · have h := h.2 c22
        refine zv_aload_n G rfl rfl dX18_leaves_66 ?_
        refine zv_iload_n G rfl rfl dX18_leaves_67 ?_
        refine zv_aload_n G rfl rfl dX18_leaves_68 ?_
        have o23 := h.1
        have h := h.2
        refine zc_get (f := 97) (v := ar (fR u20 97 x0)) G o23 rfl q1269 (Or.inl rfl) (cV_R rfl) dX18_leaves_69 ?_
        have o24 := h.1
        have h := h.2
        refine zc_getN (f := 0) (v := ar (fR u20 0 (fR u20 97 x0))) G o24 rfl q2054 (Or.inl rfl) (cV_R rfl) dX18_leaves_72 ?_
        refine zv_iload G rfl dX18_leaves_75 ?_
        have o25 := h.1
        have h := h.2
        refine zc_aald G o25.1 rx4 o25.2.1 o25.2.2 dX18_leaves_77 ?_
        have o27 := h.1
        have h := h.2
        have o28 := h.1
        have h := h.2
        refine zc_aast G o27.1 o28 rx3 o27.2.1 o27.2.2 dX18_leaves_78 (fun u26 eu26 => ?_)
        have h := h u26 eu26
        refine zc_wk G hp (fun hu26 tu26 => ?_)
        refine zv_iincN G rfl (by decide) dX18_leaves_79 (fun x3_29 ex3_29 => ?_)
        have h := h x3_29 ex3_29
        have rx3_29 : zr x3_29 := by rw [ex3_29]; exact w32_r _
        exact zv_pick [0, 1, 2, 3, 4] rfl (cpC_X18_leaves_82 hp G M S hl hk hI14 rx1 rx3_29 rx4 h)
set_option maxHeartbeats 4000000 in
set_option maxRecDepth 100000 in
theorem cpC_X18_leaves_0 {Γ : ZG CW} {D : CD} {d p : Nat} (hp : D.K.1 = p) (G : ZOk Γ cX18_leaves RX18 5 (KnC D) (ZC D)) (M : ZRm Γ (d + 1) D.lim (Option.some (Jvm.ClassFile.FieldType.array (Jvm.ClassFile.FieldType.object "LetterPost$Kind"))) "leaves" []) (S : SdC d D p Γ.l) (hl : Γ.l.stackTraces = false) (hk : 0 ≤ d) {x0 : Nat} {x1 : Int} {w : CW} (rx1 : zr x1) (h : pC_X18_leaves_0 p (wpC p d) (fun v w => Γ.Q (.inl (some (ar v))) w) x0 x1 w) : ZV Γ w 0 [(0, ar x0), (1, ai x1)] [] := by
  refine zc_wk G hp (fun hw tw => ?_)
  refine zv_aload_n G rfl rfl dX18_leaves_0 ?_
  refine zv_iload_n G rfl rfl dX18_leaves_1 ?_
  have o32 := h.1
  have h := h.2
  refine zv_callI (as := [ar x0, ai x1]) (st := []) G M (zc_eV (C := zcn 16) G q1420 q1422 qs42 (Or.inl ⟨rfl, rfl⟩) q1423 md_X18_leafMany (zc_rc G (zne tw o32 (by decide)) o32 (by decide) (by decide) rfl) rfl dX18_leaves_2) (S 138 _ rfl _ _ _ h (zoks_cons trivial (zoks_cons rx1 zoks_nil))) (Or.inl ⟨rfl, rfl⟩) (zc_hk q1423 q174) (by decide) (Nat.le_of_ble_eq_true rfl) (fun v2 u1 rv2 h => ?_) (fun _ _ h => h.elim)
  refine zc_wk G hp (fun hu1 tu1 => ?_)
  have o4 := h.1
  have h := h.2
  refine zc_anew (t := 112) G M (by decide) q1451 o4.1 o4.2 dX18_leaves_5 (fun u3 eu3 => ?_)
  have h := h u3 eu3
  refine zc_wk G hp (fun hu3 tu3 => ?_)
  refine zv_astore_n G rfl (by decide) rfl dX18_leaves_8 ?_
  refine zv_iconst (a := 0) G (by decide) dX18_leaves_9 ?_
  refine zv_istore_n G rfl (by decide) rfl dX18_leaves_10 ?_
  refine zv_iconst (a := 0) G (by decide) dX18_leaves_11 ?_
  refine zv_istore G (by decide) rfl dX18_leaves_12 ?_
  exact zv_pick [0, 1, 2, 3, 4] rfl (cpC_X18_leaves_14 hp G M S hl hk rx1 (zr_k 0 (by decide) (by decide)) (zr_k 0 (by decide) (by decide)) h)
set_option maxHeartbeats 4000000 in
set_option maxRecDepth 100000 in
theorem cpC_X18_byTruth_66 {Γ : ZG CW} {D : CD} {d p : Nat} (hp : D.K.1 = p) (G : ZOk Γ cX18_byTruth RX18 7 (KnC D) (ZC D)) (M : ZRm Γ (d + 1) D.lim (Option.some (Jvm.ClassFile.FieldType.object "LetterPost$Node")) "byTruth" []) (S : SdC d D p Γ.l) (hl : Γ.l.stackTraces = false) (hk : 0 ≤ d) {x0 : Nat} {x2 : Nat} {x5 : Nat} {w : CW} (h : pC_X18_byTruth_66 p (wpC p d) (fun v w => Γ.Q (.inl (some (ar v))) w) (fun x w => Γ.Q (.inr x) w) x0 x2 x5 w) : ZV Γ w 66 [(0, ar x0), (2, ar x2), (5, ar x5)] [] := by
  refine zc_wk G hp (fun hw tw => ?_)
  refine zv_aload_n G rfl rfl dX18_byTruth_66 ?_
  have o10 := h.1
  have h := h.2
  refine zc_get (f := 91) (v := ar (fR w 91 x0)) G o10 rfl q1263 (Or.inl rfl) (cV_R rfl) dX18_byTruth_67 ?_
  have o11 := h.1
  have h := h.2
  refine zc_get (f := 98) (v := ar (fR w 98 (fR w 91 x0))) G o11 rfl q1225 (Or.inl rfl) (cV_R rfl) dX18_byTruth_70 ?_
  refine zv_aload_n G rfl rfl dX18_byTruth_73 ?_
  have o12 := h.1
  have h := h.2
  refine zc_get (f := 89) (v := ai (fI w 89 x2)) G o12 rfl q1149 (Or.inl rfl) (cV_I (by decide) (by decide)) dX18_byTruth_74 ?_
  refine zv_iconst (a := 0) G (by decide) dX18_byTruth_77 ?_
  have o14 := h.1
  have h := h.2
  refine zc_iast G o14.1 (hw.i 89 _ (by decide)) (zr_k 0 (by decide) (by decide)) o14.2.1 o14.2.2 dX18_byTruth_78 (fun u13 eu13 => ?_)
  have h := h u13 eu13
  refine zc_wk G hp (fun hu13 tu13 => ?_)
  refine zv_aload G rfl dX18_byTruth_79 ?_
  exact zv_aret G M (Or.inl ⟨_, rfl⟩) dX18_byTruth_81 h
set_option maxHeartbeats 4000000 in
set_option maxRecDepth 100000 in
theorem cpC_X18_byTruth_23 {Γ : ZG CW} {D : CD} {d p : Nat} (hp : D.K.1 = p) (G : ZOk Γ cX18_byTruth RX18 7 (KnC D) (ZC D)) (M : ZRm Γ (d + 1) D.lim (Option.some (Jvm.ClassFile.FieldType.object "LetterPost$Node")) "byTruth" []) (S : SdC d D p Γ.l) (hl : Γ.l.stackTraces = false) (hk : 0 ≤ d) {x0 : Nat} {x2 : Nat} {x3 : Nat} {x4 : Int} {x5 : Nat} {x6 : Int} {w : CW} (rx4 : zr x4) (rx6 : zr x6) (h : pC_X18_byTruth_23 p (wpC p d) (fun v w => Γ.Q (.inl (some (ar v))) w) (fun x w => Γ.Q (.inr x) w) x0 x2 x3 x4 x5 x6 w) : ZV Γ w 23 [(0, ar x0), (2, ar x2), (3, ar x3), (4, ai x4), (5, ar x5), (6, ai x6)] [] := by
  obtain ⟨I23, eI23⟩ : ∃ I : Int → CW → Prop, I = (fun x6 w => zr x6 → ZV Γ w 23 [(0, ar x0), (2, ar x2), (3, ar x3), (4, ai x4), (5, ar x5), (6, ai x6)] []) := ⟨_, rfl⟩
  have hI23 : ∀ (x6 : Int) (w : CW), I23 x6 w → zr x6 → ZV Γ w 23 [(0, ar x0), (2, ar x2), (3, ar x3), (4, ai x4), (5, ar x5), (6, ai x6)] [] := by subst eI23; exact fun _ _ z => z
  have hJ23 : ∀ (x6 : Int) (w : CW), (zr x6 → ZV Γ w 23 [(0, ar x0), (2, ar x2), (3, ar x3), (4, ai x4), (5, ar x5), (6, ai x6)] []) → I23 x6 w := by subst eI23; exact fun _ _ z => z
  refine hI23 x6 w (h I23 (fun x6 w h => hJ23 x6 w (fun rx6 => ?_))) rx6
  refine zc_wk G hp (fun hw tw => ?_)
  refine zv_iload G rfl dX18_byTruth_23 ?_
  refine zv_iconst (a := 2) G (by decide) dX18_byTruth_25 ?_
  refine zv_icmp_ge (tgt := 66) G rx6 (zr_k 2 (by decide) (by decide)) (by decide) dX18_byTruth_26 (fun c9 => ?_) (fun c9 => ?_)
  · have h := h.1 c9
    exact zv_pick [0, 2, 5] rfl (cpC_X18_byTruth_66 hp G M S hl hk h)
  · have h := h.2 c9
    refine zv_aload_n G rfl rfl dX18_byTruth_29 ?_
    have o15 := h.1
    have h := h.2
    refine zc_get (f := 91) (v := ar (fR w 91 x0)) G o15 rfl q1263 (Or.inl rfl) (cV_R rfl) dX18_byTruth_30 ?_
    have o16 := h.1
    have h := h.2
    refine zc_get (f := 98) (v := ar (fR w 98 (fR w 91 x0))) G o16 rfl q1225 (Or.inl rfl) (cV_R rfl) dX18_byTruth_33 ?_
    refine zv_aload_n G rfl rfl dX18_byTruth_36 ?_
    have o17 := h.1
    have h := h.2
    refine zc_get (f := 89) (v := ai (fI w 89 x2)) G o17 rfl q1149 (Or.inl rfl) (cV_I (by decide) (by decide)) dX18_byTruth_37 ?_
    refine zv_iload G rfl dX18_byTruth_40 ?_
    refine zv_iconst (a := 1) G (by decide) dX18_byTruth_42 ?_
    refine zv_iadd G dX18_byTruth_43 ?_
    have o19 := h.1
    have h := h.2
    refine zc_iast G o19.1 (hw.i 89 _ (by decide)) (w32_r _) o19.2.1 o19.2.2 dX18_byTruth_44 (fun u18 eu18 => ?_)
    have h := h u18 eu18
    refine zc_wk G hp (fun hu18 tu18 => ?_)
    refine zv_aload G rfl dX18_byTruth_45 ?_
    have o20 := h.1
    have h := h.2
    refine zc_get (f := 107) (v := ar (fR u18 107 x5)) G o20 rfl q1358 (Or.inr q1349) (cV_R rfl) dX18_byTruth_47 ?_
    refine zv_iload G rfl dX18_byTruth_50 ?_
    refine zv_aload_n G rfl rfl dX18_byTruth_52 ?_
    refine zv_aload_n G rfl rfl dX18_byTruth_53 ?_
    refine zv_iload G rfl dX18_byTruth_54 ?_
    have o29 := h.1
    have h := h.2
    refine zv_callR (as := [ar x0, ar x3, ai x4]) (st := [ai x6, ar (fR u18 107 x5)]) G M (zc_eV (C := zcn 16) G q1403 q1286 q1287 (Or.inl ⟨rfl, rfl⟩) q1288 md_X18_make (zc_rc G (zne tu18 o29 (by decide)) o29 (by decide) (by decide) rfl) rfl dX18_byTruth_56) (S 133 _ rfl _ _ _ h (zoks_cons trivial (zoks_cons trivial (zoks_cons rx4 zoks_nil)))) (Or.inl ⟨rfl, rfl⟩) (zc_hk q1288 q174) (by decide) (Nat.le_of_ble_eq_true rfl) (fun v22 u21 h => ?_) (fun x27 u28 h => ?_)
    rotate_left
    · exact zx_leave G M rfl h
    refine zc_wk G hp (fun hu21 tu21 => ?_)
    have o24 := h.1
    have h := h.2
    have o25 := h.1
    have h := h.2
    refine zc_aast G o24.1 o25 rx6 o24.2.1 o24.2.2 dX18_byTruth_59 (fun u23 eu23 => ?_)
    have h := h u23 eu23
    refine zc_wk G hp (fun hu23 tu23 => ?_)
    refine zv_iincN G rfl (by decide) dX18_byTruth_60 (fun x6_26 ex6_26 => ?_)
    have h := h x6_26 ex6_26
    have rx6_26 : zr x6_26 := by rw [ex6_26]; exact w32_r _
    refine zv_goto (tgt := 23) G (by decide) dX18_byTruth_63 ?_
    exact zv_pick [0, 2, 3, 4, 5, 6] rfl (hI23 _ _ h rx6_26)
set_option maxHeartbeats 4000000 in
set_option maxRecDepth 100000 in
theorem cpC_X18_byTruth_0 {Γ : ZG CW} {D : CD} {d p : Nat} (hp : D.K.1 = p) (G : ZOk Γ cX18_byTruth RX18 7 (KnC D) (ZC D)) (M : ZRm Γ (d + 1) D.lim (Option.some (Jvm.ClassFile.FieldType.object "LetterPost$Node")) "byTruth" []) (S : SdC d D p Γ.l) (hl : Γ.l.stackTraces = false) (hk : 0 ≤ d) {x0 : Nat} {x1 : Int} {x2 : Nat} {x3 : Nat} {x4 : Int} {w : CW} (rx1 : zr x1) (rx4 : zr x4) (h : pC_X18_byTruth_0 p (wpC p d) (fun v w => Γ.Q (.inl (some (ar v))) w) (fun x w => Γ.Q (.inr x) w) x0 x1 x2 x3 x4 w) : ZV Γ w 0 [(0, ar x0), (1, ai x1), (2, ar x2), (3, ar x3), (4, ai x4)] [] := by
  refine zc_wk G hp (fun hw tw => ?_)
  have o2 := h.1
  have h := h.2
  refine zc_new (ci := 22) (t := 23) (n := 3) G M rfl rfl (by decide) rfl q1481 q1482 q183 o2 dX18_byTruth_0 (fun u1 eu1 => ?_)
  have h := h u1 eu1
  refine zc_wk G hp (fun hu1 tu1 => ?_)
  refine zv_dup G rfl dX18_byTruth_3 ?_
  refine zv_iload_n G rfl rfl dX18_byTruth_4 ?_
  refine zv_aload_n G rfl rfl dX18_byTruth_5 ?_
  refine zv_callV (as := [ar (cz w + 1), ai x1, ar x2]) (st := [ar (cz w + 1)]) G M (zc_eI G rfl q1483 q1484 q1485 md_X27_init (Nat.succ_ne_zero _) rfl dX18_byTruth_6) (S 174 _ rfl _ _ _ h (zoks_cons trivial (zoks_cons rx1 (zoks_cons trivial zoks_nil)))) (Or.inl ⟨rfl, rfl⟩) (zc_hk q1485 q183) (by decide) (Nat.le_of_ble_eq_true rfl) (fun u3 h => ?_) (fun _ _ h => h.elim)
  refine zc_wk G hp (fun hu3 tu3 => ?_)
  refine zv_astore G (by decide) rfl dX18_byTruth_9 ?_
  refine zv_aload G rfl dX18_byTruth_11 ?_
  refine zv_iconst (a := 2) G (by decide) dX18_byTruth_13 ?_
  have o6 := h.1
  have h := h.2
  refine zc_anew (t := 113) G M (by decide) q1402 o6.1 o6.2 dX18_byTruth_14 (fun u5 eu5 => ?_)
  have h := h u5 eu5
  refine zc_wk G hp (fun hu5 tu5 => ?_)
  have o8 := h.1
  have h := h.2
  refine zc_putR (f := 107) G M o8 rfl q1358 (Or.inr q1349) (Or.inl rfl) (zfty_107) (Or.inr ⟨_, rfl⟩) rfl dX18_byTruth_17 (fun u7 eu7 => ?_)
  have h := h u7 eu7
  refine zc_wk G hp (fun hu7 tu7 => ?_)
  refine zv_iconst (a := 0) G (by decide) dX18_byTruth_20 ?_
  refine zv_istore G (by decide) rfl dX18_byTruth_21 ?_
  exact zv_pick [0, 2, 3, 4, 5, 6] rfl (cpC_X18_byTruth_23 hp G M S hl hk rx4 (zr_k 0 (by decide) (by decide)) h)
set_option maxHeartbeats 4000000 in
set_option maxRecDepth 100000 in
theorem cpC_X18_byText_193 {Γ : ZG CW} {D : CD} {d p : Nat} (hp : D.K.1 = p) (G : ZOk Γ cX18_byText RX18 9 (KnC D) (ZC D)) (M : ZRm Γ (d + 1) D.lim (Option.some (Jvm.ClassFile.FieldType.object "LetterPost$Node")) "byText" []) (S : SdC d D p Γ.l) (hl : Γ.l.stackTraces = false) (hk : 0 ≤ d) {x0 : Nat} {x3 : Nat} {x4 : Int} {x5 : Nat} {x6 : Int} {x7 : Int} {w : CW} (rx4 : zr x4) (rx6 : zr x6) (rx7 : zr x7) (h : pC_X18_byText_193 p (wpC p d) (fun v w => Γ.Q (.inl (some (ar v))) w) (fun x w => Γ.Q (.inr x) w) x0 x3 x4 x5 x6 x7 w) : ZV Γ w 193 [(0, ar x0), (3, ar x3), (4, ai x4), (5, ar x5), (6, ai x6), (7, ai x7)] [] := by
  refine zc_wk G hp (fun hw tw => ?_)
  refine zv_aload G rfl dX18_byText_193 ?_
  have o24 := h.1
  have h := h.2
  refine zc_get (f := 107) (v := ar (fR w 107 x5)) G o24 rfl q1359 (Or.inr q1355) (cV_R rfl) dX18_byText_195 ?_
  refine zv_iload G rfl dX18_byText_198 ?_
  refine zv_aload_n G rfl rfl dX18_byText_200 ?_
  refine zv_aload_n G rfl rfl dX18_byText_201 ?_
  refine zv_iload G rfl dX18_byText_202 ?_
  have o35 := h.1
  have h := h.2
  refine zv_callR (as := [ar x0, ar x3, ai x4]) (st := [ai x6, ar (fR w 107 x5)]) G M (zc_eV (C := zcn 16) G q1403 q1286 q1287 (Or.inl ⟨rfl, rfl⟩) q1288 md_X18_make (zc_rc G (zne tw o35 (by decide)) o35 (by decide) (by decide) rfl) rfl dX18_byText_204) (S 133 _ rfl _ _ _ h (zoks_cons trivial (zoks_cons trivial (zoks_cons rx4 zoks_nil)))) (Or.inl ⟨rfl, rfl⟩) (zc_hk q1288 q174) (by decide) (Nat.le_of_ble_eq_true rfl) (fun v26 u25 h => ?_) (fun x33 u34 h => ?_)
  rotate_left
  · exact zx_leave G M rfl h
  refine zc_wk G hp (fun hu25 tu25 => ?_)
  have o28 := h.1
  have h := h.2
  have o29 := h.1
  have h := h.2
  refine zc_aast G o28.1 o29 rx6 o28.2.1 o28.2.2 dX18_byText_207 (fun u27 eu27 => ?_)
  have h := h u27 eu27
  refine zc_wk G hp (fun hu27 tu27 => ?_)
  refine zv_aload_n G rfl rfl dX18_byText_208 ?_
  have o30 := h.1
  have h := h.2
  refine zc_get (f := 91) (v := ar (fR u27 91 x0)) G o30 rfl q1263 (Or.inl rfl) (cV_R rfl) dX18_byText_209 ?_
  refine zv_iload G rfl dX18_byText_212 ?_
  have o32 := h.1
  have h := h.2
  refine zc_putI (f := 105) G M o32 rfl q1243 (Or.inl rfl) (Or.inl rfl) (zfty_105) rfl rfl (by decide) (by decide) rx7 dX18_byText_214 (fun u31 eu31 => ?_)
  have h := h u31 eu31
  refine zc_wk G hp (fun hu31 tu31 => ?_)
  refine zv_aload G rfl dX18_byText_217 ?_
  exact zv_aret G M (Or.inl ⟨_, rfl⟩) dX18_byText_219 h
set_option maxHeartbeats 4000000 in
set_option maxRecDepth 100000 in
theorem cpC_X18_byText_128 {Γ : ZG CW} {D : CD} {d p : Nat} (hp : D.K.1 = p) (G : ZOk Γ cX18_byText RX18 9 (KnC D) (ZC D)) (M : ZRm Γ (d + 1) D.lim (Option.some (Jvm.ClassFile.FieldType.object "LetterPost$Node")) "byText" []) (S : SdC d D p Γ.l) (hl : Γ.l.stackTraces = false) (hk : 0 ≤ d) {x0 : Nat} {x2 : Nat} {x3 : Nat} {x4 : Int} {x5 : Nat} {x6 : Int} {x7 : Int} {x8 : Int} {w : CW} (rx4 : zr x4) (rx6 : zr x6) (rx7 : zr x7) (rx8 : zr x8) (h : pC_X18_byText_128 p (wpC p d) (fun v w => Γ.Q (.inl (some (ar v))) w) (fun x w => Γ.Q (.inr x) w) x0 x2 x3 x4 x5 x6 x7 x8 w) : ZV Γ w 128 [(0, ar x0), (2, ar x2), (3, ar x3), (4, ai x4), (5, ar x5), (6, ai x6), (7, ai x7), (8, ai x8)] [] := by
  obtain ⟨I128, eI128⟩ : ∃ I : Int → CW → Prop, I = (fun x8 w => zr x8 → ZV Γ w 128 [(0, ar x0), (2, ar x2), (3, ar x3), (4, ai x4), (5, ar x5), (6, ai x6), (7, ai x7), (8, ai x8)] []) := ⟨_, rfl⟩
  have hI128 : ∀ (x8 : Int) (w : CW), I128 x8 w → zr x8 → ZV Γ w 128 [(0, ar x0), (2, ar x2), (3, ar x3), (4, ai x4), (5, ar x5), (6, ai x6), (7, ai x7), (8, ai x8)] [] := by subst eI128; exact fun _ _ z => z
  have hJ128 : ∀ (x8 : Int) (w : CW), (zr x8 → ZV Γ w 128 [(0, ar x0), (2, ar x2), (3, ar x3), (4, ai x4), (5, ar x5), (6, ai x6), (7, ai x7), (8, ai x8)] []) → I128 x8 w := by subst eI128; exact fun _ _ z => z
  refine hI128 x8 w (h I128 (fun x8 w h => hJ128 x8 w (fun rx8 => ?_))) rx8
  refine zc_wk G hp (fun hw tw => ?_)
  refine zv_iload G rfl dX18_byText_128 ?_
  refine zv_iload G rfl dX18_byText_130 ?_
  refine zv_icmp_ge (tgt := 193) G rx8 rx6 (by decide) dX18_byText_132 (fun c23 => ?_) (fun c23 => ?_)
  · have h := h.1 c23
    exact zv_pick [0, 3, 4, 5, 6, 7] rfl (cpC_X18_byText_193 hp G M S hl hk rx4 rx6 rx7 h)
  · have h := h.2 c23
    refine zv_aload_n G rfl rfl dX18_byText_135 ?_
    have o36 := h.1
    have h := h.2
    refine zc_get (f := 91) (v := ar (fR w 91 x0)) G o36 rfl q1263 (Or.inl rfl) (cV_R rfl) dX18_byText_136 ?_
    have o37 := h.1
    have h := h.2
    refine zc_get (f := 103) (v := ar (fR w 103 (fR w 91 x0))) G o37 rfl q1239 (Or.inl rfl) (cV_R rfl) dX18_byText_139 ?_
    refine zv_aload_n G rfl rfl dX18_byText_142 ?_
    have o38 := h.1
    have h := h.2
    refine zc_get (f := 91) (v := ar (fR w 91 x0)) G o38 rfl q1263 (Or.inl rfl) (cV_R rfl) dX18_byText_143 ?_
    have o39 := h.1
    have h := h.2
    refine zc_get (f := 105) (v := ai (fI w 105 (fR w 91 x0))) G o39 rfl q1243 (Or.inl rfl) (cV_I (by decide) (by decide)) dX18_byText_146 ?_
    refine zv_aload_n G rfl rfl dX18_byText_149 ?_
    have o41 := h.1
    have h := h.2
    have o42 := h.1
    have h := h.2
    refine zc_aast G o41.1 o42 (hw.i 105 _ (by decide)) o41.2.1 o41.2.2 dX18_byText_150 (fun u40 eu40 => ?_)
    have h := h u40 eu40
    refine zc_wk G hp (fun hu40 tu40 => ?_)
    refine zv_aload_n G rfl rfl dX18_byText_151 ?_
    have o43 := h.1
    have h := h.2
    refine zc_get (f := 91) (v := ar (fR u40 91 x0)) G o43 rfl q1263 (Or.inl rfl) (cV_R rfl) dX18_byText_152 ?_
    have o44 := h.1
    have h := h.2
    refine zc_get (f := 104) (v := ar (fR u40 104 (fR u40 91 x0))) G o44 rfl q1241 (Or.inl rfl) (cV_R rfl) dX18_byText_155 ?_
    refine zv_aload_n G rfl rfl dX18_byText_158 ?_
    have o45 := h.1
    have h := h.2
    refine zc_get (f := 91) (v := ar (fR u40 91 x0)) G o45 rfl q1263 (Or.inl rfl) (cV_R rfl) dX18_byText_159 ?_
    have o46 := h.1
    have h := h.2
    refine zc_get (f := 105) (v := ai (fI u40 105 (fR u40 91 x0))) G o46 rfl q1243 (Or.inl rfl) (cV_I (by decide) (by decide)) dX18_byText_162 ?_
    refine zv_aload G rfl dX18_byText_165 ?_
    have o47 := h.1
    have h := h.2
    refine zc_get (f := 111) (v := ar (fR u40 111 x5)) G o47 rfl q1506 (Or.inl rfl) (cV_R rfl) dX18_byText_167 ?_
    refine zv_iload G rfl dX18_byText_170 ?_
    have o48 := h.1
    have h := h.2
    refine zc_laldN G o48.1 rx8 o48.2.1 o48.2.2 dX18_byText_172 ?_
    have o50 := h.1
    have h := h.2
    refine zc_last G o50.1 (hu40.i 105 _ (by decide)) (aW_r hu40 _ _) o50.2.1 o50.2.2 dX18_byText_173 (fun u49 eu49 => ?_)
    have h := h u49 eu49
    refine zc_wk G hp (fun hu49 tu49 => ?_)
    refine zv_aload_n G rfl rfl dX18_byText_174 ?_
    have o51 := h.1
    have h := h.2
    refine zc_get (f := 91) (v := ar (fR u49 91 x0)) G o51 rfl q1263 (Or.inl rfl) (cV_R rfl) dX18_byText_175 ?_
    refine zv_dup G rfl dX18_byText_178 ?_
    have o52 := h.1
    have h := h.2
    refine zc_get (f := 105) (v := ai (fI u49 105 (fR u49 91 x0))) G o52 rfl q1243 (Or.inl rfl) (cV_I (by decide) (by decide)) dX18_byText_179 ?_
    refine zv_iconst (a := 1) G (by decide) dX18_byText_182 ?_
    refine zv_iadd G dX18_byText_183 ?_
    have o54 := h.1
    have h := h.2
    refine zc_putI (f := 105) G M o54 rfl q1243 (Or.inl rfl) (Or.inl rfl) (zfty_105) rfl rfl (by decide) (by decide) (w32_r _) dX18_byText_184 (fun u53 eu53 => ?_)
    have h := h u53 eu53
    refine zc_wk G hp (fun hu53 tu53 => ?_)
    refine zv_iincN G rfl (by decide) dX18_byText_187 (fun x8_55 ex8_55 => ?_)
    have h := h x8_55 ex8_55
    have rx8_55 : zr x8_55 := by rw [ex8_55]; exact w32_r _
    refine zv_goto (tgt := 128) G (by decide) dX18_byText_190 ?_
    exact zv_pick [0, 2, 3, 4, 5, 6, 7, 8] rfl (hI128 _ _ h rx8_55)
set_option maxHeartbeats 4000000 in
set_option maxRecDepth 100000 in
theorem cpC_X18_byText_103 {Γ : ZG CW} {D : CD} {d p : Nat} (hp : D.K.1 = p) (G : ZOk Γ cX18_byText RX18 9 (KnC D) (ZC D)) (M : ZRm Γ (d + 1) D.lim (Option.some (Jvm.ClassFile.FieldType.object "LetterPost$Node")) "byText" []) (S : SdC d D p Γ.l) (hl : Γ.l.stackTraces = false) (hk : 0 ≤ d) {x0 : Nat} {x2 : Nat} {x3 : Nat} {x4 : Int} {x5 : Nat} {x6 : Int} {w : CW} (rx4 : zr x4) (rx6 : zr x6) (h : pC_X18_byText_103 p (wpC p d) (fun v w => Γ.Q (.inl (some (ar v))) w) (fun x w => Γ.Q (.inr x) w) x0 x2 x3 x4 x5 x6 w) : ZV Γ w 103 [(0, ar x0), (2, ar x2), (3, ar x3), (4, ai x4), (5, ar x5), (6, ai x6)] [] := by
  refine zc_wk G hp (fun hw tw => ?_)
  refine zv_aload_n G rfl rfl dX18_byText_103 ?_
  have o15 := h.1
  have h := h.2
  refine zc_get (f := 91) (v := ar (fR w 91 x0)) G o15 rfl q1263 (Or.inl rfl) (cV_R rfl) dX18_byText_104 ?_
  have o16 := h.1
  have h := h.2
  refine zc_get (f := 98) (v := ar (fR w 98 (fR w 91 x0))) G o16 rfl q1225 (Or.inl rfl) (cV_R rfl) dX18_byText_107 ?_
  refine zv_aload_n G rfl rfl dX18_byText_110 ?_
  have o17 := h.1
  have h := h.2
  refine zc_get (f := 89) (v := ai (fI w 89 x2)) G o17 rfl q1149 (Or.inl rfl) (cV_I (by decide) (by decide)) dX18_byText_111 ?_
  refine zv_iconst (a := 0) G (by decide) dX18_byText_114 ?_
  have o19 := h.1
  have h := h.2
  refine zc_iast G o19.1 (hw.i 89 _ (by decide)) (zr_k 0 (by decide) (by decide)) o19.2.1 o19.2.2 dX18_byText_115 (fun u18 eu18 => ?_)
  have h := h u18 eu18
  refine zc_wk G hp (fun hu18 tu18 => ?_)
  refine zv_aload_n G rfl rfl dX18_byText_116 ?_
  have o20 := h.1
  have h := h.2
  refine zc_get (f := 91) (v := ar (fR u18 91 x0)) G o20 rfl q1263 (Or.inl rfl) (cV_R rfl) dX18_byText_117 ?_
  have o21 := h.1
  have h := h.2
  refine zc_get (f := 105) (v := ai (fI u18 105 (fR u18 91 x0))) G o21 rfl q1243 (Or.inl rfl) (cV_I (by decide) (by decide)) dX18_byText_120 ?_
  refine zv_istoreN G (by decide) dX18_byText_123 (fun x7_22 ex7_22 => ?_)
  have h := h x7_22 ex7_22
  have rx7_22 : zr x7_22 := by rw [ex7_22]; exact (hu18.i 105 _ (by decide))
  refine zv_iconst (a := 0) G (by decide) dX18_byText_125 ?_
  refine zv_istore G (by decide) rfl dX18_byText_126 ?_
  exact zv_pick [0, 2, 3, 4, 5, 6, 7, 8] rfl (cpC_X18_byText_128 hp G M S hl hk rx4 rx6 rx7_22 (zr_k 0 (by decide) (by decide)) h)
set_option maxHeartbeats 4000000 in
set_option maxRecDepth 100000 in
theorem cpC_X18_byText_42 {Γ : ZG CW} {D : CD} {d p : Nat} (hp : D.K.1 = p) (G : ZOk Γ cX18_byText RX18 9 (KnC D) (ZC D)) (M : ZRm Γ (d + 1) D.lim (Option.some (Jvm.ClassFile.FieldType.object "LetterPost$Node")) "byText" []) (S : SdC d D p Γ.l) (hl : Γ.l.stackTraces = false) (hk : 0 ≤ d) {x0 : Nat} {x2 : Nat} {x3 : Nat} {x4 : Int} {x5 : Nat} {x6 : Int} {x7 : Int} {w : CW} (rx4 : zr x4) (rx6 : zr x6) (rx7 : zr x7) (h : pC_X18_byText_42 p (wpC p d) (fun v w => Γ.Q (.inl (some (ar v))) w) (fun x w => Γ.Q (.inr x) w) x0 x2 x3 x4 x5 x6 x7 w) : ZV Γ w 42 [(0, ar x0), (2, ar x2), (3, ar x3), (4, ai x4), (5, ar x5), (6, ai x6), (7, ai x7)] [] := by
  obtain ⟨I42, eI42⟩ : ∃ I : Int → CW → Prop, I = (fun x7 w => zr x7 → ZV Γ w 42 [(0, ar x0), (2, ar x2), (3, ar x3), (4, ai x4), (5, ar x5), (6, ai x6), (7, ai x7)] []) := ⟨_, rfl⟩
  have hI42 : ∀ (x7 : Int) (w : CW), I42 x7 w → zr x7 → ZV Γ w 42 [(0, ar x0), (2, ar x2), (3, ar x3), (4, ai x4), (5, ar x5), (6, ai x6), (7, ai x7)] [] := by subst eI42; exact fun _ _ z => z
  have hJ42 : ∀ (x7 : Int) (w : CW), (zr x7 → ZV Γ w 42 [(0, ar x0), (2, ar x2), (3, ar x3), (4, ai x4), (5, ar x5), (6, ai x6), (7, ai x7)] []) → I42 x7 w := by subst eI42; exact fun _ _ z => z
  refine hI42 x7 w (h I42 (fun x7 w h => hJ42 x7 w (fun rx7 => ?_))) rx7
  refine zc_wk G hp (fun hw tw => ?_)
  refine zv_iload G rfl dX18_byText_42 ?_
  refine zv_iload G rfl dX18_byText_44 ?_
  refine zv_icmp_ge (tgt := 103) G rx7 rx6 (by decide) dX18_byText_46 (fun c14 => ?_) (fun c14 => ?_)
  · have h := h.1 c14
    exact zv_pick [0, 2, 3, 4, 5, 6] rfl (cpC_X18_byText_103 hp G M S hl hk rx4 rx6 h)
  · have h := h.2 c14
    refine zv_aload_n G rfl rfl dX18_byText_49 ?_
    have o56 := h.1
    have h := h.2
    refine zc_get (f := 91) (v := ar (fR w 91 x0)) G o56 rfl q1263 (Or.inl rfl) (cV_R rfl) dX18_byText_50 ?_
    have o57 := h.1
    have h := h.2
    refine zc_get (f := 98) (v := ar (fR w 98 (fR w 91 x0))) G o57 rfl q1225 (Or.inl rfl) (cV_R rfl) dX18_byText_53 ?_
    refine zv_aload_n G rfl rfl dX18_byText_56 ?_
    have o58 := h.1
    have h := h.2
    refine zc_get (f := 89) (v := ai (fI w 89 x2)) G o58 rfl q1149 (Or.inl rfl) (cV_I (by decide) (by decide)) dX18_byText_57 ?_
    refine zv_iconst (a := 1) G (by decide) dX18_byText_60 ?_
    have o60 := h.1
    have h := h.2
    refine zc_iast G o60.1 (hw.i 89 _ (by decide)) (zr_k 1 (by decide) (by decide)) o60.2.1 o60.2.2 dX18_byText_61 (fun u59 eu59 => ?_)
    have h := h u59 eu59
    refine zc_wk G hp (fun hu59 tu59 => ?_)
    refine zv_aload_n G rfl rfl dX18_byText_62 ?_
    have o61 := h.1
    have h := h.2
    refine zc_get (f := 91) (v := ar (fR u59 91 x0)) G o61 rfl q1263 (Or.inl rfl) (cV_R rfl) dX18_byText_63 ?_
    have o62 := h.1
    have h := h.2
    refine zc_get (f := 100) (v := ar (fR u59 100 (fR u59 91 x0))) G o62 rfl q1231 (Or.inl rfl) (cV_R rfl) dX18_byText_66 ?_
    refine zv_aload_n G rfl rfl dX18_byText_69 ?_
    have o63 := h.1
    have h := h.2
    refine zc_get (f := 89) (v := ai (fI u59 89 x2)) G o63 rfl q1149 (Or.inl rfl) (cV_I (by decide) (by decide)) dX18_byText_70 ?_
    refine zv_aload G rfl dX18_byText_73 ?_
    have o64 := h.1
    have h := h.2
    refine zc_get (f := 111) (v := ar (fR u59 111 x5)) G o64 rfl q1506 (Or.inl rfl) (cV_R rfl) dX18_byText_75 ?_
    refine zv_iload G rfl dX18_byText_78 ?_
    have o65 := h.1
    have h := h.2
    refine zc_laldN G o65.1 rx7 o65.2.1 o65.2.2 dX18_byText_80 ?_
    have o67 := h.1
    have h := h.2
    refine zc_last G o67.1 (hu59.i 89 _ (by decide)) (aW_r hu59 _ _) o67.2.1 o67.2.2 dX18_byText_81 (fun u66 eu66 => ?_)
    have h := h u66 eu66
    refine zc_wk G hp (fun hu66 tu66 => ?_)
    refine zv_aload G rfl dX18_byText_82 ?_
    have o68 := h.1
    have h := h.2
    refine zc_get (f := 107) (v := ar (fR u66 107 x5)) G o68 rfl q1359 (Or.inr q1355) (cV_R rfl) dX18_byText_84 ?_
    refine zv_iload G rfl dX18_byText_87 ?_
    refine zv_aload_n G rfl rfl dX18_byText_89 ?_
    refine zv_aload_n G rfl rfl dX18_byText_90 ?_
    refine zv_iload G rfl dX18_byText_91 ?_
    have o77 := h.1
    have h := h.2
    refine zv_callR (as := [ar x0, ar x3, ai x4]) (st := [ai x7, ar (fR u66 107 x5)]) G M (zc_eV (C := zcn 16) G q1403 q1286 q1287 (Or.inl ⟨rfl, rfl⟩) q1288 md_X18_make (zc_rc G (zne tu66 o77 (by decide)) o77 (by decide) (by decide) rfl) rfl dX18_byText_93) (S 133 _ rfl _ _ _ h (zoks_cons trivial (zoks_cons trivial (zoks_cons rx4 zoks_nil)))) (Or.inl ⟨rfl, rfl⟩) (zc_hk q1288 q174) (by decide) (Nat.le_of_ble_eq_true rfl) (fun v70 u69 h => ?_) (fun x75 u76 h => ?_)
    rotate_left
    · exact zx_leave G M rfl h
    refine zc_wk G hp (fun hu69 tu69 => ?_)
    have o72 := h.1
    have h := h.2
    have o73 := h.1
    have h := h.2
    refine zc_aast G o72.1 o73 rx7 o72.2.1 o72.2.2 dX18_byText_96 (fun u71 eu71 => ?_)
    have h := h u71 eu71
    refine zc_wk G hp (fun hu71 tu71 => ?_)
    refine zv_iincN G rfl (by decide) dX18_byText_97 (fun x7_74 ex7_74 => ?_)
    have h := h x7_74 ex7_74
    have rx7_74 : zr x7_74 := by rw [ex7_74]; exact w32_r _
    refine zv_goto (tgt := 42) G (by decide) dX18_byText_100 ?_
    exact zv_pick [0, 2, 3, 4, 5, 6, 7] rfl (hI42 _ _ h rx7_74)
set_option maxHeartbeats 4000000 in
set_option maxRecDepth 100000 in
theorem cpC_X18_byText_0 {Γ : ZG CW} {D : CD} {d p : Nat} (hp : D.K.1 = p) (G : ZOk Γ cX18_byText RX18 9 (KnC D) (ZC D)) (M : ZRm Γ (d + 1) D.lim (Option.some (Jvm.ClassFile.FieldType.object "LetterPost$Node")) "byText" []) (S : SdC d D p Γ.l) (hl : Γ.l.stackTraces = false) (hk : 0 ≤ d) {x0 : Nat} {x1 : Int} {x2 : Nat} {x3 : Nat} {x4 : Int} {w : CW} (rx1 : zr x1) (rx4 : zr x4) (h : pC_X18_byText_0 p (wpC p d) (fun v w => Γ.Q (.inl (some (ar v))) w) (fun x w => Γ.Q (.inr x) w) x0 x1 x2 x3 x4 w) : ZV Γ w 0 [(0, ar x0), (1, ai x1), (2, ar x2), (3, ar x3), (4, ai x4)] [] := by
  refine zc_wk G hp (fun hw tw => ?_)
  have o2 := h.1
  have h := h.2
  refine zc_new (ci := 23) (t := 24) (n := 4) G M rfl rfl (by decide) rfl q1495 q1496 q184 o2 dX18_byText_0 (fun u1 eu1 => ?_)
  have h := h u1 eu1
  refine zc_wk G hp (fun hu1 tu1 => ?_)
  refine zv_dup G rfl dX18_byText_3 ?_
  refine zv_iload_n G rfl rfl dX18_byText_4 ?_
  refine zv_aload_n G rfl rfl dX18_byText_5 ?_
  refine zv_aload_n G rfl rfl dX18_byText_6 ?_
  refine zv_aload_n G rfl rfl dX18_byText_7 ?_
  refine zv_iload G rfl dX18_byText_8 ?_
  refine zv_aload_n G rfl rfl dX18_byText_10 ?_
  have o78 := h.1
  have h := h.2
  refine zv_callR (as := [ar x0, ar x3, ai x4, ar x2]) (st := [ar x2, ai x1, ar (cz w + 1), ar (cz w + 1)]) G M (zc_eV (C := zcn 16) G q1497 q1499 qs50 (Or.inl ⟨rfl, rfl⟩) q1500 md_X18_texts (zc_rc G (zne tu1 o78 (by decide)) o78 (by decide) (by decide) rfl) rfl dX18_byText_11) (S 146 _ rfl _ _ _ h (zoks_cons trivial (zoks_cons trivial (zoks_cons rx4 (zoks_cons trivial zoks_nil))))) (Or.inl ⟨rfl, rfl⟩) (zc_hk q1500 q174) (by decide) (Nat.le_of_ble_eq_true rfl) (fun v4 u3 h => ?_) (fun _ _ h => h.elim)
  refine zc_wk G hp (fun hu3 tu3 => ?_)
  refine zv_callV (as := [ar (cz w + 1), ai x1, ar x2, ar v4]) (st := [ar (cz w + 1)]) G M (zc_eI G rfl q1501 q1502 q1503 md_X28_init (Nat.succ_ne_zero _) rfl dX18_byText_14) (S 177 _ rfl _ _ _ h (zoks_cons trivial (zoks_cons rx1 (zoks_cons trivial (zoks_cons trivial zoks_nil))))) (Or.inl ⟨rfl, rfl⟩) (zc_hk q1503 q184) (by decide) (Nat.le_of_ble_eq_true rfl) (fun u5 h => ?_) (fun _ _ h => h.elim)
  refine zc_wk G hp (fun hu5 tu5 => ?_)
  refine zv_astore G (by decide) rfl dX18_byText_17 ?_
  refine zv_aload G rfl dX18_byText_19 ?_
  have o7 := h.1
  have h := h.2
  refine zc_get (f := 111) (v := ar (fR u5 111 (cz w + 1))) G o7 rfl q1506 (Or.inl rfl) (cV_R rfl) dX18_byText_21 ?_
  have o8 := h.1
  have h := h.2
  refine zc_alen G o8 dX18_byText_24 ?_
  refine zv_istoreN G (by decide) dX18_byText_25 (fun x6_9 ex6_9 => ?_)
  have h := h x6_9 ex6_9
  have rx6_9 : zr x6_9 := by rw [ex6_9]; exact (zc_lnr hu5 _)
  refine zv_aload G rfl dX18_byText_27 ?_
  refine zv_iload G rfl dX18_byText_29 ?_
  refine zv_iconst (a := 1) G (by decide) dX18_byText_31 ?_
  refine zv_iadd G dX18_byText_32 ?_
  have o11 := h.1
  have h := h.2
  refine zc_anew (t := 113) G M (by decide) q1402 o11.1 o11.2 dX18_byText_33 (fun u10 eu10 => ?_)
  have h := h u10 eu10
  refine zc_wk G hp (fun hu10 tu10 => ?_)
  have o13 := h.1
  have h := h.2
  refine zc_putR (f := 107) G M o13 rfl q1359 (Or.inr q1355) (Or.inl rfl) (zfty_107) (Or.inr ⟨_, rfl⟩) rfl dX18_byText_36 (fun u12 eu12 => ?_)
  have h := h u12 eu12
  refine zc_wk G hp (fun hu12 tu12 => ?_)
  refine zv_iconst (a := 0) G (by decide) dX18_byText_39 ?_
  refine zv_istore G (by decide) rfl dX18_byText_40 ?_
  exact zv_pick [0, 2, 3, 4, 5, 6, 7] rfl (cpC_X18_byText_42 hp G M S hl hk rx4 rx6_9 (zr_k 0 (by decide) (by decide)) h)
set_option maxHeartbeats 4000000 in
set_option maxRecDepth 100000 in
theorem cpC_X18_texts_0 {Γ : ZG CW} {D : CD} {d p : Nat} (hp : D.K.1 = p) (G : ZOk Γ cX18_texts RX18 5 (KnC D) (ZC D)) (M : ZRm Γ (d + 1) D.lim (Option.some (Jvm.ClassFile.FieldType.array Jvm.ClassFile.FieldType.long)) "texts" []) (S : SdC d D p Γ.l) (hl : Γ.l.stackTraces = false) (hk : 0 ≤ d) {x0 : Nat} {x1 : Nat} {x2 : Int} {x3 : Nat} {w : CW} (rx2 : zr x2) (h : pC_X18_texts_0 p (wpC p d) (fun v w => Γ.Q (.inl (some (ar v))) w) x0 x1 x2 x3 w) : ZV Γ w 0 [(0, ar x0), (1, ar x1), (2, ai x2), (3, ar x3)] [] := by
  refine zc_wk G hp (fun hw tw => ?_)
  refine zv_aload_n G rfl rfl dX18_texts_0 ?_
  refine zv_aload_n G rfl rfl dX18_texts_1 ?_
  refine zv_iload_n G rfl rfl dX18_texts_2 ?_
  refine zv_aload_n G rfl rfl dX18_texts_3 ?_
  have o9 := h.1
  have h := h.2
  refine zv_callI (as := [ar x0, ar x1, ai x2, ar x3]) (st := []) G M (zc_eV (C := zcn 16) G q1426 q1428 qs43 (Or.inl ⟨rfl, rfl⟩) q1429 md_X18_textMany (zc_rc G (zne tw o9 (by decide)) o9 (by decide) (by decide) rfl) rfl dX18_texts_4) (S 139 _ rfl _ _ _ h (zoks_cons trivial (zoks_cons trivial (zoks_cons rx2 (zoks_cons trivial zoks_nil))))) (Or.inl ⟨rfl, rfl⟩) (zc_hk q1429 q174) (by decide) (Nat.le_of_ble_eq_true rfl) (fun v2 u1 rv2 h => ?_) (fun _ _ h => h.elim)
  refine zc_wk G hp (fun hu1 tu1 => ?_)
  have o4 := h.1
  have h := h.2
  refine zc_newa (t := 103) (ty := .long) G M (by decide) rfl rfl (fun z => z) (by decide) rfl q1261 o4.1 o4.2 dX18_texts_7 (fun u3 eu3 => ?_)
  have h := h u3 eu3
  refine zc_wk G hp (fun hu3 tu3 => ?_)
  refine zv_astore G (by decide) rfl dX18_texts_9 ?_
  refine zv_aload_n G rfl rfl dX18_texts_11 ?_
  have o5 := h.1
  have h := h.2
  refine zc_get (f := 95) (v := ar (fR u3 95 x0)) G o5 rfl q1267 (Or.inl rfl) (cV_R rfl) dX18_texts_12 ?_
  refine zv_iconst (a := 0) G (by decide) dX18_texts_15 ?_
  refine zv_aload G rfl dX18_texts_16 ?_
  refine zv_iconst (a := 0) G (by decide) dX18_texts_18 ?_
  refine zv_aload G rfl dX18_texts_19 ?_
  have o6 := h.1
  have h := h.2
  refine zc_alen G o6 dX18_texts_21 ?_
  have o8 := h.1
  have h := h.2
  refine zc_copy G M q1440 q389 q388 q155 o8.1 o8.2 (Nat.le_of_ble_eq_true rfl) dX18_texts_22 (fun u7 eu7 => ?_)
  have h := h u7 eu7
  refine zc_wk G hp (fun hu7 tu7 => ?_)
  refine zv_aload G rfl dX18_texts_25 ?_
  exact zv_aret G M (Or.inr ⟨_, rfl⟩) dX18_texts_27 h
set_option maxHeartbeats 4000000 in
set_option maxRecDepth 100000 in
theorem cpC_X18_byWhole_150 {Γ : ZG CW} {D : CD} {d p : Nat} (hp : D.K.1 = p) (G : ZOk Γ cX18_byWhole RX18 9 (KnC D) (ZC D)) (M : ZRm Γ (d + 1) D.lim (Option.some (Jvm.ClassFile.FieldType.object "LetterPost$Node")) "byWhole" []) (S : SdC d D p Γ.l) (hl : Γ.l.stackTraces = false) (hk : 0 ≤ d) {x0 : Nat} {x2 : Nat} {x5 : Nat} {x6 : Int} {x7 : Int} {w : CW} (rx6 : zr x6) (rx7 : zr x7) (h : pC_X18_byWhole_150 p (wpC p d) (fun v w => Γ.Q (.inl (some (ar v))) w) (fun x w => Γ.Q (.inr x) w) x0 x2 x5 x6 x7 w) : ZV Γ w 150 [(0, ar x0), (2, ar x2), (5, ar x5), (6, ai x6), (7, ai x7)] [] := by
  refine zc_wk G hp (fun hw tw => ?_)
  refine zv_aload_n G rfl rfl dX18_byWhole_150 ?_
  have o26 := h.1
  have h := h.2
  refine zc_get (f := 91) (v := ar (fR w 91 x0)) G o26 rfl q1263 (Or.inl rfl) (cV_R rfl) dX18_byWhole_151 ?_
  have o27 := h.1
  have h := h.2
  refine zc_get (f := 101) (v := ar (fR w 101 (fR w 91 x0))) G o27 rfl q1234 (Or.inl rfl) (cV_R rfl) dX18_byWhole_154 ?_
  refine zv_aload_n G rfl rfl dX18_byWhole_157 ?_
  have o28 := h.1
  have h := h.2
  refine zc_get (f := 89) (v := ai (fI w 89 x2)) G o28 rfl q1149 (Or.inl rfl) (cV_I (by decide) (by decide)) dX18_byWhole_158 ?_
  refine zv_iload G rfl dX18_byWhole_161 ?_
  have o30 := h.1
  have h := h.2
  refine zc_iast G o30.1 (hw.i 89 _ (by decide)) rx6 o30.2.1 o30.2.2 dX18_byWhole_163 (fun u29 eu29 => ?_)
  have h := h u29 eu29
  refine zc_wk G hp (fun hu29 tu29 => ?_)
  refine zv_aload_n G rfl rfl dX18_byWhole_164 ?_
  have o31 := h.1
  have h := h.2
  refine zc_get (f := 91) (v := ar (fR u29 91 x0)) G o31 rfl q1263 (Or.inl rfl) (cV_R rfl) dX18_byWhole_165 ?_
  have o32 := h.1
  have h := h.2
  refine zc_get (f := 102) (v := ar (fR u29 102 (fR u29 91 x0))) G o32 rfl q1237 (Or.inl rfl) (cV_R rfl) dX18_byWhole_168 ?_
  refine zv_aload_n G rfl rfl dX18_byWhole_171 ?_
  have o33 := h.1
  have h := h.2
  refine zc_get (f := 89) (v := ai (fI u29 89 x2)) G o33 rfl q1149 (Or.inl rfl) (cV_I (by decide) (by decide)) dX18_byWhole_172 ?_
  refine zv_iload G rfl dX18_byWhole_175 ?_
  have o35 := h.1
  have h := h.2
  refine zc_iast G o35.1 (hu29.i 89 _ (by decide)) rx7 o35.2.1 o35.2.2 dX18_byWhole_177 (fun u34 eu34 => ?_)
  have h := h u34 eu34
  refine zc_wk G hp (fun hu34 tu34 => ?_)
  refine zv_aload G rfl dX18_byWhole_178 ?_
  exact zv_aret G M (Or.inl ⟨_, rfl⟩) dX18_byWhole_180 h
set_option maxHeartbeats 4000000 in
set_option maxRecDepth 100000 in
theorem cpC_X18_byWhole_64 {Γ : ZG CW} {D : CD} {d p : Nat} (hp : D.K.1 = p) (G : ZOk Γ cX18_byWhole RX18 9 (KnC D) (ZC D)) (M : ZRm Γ (d + 1) D.lim (Option.some (Jvm.ClassFile.FieldType.object "LetterPost$Node")) "byWhole" []) (S : SdC d D p Γ.l) (hl : Γ.l.stackTraces = false) (hk : 0 ≤ d) {x0 : Nat} {x2 : Nat} {x3 : Nat} {x4 : Int} {x5 : Nat} {x6 : Int} {x7 : Int} {x8 : Int} {w : CW} (rx4 : zr x4) (rx6 : zr x6) (rx7 : zr x7) (rx8 : zr x8) (h : pC_X18_byWhole_64 p (wpC p d) (fun v w => Γ.Q (.inl (some (ar v))) w) (fun x w => Γ.Q (.inr x) w) x0 x2 x3 x4 x5 x6 x7 x8 w) : ZV Γ w 64 [(0, ar x0), (2, ar x2), (3, ar x3), (4, ai x4), (5, ar x5), (6, ai x6), (7, ai x7), (8, ai x8)] [] := by
  obtain ⟨I64, eI64⟩ : ∃ I : Int → CW → Prop, I = (fun x8 w => zr x8 → ZV Γ w 64 [(0, ar x0), (2, ar x2), (3, ar x3), (4, ai x4), (5, ar x5), (6, ai x6), (7, ai x7), (8, ai x8)] []) := ⟨_, rfl⟩
  have hI64 : ∀ (x8 : Int) (w : CW), I64 x8 w → zr x8 → ZV Γ w 64 [(0, ar x0), (2, ar x2), (3, ar x3), (4, ai x4), (5, ar x5), (6, ai x6), (7, ai x7), (8, ai x8)] [] := by subst eI64; exact fun _ _ z => z
  have hJ64 : ∀ (x8 : Int) (w : CW), (zr x8 → ZV Γ w 64 [(0, ar x0), (2, ar x2), (3, ar x3), (4, ai x4), (5, ar x5), (6, ai x6), (7, ai x7), (8, ai x8)] []) → I64 x8 w := by subst eI64; exact fun _ _ z => z
  refine hI64 x8 w (h I64 (fun x8 w h => hJ64 x8 w (fun rx8 => ?_))) rx8
  refine zc_wk G hp (fun hw tw => ?_)
  refine zv_iload G rfl dX18_byWhole_64 ?_
  refine zv_aload G rfl dX18_byWhole_66 ?_
  have o23 := h.1
  have h := h.2
  refine zc_get (f := 107) (v := ar (fR w 107 x5)) G o23 rfl q1360 (Or.inr q1353) (cV_R rfl) dX18_byWhole_68 ?_
  have o24 := h.1
  have h := h.2
  refine zc_alen G o24 dX18_byWhole_71 ?_
  refine zv_icmp_ge (tgt := 150) G rx8 (zc_lnr hw _) (by decide) dX18_byWhole_72 (fun c25 => ?_) (fun c25 => ?_)
  · have h := h.1 c25
    exact zv_pick [0, 2, 5, 6, 7] rfl (cpC_X18_byWhole_150 hp G M S hl hk rx6 rx7 h)
  · have h := h.2 c25
    refine zv_aload_n G rfl rfl dX18_byWhole_75 ?_
    have o36 := h.1
    have h := h.2
    refine zc_get (f := 91) (v := ar (fR w 91 x0)) G o36 rfl q1263 (Or.inl rfl) (cV_R rfl) dX18_byWhole_76 ?_
    have o37 := h.1
    have h := h.2
    refine zc_get (f := 101) (v := ar (fR w 101 (fR w 91 x0))) G o37 rfl q1234 (Or.inl rfl) (cV_R rfl) dX18_byWhole_79 ?_
    refine zv_aload_n G rfl rfl dX18_byWhole_82 ?_
    have o38 := h.1
    have h := h.2
    refine zc_get (f := 89) (v := ai (fI w 89 x2)) G o38 rfl q1149 (Or.inl rfl) (cV_I (by decide) (by decide)) dX18_byWhole_83 ?_
    refine zv_iload G rfl dX18_byWhole_86 ?_
    have o40 := h.1
    have h := h.2
    have kj60 : ∀ v39 : Int, v39 = (if x8 = 0 then x6 else w32 ((aN w (fR w 112 x5) (w32 (x8 - 1))) + 1)) → ZV Γ w 108 [(0, ar x0), (2, ar x2), (3, ar x3), (4, ai x4), (5, ar x5), (6, ai x6), (7, ai x7), (8, ai x8)] (ai v39 :: ai (fI w 89 x2) :: ar (fR w 101 (fR w 91 x0)) :: []) := by
      intro v39 ev39
      have h := h v39 ev39
      have rv39 : zr v39 := by rw [ev39]; exact (zr_ite rx6 (w32_r _))
      have o42 := h.1
      have h := h.2
      refine zc_iast G o42.1 (hw.i 89 _ (by decide)) rv39 o42.2.1 o42.2.2 dX18_byWhole_108 (fun u41 eu41 => ?_)
      have h := h u41 eu41
      refine zc_wk G hp (fun hu41 tu41 => ?_)
      refine zv_aload_n G rfl rfl dX18_byWhole_109 ?_
      have o43 := h.1
      have h := h.2
      refine zc_get (f := 91) (v := ar (fR u41 91 x0)) G o43 rfl q1263 (Or.inl rfl) (cV_R rfl) dX18_byWhole_110 ?_
      have o44 := h.1
      have h := h.2
      refine zc_get (f := 102) (v := ar (fR u41 102 (fR u41 91 x0))) G o44 rfl q1237 (Or.inl rfl) (cV_R rfl) dX18_byWhole_113 ?_
      refine zv_aload_n G rfl rfl dX18_byWhole_116 ?_
      have o45 := h.1
      have h := h.2
      refine zc_get (f := 89) (v := ai (fI u41 89 x2)) G o45 rfl q1149 (Or.inl rfl) (cV_I (by decide) (by decide)) dX18_byWhole_117 ?_
      refine zv_aload G rfl dX18_byWhole_120 ?_
      have o46 := h.1
      have h := h.2
      refine zc_get (f := 112) (v := ar (fR u41 112 x5)) G o46 rfl q1528 (Or.inl rfl) (cV_R rfl) dX18_byWhole_122 ?_
      refine zv_iload G rfl dX18_byWhole_125 ?_
      have o47 := h.1
      have h := h.2
      refine zc_ialdN G o47.1 rx8 o47.2.1 o47.2.2 dX18_byWhole_127 ?_
      have o49 := h.1
      have h := h.2
      refine zc_iast G o49.1 (hu41.i 89 _ (by decide)) (aN_r hu41 _ _) o49.2.1 o49.2.2 dX18_byWhole_128 (fun u48 eu48 => ?_)
      have h := h u48 eu48
      refine zc_wk G hp (fun hu48 tu48 => ?_)
      refine zv_aload G rfl dX18_byWhole_129 ?_
      have o50 := h.1
      have h := h.2
      refine zc_get (f := 107) (v := ar (fR u48 107 x5)) G o50 rfl q1360 (Or.inr q1353) (cV_R rfl) dX18_byWhole_131 ?_
      refine zv_iload G rfl dX18_byWhole_134 ?_
      refine zv_aload_n G rfl rfl dX18_byWhole_136 ?_
      refine zv_aload_n G rfl rfl dX18_byWhole_137 ?_
      refine zv_iload G rfl dX18_byWhole_138 ?_
      have o59 := h.1
      have h := h.2
      refine zv_callR (as := [ar x0, ar x3, ai x4]) (st := [ai x8, ar (fR u48 107 x5)]) G M (zc_eV (C := zcn 16) G q1403 q1286 q1287 (Or.inl ⟨rfl, rfl⟩) q1288 md_X18_make (zc_rc G (zne tu48 o59 (by decide)) o59 (by decide) (by decide) rfl) rfl dX18_byWhole_140) (S 133 _ rfl _ _ _ h (zoks_cons trivial (zoks_cons trivial (zoks_cons rx4 zoks_nil)))) (Or.inl ⟨rfl, rfl⟩) (zc_hk q1288 q174) (by decide) (Nat.le_of_ble_eq_true rfl) (fun v52 u51 h => ?_) (fun x57 u58 h => ?_)
      rotate_left
      · exact zx_leave G M rfl h
      refine zc_wk G hp (fun hu51 tu51 => ?_)
      have o54 := h.1
      have h := h.2
      have o55 := h.1
      have h := h.2
      refine zc_aast G o54.1 o55 rx8 o54.2.1 o54.2.2 dX18_byWhole_143 (fun u53 eu53 => ?_)
      have h := h u53 eu53
      refine zc_wk G hp (fun hu53 tu53 => ?_)
      refine zv_iincN G rfl (by decide) dX18_byWhole_144 (fun x8_56 ex8_56 => ?_)
      have h := h x8_56 ex8_56
      have rx8_56 : zr x8_56 := by rw [ex8_56]; exact w32_r _
      refine zv_goto (tgt := 64) G (by decide) dX18_byWhole_147 ?_
      exact zv_pick [0, 2, 3, 4, 5, 6, 7, 8] rfl (hI64 _ _ h rx8_56)
    refine zv_if_ne (tgt := 96) G rx8 (by decide) dX18_byWhole_88 (fun c61 => ?_) (fun c61 => ?_)
    · refine zv_aload G rfl dX18_byWhole_96 ?_
      refine zc_get (f := 112) (v := ar (fR w 112 x5)) G (o40 c61).1 rfl q1528 (Or.inl rfl) (cV_R rfl) dX18_byWhole_98 ?_
      refine zv_iload G rfl dX18_byWhole_101 ?_
      refine zv_iconst (a := 1) G (by decide) dX18_byWhole_103 ?_
      refine zv_isub G dX18_byWhole_104 ?_
      refine zc_ialdN G (o40 c61).2.1 (w32_r _) (o40 c61).2.2.1 (o40 c61).2.2.2 dX18_byWhole_105 ?_
      refine zv_iconst (a := 1) G (by decide) dX18_byWhole_106 ?_
      refine zv_iadd G dX18_byWhole_107 ?_
      exact kj60 _ (if_neg c61).symm
    · refine zv_iload G rfl dX18_byWhole_91 ?_
      refine zv_goto (tgt := 108) G (by decide) dX18_byWhole_93 ?_
      exact kj60 _ (if_pos c61).symm
set_option maxHeartbeats 4000000 in
set_option maxRecDepth 100000 in
theorem cpC_X18_byWhole_0 {Γ : ZG CW} {D : CD} {d p : Nat} (hp : D.K.1 = p) (G : ZOk Γ cX18_byWhole RX18 9 (KnC D) (ZC D)) (M : ZRm Γ (d + 1) D.lim (Option.some (Jvm.ClassFile.FieldType.object "LetterPost$Node")) "byWhole" []) (S : SdC d D p Γ.l) (hl : Γ.l.stackTraces = false) (hk : 0 ≤ d) {x0 : Nat} {x1 : Int} {x2 : Nat} {x3 : Nat} {x4 : Int} {w : CW} (rx1 : zr x1) (rx4 : zr x4) (h : pC_X18_byWhole_0 p (wpC p d) (fun v w => Γ.Q (.inl (some (ar v))) w) (fun x w => Γ.Q (.inr x) w) x0 x1 x2 x3 x4 w) : ZV Γ w 0 [(0, ar x0), (1, ai x1), (2, ar x2), (3, ar x3), (4, ai x4)] [] := by
  refine zc_wk G hp (fun hw tw => ?_)
  have o2 := h.1
  have h := h.2
  refine zc_new (ci := 24) (t := 25) (n := 4) G M rfl rfl (by decide) rfl q1517 q1518 q185 o2 dX18_byWhole_0 (fun u1 eu1 => ?_)
  have h := h u1 eu1
  refine zc_wk G hp (fun hu1 tu1 => ?_)
  refine zv_dup G rfl dX18_byWhole_3 ?_
  refine zv_iload_n G rfl rfl dX18_byWhole_4 ?_
  refine zv_aload_n G rfl rfl dX18_byWhole_5 ?_
  refine zv_aload_n G rfl rfl dX18_byWhole_6 ?_
  refine zv_aload_n G rfl rfl dX18_byWhole_7 ?_
  refine zv_iload G rfl dX18_byWhole_8 ?_
  refine zv_aload_n G rfl rfl dX18_byWhole_10 ?_
  have o62 := h.1
  have h := h.2
  refine zv_callR (as := [ar x0, ar x3, ai x4, ar x2]) (st := [ar x2, ai x1, ar (cz w + 1), ar (cz w + 1)]) G M (zc_eV (C := zcn 16) G q1519 q1521 qs52 (Or.inl ⟨rfl, rfl⟩) q1522 md_X18_borders (zc_rc G (zne tu1 o62 (by decide)) o62 (by decide) (by decide) rfl) rfl dX18_byWhole_11) (S 148 _ rfl _ _ _ h (zoks_cons trivial (zoks_cons trivial (zoks_cons rx4 (zoks_cons trivial zoks_nil))))) (Or.inl ⟨rfl, rfl⟩) (zc_hk q1522 q174) (by decide) (Nat.le_of_ble_eq_true rfl) (fun v4 u3 h => ?_) (fun _ _ h => h.elim)
  refine zc_wk G hp (fun hu3 tu3 => ?_)
  refine zv_callV (as := [ar (cz w + 1), ai x1, ar x2, ar v4]) (st := [ar (cz w + 1)]) G M (zc_eI G rfl q1523 q1524 q1525 md_X29_init (Nat.succ_ne_zero _) rfl dX18_byWhole_14) (S 180 _ rfl _ _ _ h (zoks_cons trivial (zoks_cons rx1 (zoks_cons trivial (zoks_cons trivial zoks_nil))))) (Or.inl ⟨rfl, rfl⟩) (zc_hk q1525 q185) (by decide) (Nat.le_of_ble_eq_true rfl) (fun u5 h => ?_) (fun _ _ h => h.elim)
  refine zc_wk G hp (fun hu5 tu5 => ?_)
  refine zv_astore G (by decide) rfl dX18_byWhole_17 ?_
  refine zv_aload_n G rfl rfl dX18_byWhole_19 ?_
  have o7 := h.1
  have h := h.2
  refine zc_get (f := 91) (v := ar (fR u5 91 x0)) G o7 rfl q1263 (Or.inl rfl) (cV_R rfl) dX18_byWhole_20 ?_
  have o8 := h.1
  have h := h.2
  refine zc_get (f := 101) (v := ar (fR u5 101 (fR u5 91 x0))) G o8 rfl q1234 (Or.inl rfl) (cV_R rfl) dX18_byWhole_23 ?_
  refine zv_aload_n G rfl rfl dX18_byWhole_26 ?_
  have o9 := h.1
  have h := h.2
  refine zc_get (f := 89) (v := ai (fI u5 89 x2)) G o9 rfl q1149 (Or.inl rfl) (cV_I (by decide) (by decide)) dX18_byWhole_27 ?_
  have o10 := h.1
  have h := h.2
  refine zc_ialdN G o10.1 (hu5.i 89 _ (by decide)) o10.2.1 o10.2.2 dX18_byWhole_30 ?_
  refine zv_istoreN G (by decide) dX18_byWhole_31 (fun x6_11 ex6_11 => ?_)
  have h := h x6_11 ex6_11
  have rx6_11 : zr x6_11 := by rw [ex6_11]; exact (aN_r hu5 _ _)
  refine zv_aload_n G rfl rfl dX18_byWhole_33 ?_
  have o12 := h.1
  have h := h.2
  refine zc_get (f := 91) (v := ar (fR u5 91 x0)) G o12 rfl q1263 (Or.inl rfl) (cV_R rfl) dX18_byWhole_34 ?_
  have o13 := h.1
  have h := h.2
  refine zc_get (f := 102) (v := ar (fR u5 102 (fR u5 91 x0))) G o13 rfl q1237 (Or.inl rfl) (cV_R rfl) dX18_byWhole_37 ?_
  refine zv_aload_n G rfl rfl dX18_byWhole_40 ?_
  have o14 := h.1
  have h := h.2
  refine zc_get (f := 89) (v := ai (fI u5 89 x2)) G o14 rfl q1149 (Or.inl rfl) (cV_I (by decide) (by decide)) dX18_byWhole_41 ?_
  have o15 := h.1
  have h := h.2
  refine zc_ialdN G o15.1 (hu5.i 89 _ (by decide)) o15.2.1 o15.2.2 dX18_byWhole_44 ?_
  refine zv_istoreN G (by decide) dX18_byWhole_45 (fun x7_16 ex7_16 => ?_)
  have h := h x7_16 ex7_16
  have rx7_16 : zr x7_16 := by rw [ex7_16]; exact (aN_r hu5 _ _)
  refine zv_aload G rfl dX18_byWhole_47 ?_
  refine zv_aload G rfl dX18_byWhole_49 ?_
  have o17 := h.1
  have h := h.2
  refine zc_get (f := 112) (v := ar (fR u5 112 (cz w + 1))) G o17 rfl q1528 (Or.inl rfl) (cV_R rfl) dX18_byWhole_51 ?_
  have o18 := h.1
  have h := h.2
  refine zc_alen G o18 dX18_byWhole_54 ?_
  have o20 := h.1
  have h := h.2
  refine zc_anew (t := 113) G M (by decide) q1402 o20.1 o20.2 dX18_byWhole_55 (fun u19 eu19 => ?_)
  have h := h u19 eu19
  refine zc_wk G hp (fun hu19 tu19 => ?_)
  have o22 := h.1
  have h := h.2
  refine zc_putR (f := 107) G M o22 rfl q1360 (Or.inr q1353) (Or.inl rfl) (zfty_107) (Or.inr ⟨_, rfl⟩) rfl dX18_byWhole_58 (fun u21 eu21 => ?_)
  have h := h u21 eu21
  refine zc_wk G hp (fun hu21 tu21 => ?_)
  refine zv_iconst (a := 0) G (by decide) dX18_byWhole_61 ?_
  refine zv_istore G (by decide) rfl dX18_byWhole_62 ?_
  exact zv_pick [0, 2, 3, 4, 5, 6, 7, 8] rfl (cpC_X18_byWhole_64 hp G M S hl hk rx4 rx6_11 rx7_16 (zr_k 0 (by decide) (by decide)) h)
set_option maxHeartbeats 4000000 in
set_option maxRecDepth 100000 in
theorem cpC_X18_borders_0 {Γ : ZG CW} {D : CD} {d p : Nat} (hp : D.K.1 = p) (G : ZOk Γ cX18_borders RX18 5 (KnC D) (ZC D)) (M : ZRm Γ (d + 1) D.lim (Option.some (Jvm.ClassFile.FieldType.array Jvm.ClassFile.FieldType.int)) "borders" []) (S : SdC d D p Γ.l) (hl : Γ.l.stackTraces = false) (hk : 0 ≤ d) {x0 : Nat} {x1 : Nat} {x2 : Int} {x3 : Nat} {w : CW} (rx2 : zr x2) (h : pC_X18_borders_0 p (wpC p d) (fun v w => Γ.Q (.inl (some (ar v))) w) x0 x1 x2 x3 w) : ZV Γ w 0 [(0, ar x0), (1, ar x1), (2, ai x2), (3, ar x3)] [] := by
  refine zc_wk G hp (fun hw tw => ?_)
  refine zv_aload_n G rfl rfl dX18_borders_0 ?_
  refine zv_aload_n G rfl rfl dX18_borders_1 ?_
  refine zv_iload_n G rfl rfl dX18_borders_2 ?_
  refine zv_aload_n G rfl rfl dX18_borders_3 ?_
  have o9 := h.1
  have h := h.2
  refine zv_callI (as := [ar x0, ar x1, ai x2, ar x3]) (st := []) G M (zc_eV (C := zcn 16) G q1431 q1433 qs44 (Or.inl ⟨rfl, rfl⟩) q1434 md_X18_borderMany (zc_rc G (zne tw o9 (by decide)) o9 (by decide) (by decide) rfl) rfl dX18_borders_4) (S 140 _ rfl _ _ _ h (zoks_cons trivial (zoks_cons trivial (zoks_cons rx2 (zoks_cons trivial zoks_nil))))) (Or.inl ⟨rfl, rfl⟩) (zc_hk q1434 q174) (by decide) (Nat.le_of_ble_eq_true rfl) (fun v2 u1 rv2 h => ?_) (fun _ _ h => h.elim)
  refine zc_wk G hp (fun hu1 tu1 => ?_)
  have o4 := h.1
  have h := h.2
  refine zc_newa (t := 102) (ty := .int) G M (by decide) rfl rfl (fun z => z) (by decide) rfl q708 o4.1 o4.2 dX18_borders_7 (fun u3 eu3 => ?_)
  have h := h u3 eu3
  refine zc_wk G hp (fun hu3 tu3 => ?_)
  refine zv_astore G (by decide) rfl dX18_borders_9 ?_
  refine zv_aload_n G rfl rfl dX18_borders_11 ?_
  have o5 := h.1
  have h := h.2
  refine zc_get (f := 96) (v := ar (fR u3 96 x0)) G o5 rfl q1268 (Or.inl rfl) (cV_R rfl) dX18_borders_12 ?_
  refine zv_iconst (a := 0) G (by decide) dX18_borders_15 ?_
  refine zv_aload G rfl dX18_borders_16 ?_
  refine zv_iconst (a := 0) G (by decide) dX18_borders_18 ?_
  refine zv_aload G rfl dX18_borders_19 ?_
  have o6 := h.1
  have h := h.2
  refine zc_alen G o6 dX18_borders_21 ?_
  have o8 := h.1
  have h := h.2
  refine zc_copy G M q1440 q389 q388 q155 o8.1 o8.2 (Nat.le_of_ble_eq_true rfl) dX18_borders_22 (fun u7 eu7 => ?_)
  have h := h u7 eu7
  refine zc_wk G hp (fun hu7 tu7 => ?_)
  refine zv_aload G rfl dX18_borders_25 ?_
  exact zv_aret G M (Or.inr ⟨_, rfl⟩) dX18_borders_27 h
set_option maxHeartbeats 4000000 in
set_option maxRecDepth 100000 in
theorem cpC_X19_init_86 {Γ : ZG CW} {D : CD} {d p : Nat} (hp : D.K.1 = p) (G : ZOk Γ cX19_init RX19 3 (KnC D) (ZC D)) (M : ZRm Γ (d + 1) D.lim (Option.none : Option Jvm.ClassFile.FieldType) "<init>" []) (S : SdC d D p Γ.l) (hl : Γ.l.stackTraces = false) (hk : 0 ≤ d) {w : CW} (h : pC_X19_init_86 p (wpC p d) (fun w => Γ.Q (.inl none) w) w) : ZV Γ w 86 [] [] := by
  refine zc_wk G hp (fun hw tw => ?_)
  exact zv_vret G M dX19_init_86 h
set_option maxHeartbeats 4000000 in
set_option maxRecDepth 100000 in
theorem cpC_X19_init_59 {Γ : ZG CW} {D : CD} {d p : Nat} (hp : D.K.1 = p) (G : ZOk Γ cX19_init RX19 3 (KnC D) (ZC D)) (M : ZRm Γ (d + 1) D.lim (Option.none : Option Jvm.ClassFile.FieldType) "<init>" []) (S : SdC d D p Γ.l) (hl : Γ.l.stackTraces = false) (hk : 0 ≤ d) {x0 : Nat} {x1 : Int} {x2 : Int} {w : CW} (rx1 : zr x1) (rx2 : zr x2) (h : pC_X19_init_59 p (wpC p d) (fun w => Γ.Q (.inl none) w) x0 x1 x2 w) : ZV Γ w 59 [(0, ar x0), (1, ai x1), (2, ai x2)] [] := by
  obtain ⟨I59, eI59⟩ : ∃ I : Int → CW → Prop, I = (fun x2 w => zr x2 → ZV Γ w 59 [(0, ar x0), (1, ai x1), (2, ai x2)] []) := ⟨_, rfl⟩
  have hI59 : ∀ (x2 : Int) (w : CW), I59 x2 w → zr x2 → ZV Γ w 59 [(0, ar x0), (1, ai x1), (2, ai x2)] [] := by subst eI59; exact fun _ _ z => z
  have hJ59 : ∀ (x2 : Int) (w : CW), (zr x2 → ZV Γ w 59 [(0, ar x0), (1, ai x1), (2, ai x2)] []) → I59 x2 w := by subst eI59; exact fun _ _ z => z
  refine hI59 x2 w (h I59 (fun x2 w h => hJ59 x2 w (fun rx2 => ?_))) rx2
  refine zc_wk G hp (fun hw tw => ?_)
  refine zv_iload_n G rfl rfl dX19_init_59 ?_
  refine zv_iload_n G rfl rfl dX19_init_60 ?_
  refine zv_icmp_ge (tgt := 86) G rx2 rx1 (by decide) dX19_init_61 (fun c31 => ?_) (fun c31 => ?_)
  · have h := h.1 c31
    exact zv_pick [] rfl (cpC_X19_init_86 hp G M S hl hk h)
  · have h := h.2 c31
    refine zv_aload_n G rfl rfl dX19_init_64 ?_
    have o32 := h.1
    have h := h.2
    refine zc_get (f := 101) (v := ar (fR w 101 x0)) G o32 rfl q1232 (Or.inl rfl) (cV_R rfl) dX19_init_65 ?_
    refine zv_iload_n G rfl rfl dX19_init_68 ?_
    refine zv_ldc (a := (-2147483648)) G (G.kn.2.1 _ q1218 _) (by decide) dX19_init_69 ?_
    have o34 := h.1
    have h := h.2
    refine zc_iast G o34.1 rx2 (zr_k (-2147483648) (by decide) (by decide)) o34.2.1 o34.2.2 dX19_init_71 (fun u33 eu33 => ?_)
    have h := h u33 eu33
    refine zc_wk G hp (fun hu33 tu33 => ?_)
    refine zv_aload_n G rfl rfl dX19_init_72 ?_
    have o35 := h.1
    have h := h.2
    refine zc_get (f := 102) (v := ar (fR u33 102 x0)) G o35 rfl q1235 (Or.inl rfl) (cV_R rfl) dX19_init_73 ?_
    refine zv_iload_n G rfl rfl dX19_init_76 ?_
    refine zv_ldc (a := 2147483647) G (G.kn.2.1 _ q1219 _) (by decide) dX19_init_77 ?_
    have o37 := h.1
    have h := h.2
    refine zc_iast G o37.1 rx2 (zr_k 2147483647 (by decide) (by decide)) o37.2.1 o37.2.2 dX19_init_79 (fun u36 eu36 => ?_)
    have h := h u36 eu36
    refine zc_wk G hp (fun hu36 tu36 => ?_)
    refine zv_iincN G rfl (by decide) dX19_init_80 (fun x2_38 ex2_38 => ?_)
    have h := h x2_38 ex2_38
    have rx2_38 : zr x2_38 := by rw [ex2_38]; exact w32_r _
    refine zv_goto (tgt := 59) G (by decide) dX19_init_83 ?_
    exact zv_pick [0, 1, 2] rfl (hI59 _ _ h rx2_38)
set_option maxHeartbeats 4000000 in
set_option maxRecDepth 100000 in
theorem cpC_X19_init_0 {Γ : ZG CW} {D : CD} {d p : Nat} (hp : D.K.1 = p) (G : ZOk Γ cX19_init RX19 3 (KnC D) (ZC D)) (M : ZRm Γ (d + 1) D.lim (Option.none : Option Jvm.ClassFile.FieldType) "<init>" []) (S : SdC d D p Γ.l) (hl : Γ.l.stackTraces = false) (hk : 0 ≤ d) {x0 : Nat} {x1 : Int} {w : CW} (rx1 : zr x1) (h : pC_X19_init_0 p (wpC p d) (fun w => Γ.Q (.inl none) w) x0 x1 w) : ZV Γ w 0 [(0, ar x0), (1, ai x1)] [] := by
  refine zc_wk G hp (fun hw tw => ?_)
  refine zv_aload_n G rfl rfl dX19_init_0 ?_
  have o2 := h.1
  have h := h.2
  refine zc_oinit G M q1214 q262 q263 o2 (Nat.le_of_ble_eq_true rfl) dX19_init_1 ?_
  refine zv_aload_n G rfl rfl dX19_init_4 ?_
  refine zv_bipush (a := 120) G (by decide) dX19_init_5 ?_
  have o4 := h.1
  have h := h.2
  refine zc_anew (t := 115) G M (by decide) q1215 o4.1 o4.2 dX19_init_7 (fun u3 eu3 => ?_)
  have h := h u3 eu3
  refine zc_wk G hp (fun hu3 tu3 => ?_)
  have o6 := h.1
  have h := h.2
  refine zc_putR (f := 103) G M o6 rfl q1238 (Or.inl rfl) (Or.inr ⟨rfl, rfl, rfl⟩) (zfty_103) (Or.inr ⟨_, rfl⟩) rfl dX19_init_10 (fun u5 eu5 => ?_)
  have h := h u5 eu5
  refine zc_wk G hp (fun hu5 tu5 => ?_)
  refine zv_aload_n G rfl rfl dX19_init_13 ?_
  refine zv_bipush (a := 120) G (by decide) dX19_init_14 ?_
  have o8 := h.1
  have h := h.2
  refine zc_newa (t := 103) (ty := .long) G M (by decide) rfl rfl (fun z => z) (by decide) rfl q1261 o8.1 o8.2 dX19_init_16 (fun u7 eu7 => ?_)
  have h := h u7 eu7
  refine zc_wk G hp (fun hu7 tu7 => ?_)
  have o10 := h.1
  have h := h.2
  refine zc_putR (f := 104) G M o10 rfl q1240 (Or.inl rfl) (Or.inr ⟨rfl, rfl, rfl⟩) (zfty_104) (Or.inr ⟨_, rfl⟩) rfl dX19_init_18 (fun u9 eu9 => ?_)
  have h := h u9 eu9
  refine zc_wk G hp (fun hu9 tu9 => ?_)
  refine zv_aload_n G rfl rfl dX19_init_21 ?_
  refine zv_iload_n G rfl rfl dX19_init_22 ?_
  have o12 := h.1
  have h := h.2
  refine zc_newa (t := 102) (ty := .int) G M (by decide) rfl rfl (fun z => z) (by decide) rfl q708 o12.1 o12.2 dX19_init_23 (fun u11 eu11 => ?_)
  have h := h u11 eu11
  refine zc_wk G hp (fun hu11 tu11 => ?_)
  have o14 := h.1
  have h := h.2
  refine zc_putR (f := 98) G M o14 rfl q1220 (Or.inl rfl) (Or.inr ⟨rfl, rfl, rfl⟩) (zfty_98) (Or.inr ⟨_, rfl⟩) rfl dX19_init_25 (fun u13 eu13 => ?_)
  have h := h u13 eu13
  refine zc_wk G hp (fun hu13 tu13 => ?_)
  refine zv_aload_n G rfl rfl dX19_init_28 ?_
  refine zv_iload_n G rfl rfl dX19_init_29 ?_
  have o16 := h.1
  have h := h.2
  refine zc_anew (t := 112) G M (by decide) q1216 o16.1 o16.2 dX19_init_30 (fun u15 eu15 => ?_)
  have h := h u15 eu15
  refine zc_wk G hp (fun hu15 tu15 => ?_)
  have o18 := h.1
  have h := h.2
  refine zc_putR (f := 99) G M o18 rfl q1226 (Or.inl rfl) (Or.inr ⟨rfl, rfl, rfl⟩) (zfty_99) (Or.inr ⟨_, rfl⟩) rfl dX19_init_33 (fun u17 eu17 => ?_)
  have h := h u17 eu17
  refine zc_wk G hp (fun hu17 tu17 => ?_)
  refine zv_aload_n G rfl rfl dX19_init_36 ?_
  refine zv_iload_n G rfl rfl dX19_init_37 ?_
  have o20 := h.1
  have h := h.2
  refine zc_newa (t := 103) (ty := .long) G M (by decide) rfl rfl (fun z => z) (by decide) rfl q1261 o20.1 o20.2 dX19_init_38 (fun u19 eu19 => ?_)
  have h := h u19 eu19
  refine zc_wk G hp (fun hu19 tu19 => ?_)
  have o22 := h.1
  have h := h.2
  refine zc_putR (f := 100) G M o22 rfl q1229 (Or.inl rfl) (Or.inr ⟨rfl, rfl, rfl⟩) (zfty_100) (Or.inr ⟨_, rfl⟩) rfl dX19_init_40 (fun u21 eu21 => ?_)
  have h := h u21 eu21
  refine zc_wk G hp (fun hu21 tu21 => ?_)
  refine zv_aload_n G rfl rfl dX19_init_43 ?_
  refine zv_iload_n G rfl rfl dX19_init_44 ?_
  have o24 := h.1
  have h := h.2
  refine zc_newa (t := 102) (ty := .int) G M (by decide) rfl rfl (fun z => z) (by decide) rfl q708 o24.1 o24.2 dX19_init_45 (fun u23 eu23 => ?_)
  have h := h u23 eu23
  refine zc_wk G hp (fun hu23 tu23 => ?_)
  have o26 := h.1
  have h := h.2
  refine zc_putR (f := 101) G M o26 rfl q1232 (Or.inl rfl) (Or.inr ⟨rfl, rfl, rfl⟩) (zfty_101) (Or.inr ⟨_, rfl⟩) rfl dX19_init_47 (fun u25 eu25 => ?_)
  have h := h u25 eu25
  refine zc_wk G hp (fun hu25 tu25 => ?_)
  refine zv_aload_n G rfl rfl dX19_init_50 ?_
  refine zv_iload_n G rfl rfl dX19_init_51 ?_
  have o28 := h.1
  have h := h.2
  refine zc_newa (t := 102) (ty := .int) G M (by decide) rfl rfl (fun z => z) (by decide) rfl q708 o28.1 o28.2 dX19_init_52 (fun u27 eu27 => ?_)
  have h := h u27 eu27
  refine zc_wk G hp (fun hu27 tu27 => ?_)
  have o30 := h.1
  have h := h.2
  refine zc_putR (f := 102) G M o30 rfl q1235 (Or.inl rfl) (Or.inr ⟨rfl, rfl, rfl⟩) (zfty_102) (Or.inr ⟨_, rfl⟩) rfl dX19_init_54 (fun u29 eu29 => ?_)
  have h := h u29 eu29
  refine zc_wk G hp (fun hu29 tu29 => ?_)
  refine zv_iconst (a := 0) G (by decide) dX19_init_57 ?_
  refine zv_istore_n G rfl (by decide) rfl dX19_init_58 ?_
  exact zv_pick [0, 1, 2] rfl (cpC_X19_init_59 hp G M S hl hk rx1 (zr_k 0 (by decide) (by decide)) h)
set_option maxHeartbeats 4000000 in
set_option maxRecDepth 100000 in
theorem cpC_X19_isOut_54 {Γ : ZG CW} {D : CD} {d p : Nat} (hp : D.K.1 = p) (G : ZOk Γ cX19_isOut RX19 6 (KnC D) (ZC D)) (M : ZRm Γ (d + 1) D.lim (Option.some Jvm.ClassFile.FieldType.boolean) "isOut" []) (S : SdC d D p Γ.l) (hl : Γ.l.stackTraces = false) (hk : 0 ≤ d) {x4 : Int} {w : CW} (rx4 : zr x4) (h : pC_X19_isOut_54 p (wpC p d) (fun v w => Γ.Q (.inl (some (ai v))) w) x4 w) : ZV Γ w 54 [(4, ai x4)] [] := by
  refine zc_wk G hp (fun hw tw => ?_)
  refine zv_iload G rfl dX19_isOut_54 ?_
  exact zv_iret (ty := .boolean) rx4 G M (zn_Z h.1) dX19_isOut_56 h.2
set_option maxHeartbeats 4000000 in
set_option maxRecDepth 100000 in
theorem cpC_X19_isOut_6 {Γ : ZG CW} {D : CD} {d p : Nat} (hp : D.K.1 = p) (G : ZOk Γ cX19_isOut RX19 6 (KnC D) (ZC D)) (M : ZRm Γ (d + 1) D.lim (Option.some Jvm.ClassFile.FieldType.boolean) "isOut" []) (S : SdC d D p Γ.l) (hl : Γ.l.stackTraces = false) (hk : 0 ≤ d) {x0 : Nat} {x1 : Nat} {x2 : Int} {x4 : Int} {x5 : Int} {w : CW} (rx2 : zrl x2) (rx4 : zr x4) (rx5 : zr x5) (h : pC_X19_isOut_6 p (wpC p d) (fun v w => Γ.Q (.inl (some (ai v))) w) x0 x1 x2 x4 x5 w) : ZV Γ w 6 [(0, ar x0), (1, ar x1), (2, al x2), (4, ai x4), (5, ai x5)] [] := by
  obtain ⟨I6, eI6⟩ : ∃ I : Int → Int → CW → Prop, I = (fun x4 x5 w => zr x4 → zr x5 → ZV Γ w 6 [(0, ar x0), (1, ar x1), (2, al x2), (4, ai x4), (5, ai x5)] []) := ⟨_, rfl⟩
  have hI6 : ∀ (x4 : Int) (x5 : Int) (w : CW), I6 x4 x5 w → zr x4 → zr x5 → ZV Γ w 6 [(0, ar x0), (1, ar x1), (2, al x2), (4, ai x4), (5, ai x5)] [] := by subst eI6; exact fun _ _ _ z => z
  have hJ6 : ∀ (x4 : Int) (x5 : Int) (w : CW), (zr x4 → zr x5 → ZV Γ w 6 [(0, ar x0), (1, ar x1), (2, al x2), (4, ai x4), (5, ai x5)] []) → I6 x4 x5 w := by subst eI6; exact fun _ _ _ z => z
  refine hI6 x4 x5 w (h I6 (fun x4 x5 w h => hJ6 x4 x5 w (fun rx4 rx5 => ?_))) rx4 rx5
  refine zc_wk G hp (fun hw tw => ?_)
  refine zv_iload G rfl dX19_isOut_6 ?_
  refine zv_aload_n G rfl rfl dX19_isOut_8 ?_
  have o1 := h.1
  have h := h.2
  refine zc_get (f := 105) (v := ai (fI w 105 x0)) G o1 rfl q1242 (Or.inl rfl) (cV_I (by decide) (by decide)) dX19_isOut_9 ?_
  refine zv_icmp_ge (tgt := 54) G rx5 (hw.i 105 _ (by decide)) (by decide) dX19_isOut_12 (fun c2 => ?_) (fun c2 => ?_)
  · have h := h.1 c2
    exact zv_pick [4] rfl (cpC_X19_isOut_54 hp G M S hl hk rx4 h)
  · have h := h.2 c2
    refine zv_iload G rfl dX19_isOut_15 ?_
    refine zv_aload_n G rfl rfl dX19_isOut_17 ?_
    have o3 := h.1
    have h := h.2
    refine zc_get (f := 103) (v := ar (fR w 103 x0)) G o3 rfl q1238 (Or.inl rfl) (cV_R rfl) dX19_isOut_18 ?_
    refine zv_iload G rfl dX19_isOut_21 ?_
    have o4 := h.1
    have h := h.2
    refine zc_aald G o4.1 rx5 o4.2.1 o4.2.2 dX19_isOut_23 ?_
    refine zv_aload_n G rfl rfl dX19_isOut_24 ?_
    have o6 := h.1
    have h := h.2
    have kj9 : ∀ v5 : Int, v5 = (if ((aR w (fR w 103 x0) x5) = x1) ∧ ((aW w (fR w 104 x0) x5) = x2) then 1 else 0) → ZV Γ w 45 [(0, ar x0), (1, ar x1), (2, al x2), (4, ai x4), (5, ai x5)] (ai v5 :: ai x4 :: []) := by
      intro v5 ev5
      have h := h v5 ev5
      have rv5 : zr v5 := by rw [ev5]; exact (zr_ite (zr_k 1 (by decide) (by decide)) (zr_k 0 (by decide) (by decide)))
      have bv5 : v5 = 0 ∨ v5 = 1 := by rw [ev5]; exact (zb_ite (Or.inr rfl) (Or.inl rfl))
      refine zv_ior G dX19_isOut_45 ?_
      refine zv_istoreN G (by decide) dX19_isOut_46 (fun x4_7 ex4_7 => ?_)
      have h := h x4_7 ex4_7
      have rx4_7 : zr x4_7 := by rw [ex4_7]; exact (show zr _ from by first | with_reducible exact i_and_r _ _ | with_reducible exact i_or_r _ _ | with_reducible exact i_shl_r _ _ | with_reducible exact i_shr_r _ _ | with_reducible exact i_ushr_r _ _ | with_reducible exact i_b_r _ | with_reducible exact i_c_r _ | with_reducible exact i_xor_r _ _ | with_reducible exact i_div_r _ _ | with_reducible exact i_rem_r _ _ | exact zr_of _)
      refine zv_iincN G rfl (by decide) dX19_isOut_48 (fun x5_8 ex5_8 => ?_)
      have h := h x5_8 ex5_8
      have rx5_8 : zr x5_8 := by rw [ex5_8]; exact w32_r _
      refine zv_goto (tgt := 6) G (by decide) dX19_isOut_51 ?_
      exact zv_pick [0, 1, 2, 4, 5] rfl (hI6 _ _ _ h rx4_7 rx5_8)
    refine zv_acmp_ne (tgt := 44) G (by decide) dX19_isOut_25 (fun c10 => ?_) (fun c10 => ?_)
    · refine zv_iconst (a := 0) G (by decide) dX19_isOut_44 ?_
      exact kj9 _ (if_neg (fun q => c10 q.1)).symm
    · refine zv_aload_n G rfl rfl dX19_isOut_28 ?_
      refine zc_get (f := 104) (v := ar (fR w 104 x0)) G (o6 c10).1 rfl q1240 (Or.inl rfl) (cV_R rfl) dX19_isOut_29 ?_
      refine zv_iload G rfl dX19_isOut_32 ?_
      refine zc_laldN G (o6 c10).2.1 rx5 (o6 c10).2.2.1 (o6 c10).2.2.2 dX19_isOut_34 ?_
      refine zv_lload_n G rfl rfl dX19_isOut_35 ?_
      refine zv_lcmp G (aW_r hw _ _) rx2 dX19_isOut_36 ?_
      refine zv_lif_ne (tgt := 44) G (by decide) dX19_isOut_37 (fun c11 => ?_) (fun c11 => ?_)
      · refine zv_iconst (a := 0) G (by decide) dX19_isOut_44 ?_
        exact kj9 _ (if_neg (fun q => c11 q.2)).symm
      · refine zv_iconst (a := 1) G (by decide) dX19_isOut_40 ?_
        refine zv_goto (tgt := 45) G (by decide) dX19_isOut_41 ?_
        exact kj9 _ (if_pos ⟨c10, c11⟩).symm
set_option maxHeartbeats 4000000 in
set_option maxRecDepth 100000 in
theorem cpC_X19_isOut_0 {Γ : ZG CW} {D : CD} {d p : Nat} (hp : D.K.1 = p) (G : ZOk Γ cX19_isOut RX19 6 (KnC D) (ZC D)) (M : ZRm Γ (d + 1) D.lim (Option.some Jvm.ClassFile.FieldType.boolean) "isOut" []) (S : SdC d D p Γ.l) (hl : Γ.l.stackTraces = false) (hk : 0 ≤ d) {x0 : Nat} {x1 : Nat} {x2 : Int} {w : CW} (rx2 : zrl x2) (h : pC_X19_isOut_0 p (wpC p d) (fun v w => Γ.Q (.inl (some (ai v))) w) x0 x1 x2 w) : ZV Γ w 0 [(0, ar x0), (1, ar x1), (2, al x2)] [] := by
  refine zc_wk G hp (fun hw tw => ?_)
  refine zv_iconst (a := 0) G (by decide) dX19_isOut_0 ?_
  refine zv_istore G (by decide) rfl dX19_isOut_1 ?_
  refine zv_iconst (a := 0) G (by decide) dX19_isOut_3 ?_
  refine zv_istore G (by decide) rfl dX19_isOut_4 ?_
  exact zv_pick [0, 1, 2, 4, 5] rfl (cpC_X19_isOut_6 hp G M S hl hk rx2 (zr_k 0 (by decide) (by decide)) (zr_k 0 (by decide) (by decide)) h)
set_option maxHeartbeats 4000000 in
set_option maxRecDepth 100000 in
theorem cpC_X20_init_0 {Γ : ZG CW} {D : CD} {d p : Nat} (hp : D.K.1 = p) (G : ZOk Γ cX20_init RX20 1 (KnC D) (ZC D)) (M : ZRm Γ (d + 1) D.lim (Option.none : Option Jvm.ClassFile.FieldType) "<init>" []) (S : SdC d D p Γ.l) (hl : Γ.l.stackTraces = false) (hk : 0 ≤ d) {x0 : Nat} {w : CW} (h : pC_X20_init_0 p (wpC p d) (fun w => Γ.Q (.inl none) w) x0 w) : ZV Γ w 0 [(0, ar x0)] [] := by
  refine zc_wk G hp (fun hw tw => ?_)
  refine zv_aload_n G rfl rfl dX20_init_0 ?_
  refine zv_null G dX20_init_1 ?_
  refine zv_null G dX20_init_2 ?_
  refine zv_iconst (a := 0) G (by decide) dX20_init_3 ?_
  refine zv_iconst (a := 0) G (by decide) dX20_init_4 ?_
  have o3 := h.1
  have h := h.2
  refine zv_callV (as := [ar x0, ar 0, ar 0, ai 0, ai 0]) (st := []) G M (zc_eI G rfl q1329 q283 q284 md_J1_init o3 rfl dX20_init_5) (S 205 _ rfl _ _ _ h (zoks_cons trivial (zoks_cons trivial (zoks_cons trivial (zoks_cons (zr_k 0 (by decide) (by decide)) (zoks_cons (zr_k 0 (by decide) (by decide)) zoks_nil)))))) (Or.inl ⟨rfl, rfl⟩) (zc_hk q284 q146) (by decide) (Nat.le_of_ble_eq_true rfl) (fun u1 h => ?_) (fun _ _ h => h.elim)
  refine zc_wk G hp (fun hu1 tu1 => ?_)
  exact zv_vret G M dX20_init_8 h
set_option maxHeartbeats 4000000 in
set_option maxRecDepth 100000 in
theorem cpC_X21_init_0 {Γ : ZG CW} {D : CD} {d p : Nat} (hp : D.K.1 = p) (G : ZOk Γ cX21_init RX21 2 (KnC D) (ZC D)) (M : ZRm Γ (d + 1) D.lim (Option.none : Option Jvm.ClassFile.FieldType) "<init>" []) (S : SdC d D p Γ.l) (hl : Γ.l.stackTraces = false) (hk : 0 ≤ d) {x0 : Nat} {x1 : Int} {w : CW} (rx1 : zr x1) (h : pC_X21_init_0 p (wpC p d) (fun w => Γ.Q (.inl none) w) x0 x1 w) : ZV Γ w 0 [(0, ar x0), (1, ai x1)] [] := by
  refine zc_wk G hp (fun hw tw => ?_)
  refine zv_aload_n G rfl rfl dX21_init_0 ?_
  have o2 := h.1
  have h := h.2
  refine zc_oinit G M q1340 q262 q263 o2 (Nat.le_of_ble_eq_true rfl) dX21_init_1 ?_
  refine zv_aload_n G rfl rfl dX21_init_4 ?_
  refine zv_iconst (a := 0) G (by decide) dX21_init_5 ?_
  have o4 := h.1
  have h := h.2
  refine zc_anew (t := 113) G M (by decide) q1341 o4.1 o4.2 dX21_init_6 (fun u3 eu3 => ?_)
  have h := h u3 eu3
  refine zc_wk G hp (fun hu3 tu3 => ?_)
  have o6 := h.1
  have h := h.2
  refine zc_putR (f := 107) G M o6 rfl q1345 (Or.inl rfl) (Or.inl rfl) (zfty_107) (Or.inr ⟨_, rfl⟩) rfl dX21_init_9 (fun u5 eu5 => ?_)
  have h := h u5 eu5
  refine zc_wk G hp (fun hu5 tu5 => ?_)
  refine zv_aload_n G rfl rfl dX21_init_12 ?_
  refine zv_iload_n G rfl rfl dX21_init_13 ?_
  have o8 := h.1
  have h := h.2
  refine zc_putI (f := 106) G M o8 rfl q1343 (Or.inl rfl) (Or.inr ⟨rfl, rfl, rfl⟩) (zfty_106) rfl rfl (by decide) (by decide) rx1 dX21_init_14 (fun u7 eu7 => ?_)
  have h := h u7 eu7
  refine zc_wk G hp (fun hu7 tu7 => ?_)
  exact zv_vret G M dX21_init_17 h
set_option maxHeartbeats 4000000 in
set_option maxRecDepth 100000 in
theorem cpC_X21_many_39 {Γ : ZG CW} {D : CD} {d p : Nat} (hp : D.K.1 = p) (G : ZOk Γ cX21_many RX21 6 (KnC D) (ZC D)) (M : ZRm Γ (d + 1) D.lim (Option.some Jvm.ClassFile.FieldType.int) "many" []) (S : SdC d D p Γ.l) (hl : Γ.l.stackTraces = false) (hk : 0 ≤ d) {x1 : Int} {w : CW} (rx1 : zr x1) (h : pC_X21_many_39 p (wpC p d) (fun v w => Γ.Q (.inl (some (ai v))) w) x1 w) : ZV Γ w 39 [(1, ai x1)] [] := by
  refine zc_wk G hp (fun hw tw => ?_)
  refine zv_iload_n G rfl rfl dX21_many_39 ?_
  exact zv_iret (ty := .int) rx1 G M rfl dX21_many_40 h
set_option maxHeartbeats 4000000 in
set_option maxRecDepth 100000 in
theorem cpC_X21_many_13 {Γ : ZG CW} {D : CD} {d p : Nat} (hp : D.K.1 = p) (G : ZOk Γ cX21_many RX21 6 (KnC D) (ZC D)) (M : ZRm Γ (d + 1) D.lim (Option.some Jvm.ClassFile.FieldType.int) "many" []) (S : SdC d D p Γ.l) (hl : Γ.l.stackTraces = false) (hk : 0 ≤ d) {x1 : Int} {x2 : Nat} {x3 : Int} {x4 : Int} {w : CW} (rx1 : zr x1) (rx3 : zr x3) (rx4 : zr x4) (h : pC_X21_many_13 p (wpC p d) (fun v w => Γ.Q (.inl (some (ai v))) w) x1 x2 x3 x4 w) : ZV Γ w 13 [(1, ai x1), (2, ar x2), (3, ai x3), (4, ai x4)] [] := by
  obtain ⟨I13, eI13⟩ : ∃ I : Int → Int → CW → Prop, I = (fun x1 x4 w => zr x1 → zr x4 → ZV Γ w 13 [(1, ai x1), (2, ar x2), (3, ai x3), (4, ai x4)] []) := ⟨_, rfl⟩
  have hI13 : ∀ (x1 : Int) (x4 : Int) (w : CW), I13 x1 x4 w → zr x1 → zr x4 → ZV Γ w 13 [(1, ai x1), (2, ar x2), (3, ai x3), (4, ai x4)] [] := by subst eI13; exact fun _ _ _ z => z
  have hJ13 : ∀ (x1 : Int) (x4 : Int) (w : CW), (zr x1 → zr x4 → ZV Γ w 13 [(1, ai x1), (2, ar x2), (3, ai x3), (4, ai x4)] []) → I13 x1 x4 w := by subst eI13; exact fun _ _ _ z => z
  refine hI13 x1 x4 w (h I13 (fun x1 x4 w h => hJ13 x1 x4 w (fun rx1 rx4 => ?_))) rx1 rx4
  refine zc_wk G hp (fun hw tw => ?_)
  refine zv_iload G rfl dX21_many_13 ?_
  refine zv_iload_n G rfl rfl dX21_many_15 ?_
  refine zv_icmp_ge (tgt := 39) G rx4 rx3 (by decide) dX21_many_16 (fun c5 => ?_) (fun c5 => ?_)
  · have h := h.1 c5
    exact zv_pick [1] rfl (cpC_X21_many_39 hp G M S hl hk rx1 h)
  · have h := h.2 c5
    refine zv_aload_n G rfl rfl dX21_many_19 ?_
    refine zv_iload G rfl dX21_many_20 ?_
    have o6 := h.1
    have h := h.2
    refine zc_aald G o6.1 rx4 o6.2.1 o6.2.2 dX21_many_22 ?_
    refine zv_astoreN G (by decide) dX21_many_23 (fun x5_7 ex5_7 => ?_)
    have h := h x5_7 ex5_7
    refine zv_iload_n G rfl rfl dX21_many_25 ?_
    refine zv_aload G rfl dX21_many_26 ?_
    have o12 := h.1
    have h := h.2
    have en13 : ZEn Γ w 28 [(5, ar x5_7), (1, ai x1), (2, ar x2), (3, ai x3), (4, ai x4)] yX21_many 3 [ar x5_7] [ai x1] := by
      rcases o12 with z | z | z | z | z | z | z
      · exact (zc_eV (C := zcn 19) G q1567 q1557 q1564 (Or.inl ⟨rfl, rfl⟩) q1566 md_X21_many (zc_rc G (zne tw z (by decide)) z (by decide) (by decide) rfl) rfl dX21_many_28)
      · exact (zc_eV (C := zcn 20) G q1567 q1557 q1559 (Or.inl ⟨rfl, rfl⟩) q1566 md_X21_many (zc_rc G (zne tw z (by decide)) z (by decide) (by decide) rfl) rfl dX21_many_28)
      · exact (zc_eV (C := zcn 21) G q1567 q1557 q1560 (Or.inl ⟨rfl, rfl⟩) q1566 md_X21_many (zc_rc G (zne tw z (by decide)) z (by decide) (by decide) rfl) rfl dX21_many_28)
      · exact (zc_eV (C := zcn 22) G q1567 q1557 q1561 (Or.inl ⟨rfl, rfl⟩) q1566 md_X21_many (zc_rc G (zne tw z (by decide)) z (by decide) (by decide) rfl) rfl dX21_many_28)
      · exact (zc_eV (C := zcn 23) G q1567 q1557 q1563 (Or.inl ⟨rfl, rfl⟩) q1566 md_X21_many (zc_rc G (zne tw z (by decide)) z (by decide) (by decide) rfl) rfl dX21_many_28)
      · exact (zc_eV (C := zcn 24) G q1567 q1557 q1562 (Or.inl ⟨rfl, rfl⟩) q1566 md_X21_many (zc_rc G (zne tw z (by decide)) z (by decide) (by decide) rfl) rfl dX21_many_28)
      · exact (zc_eV (C := zcn 25) G q1567 q1557 q1565 (Or.inl ⟨rfl, rfl⟩) q1566 md_X21_many (zc_rc G (zne tw z (by decide)) z (by decide) (by decide) rfl) rfl dX21_many_28)
    refine zv_callI (as := [ar x5_7]) (st := [ai x1]) G M en13 (S 153 _ rfl _ _ _ h (zoks_cons trivial zoks_nil)) (Or.inl ⟨rfl, rfl⟩) (zc_hk q1566 q177) (by decide) (Nat.le_of_ble_eq_true rfl) (fun v9 u8 rv9 h => ?_) (fun _ _ h => h.elim)
    refine zc_wk G hp (fun hu8 tu8 => ?_)
    refine zv_iadd G dX21_many_31 ?_
    refine zv_istore_nN G rfl (by decide) dX21_many_32 (fun x1_10 ex1_10 => ?_)
    have h := h x1_10 ex1_10
    have rx1_10 : zr x1_10 := by rw [ex1_10]; exact (w32_r _)
    refine zv_iincN G rfl (by decide) dX21_many_33 (fun x4_11 ex4_11 => ?_)
    have h := h x4_11 ex4_11
    have rx4_11 : zr x4_11 := by rw [ex4_11]; exact w32_r _
    refine zv_goto (tgt := 13) G (by decide) dX21_many_36 ?_
    exact zv_pick [1, 2, 3, 4] rfl (hI13 _ _ _ h rx1_10 rx4_11)
set_option maxHeartbeats 4000000 in
set_option maxRecDepth 100000 in
theorem cpC_X21_many_0 {Γ : ZG CW} {D : CD} {d p : Nat} (hp : D.K.1 = p) (G : ZOk Γ cX21_many RX21 6 (KnC D) (ZC D)) (M : ZRm Γ (d + 1) D.lim (Option.some Jvm.ClassFile.FieldType.int) "many" []) (S : SdC d D p Γ.l) (hl : Γ.l.stackTraces = false) (hk : 0 ≤ d) {x0 : Nat} {w : CW} (h : pC_X21_many_0 p (wpC p d) (fun v w => Γ.Q (.inl (some (ai v))) w) x0 w) : ZV Γ w 0 [(0, ar x0)] [] := by
  refine zc_wk G hp (fun hw tw => ?_)
  refine zv_iconst (a := 1) G (by decide) dX21_many_0 ?_
  refine zv_istore_n G rfl (by decide) rfl dX21_many_1 ?_
  refine zv_aload_n G rfl rfl dX21_many_2 ?_
  have o1 := h.1
  have h := h.2
  refine zc_get (f := 107) (v := ar (fR w 107 x0)) G o1 rfl q1345 (Or.inl rfl) (cV_R rfl) dX21_many_3 ?_
  refine zv_astore_nN G rfl (by decide) dX21_many_6 (fun x2_2 ex2_2 => ?_)
  have h := h x2_2 ex2_2
  refine zv_aload_n G rfl rfl dX21_many_7 ?_
  have o3 := h.1
  have h := h.2
  refine zc_alen G o3 dX21_many_8 ?_
  refine zv_istore_nN G rfl (by decide) dX21_many_9 (fun x3_4 ex3_4 => ?_)
  have h := h x3_4 ex3_4
  have rx3_4 : zr x3_4 := by rw [ex3_4]; exact (zc_lnr hw _)
  refine zv_iconst (a := 0) G (by decide) dX21_many_10 ?_
  refine zv_istore G (by decide) rfl dX21_many_11 ?_
  exact zv_pick [1, 2, 3, 4] rfl (cpC_X21_many_13 hp G M S hl hk (zr_k 1 (by decide) (by decide)) rx3_4 (zr_k 0 (by decide) (by decide)) h)
set_option maxHeartbeats 4000000 in
set_option maxRecDepth 100000 in
theorem cpC_X21_depth_41 {Γ : ZG CW} {D : CD} {d p : Nat} (hp : D.K.1 = p) (G : ZOk Γ cX21_depth RX21 6 (KnC D) (ZC D)) (M : ZRm Γ (d + 1) D.lim (Option.some Jvm.ClassFile.FieldType.int) "depth" []) (S : SdC d D p Γ.l) (hl : Γ.l.stackTraces = false) (hk : 0 ≤ d) {x1 : Int} {w : CW} (rx1 : zr x1) (h : pC_X21_depth_41 p (wpC p d) (fun v w => Γ.Q (.inl (some (ai v))) w) x1 w) : ZV Γ w 41 [(1, ai x1)] [] := by
  refine zc_wk G hp (fun hw tw => ?_)
  refine zv_iload_n G rfl rfl dX21_depth_41 ?_
  refine zv_iconst (a := 1) G (by decide) dX21_depth_42 ?_
  refine zv_iadd G dX21_depth_43 ?_
  exact zv_iret (ty := .int) (w32_r _) G M rfl dX21_depth_44 h
set_option maxHeartbeats 4000000 in
set_option maxRecDepth 100000 in
theorem cpC_X21_depth_13 {Γ : ZG CW} {D : CD} {d p : Nat} (hp : D.K.1 = p) (G : ZOk Γ cX21_depth RX21 6 (KnC D) (ZC D)) (M : ZRm Γ (d + 1) D.lim (Option.some Jvm.ClassFile.FieldType.int) "depth" []) (S : SdC d D p Γ.l) (hl : Γ.l.stackTraces = false) (hk : 0 ≤ d) {x1 : Int} {x2 : Nat} {x3 : Int} {x4 : Int} {w : CW} (rx1 : zr x1) (rx3 : zr x3) (rx4 : zr x4) (h : pC_X21_depth_13 p (wpC p d) (fun v w => Γ.Q (.inl (some (ai v))) w) x1 x2 x3 x4 w) : ZV Γ w 13 [(1, ai x1), (2, ar x2), (3, ai x3), (4, ai x4)] [] := by
  obtain ⟨I13, eI13⟩ : ∃ I : Int → Int → CW → Prop, I = (fun x1 x4 w => zr x1 → zr x4 → ZV Γ w 13 [(1, ai x1), (2, ar x2), (3, ai x3), (4, ai x4)] []) := ⟨_, rfl⟩
  have hI13 : ∀ (x1 : Int) (x4 : Int) (w : CW), I13 x1 x4 w → zr x1 → zr x4 → ZV Γ w 13 [(1, ai x1), (2, ar x2), (3, ai x3), (4, ai x4)] [] := by subst eI13; exact fun _ _ _ z => z
  have hJ13 : ∀ (x1 : Int) (x4 : Int) (w : CW), (zr x1 → zr x4 → ZV Γ w 13 [(1, ai x1), (2, ar x2), (3, ai x3), (4, ai x4)] []) → I13 x1 x4 w := by subst eI13; exact fun _ _ _ z => z
  refine hI13 x1 x4 w (h I13 (fun x1 x4 w h => hJ13 x1 x4 w (fun rx1 rx4 => ?_))) rx1 rx4
  refine zc_wk G hp (fun hw tw => ?_)
  refine zv_iload G rfl dX21_depth_13 ?_
  refine zv_iload_n G rfl rfl dX21_depth_15 ?_
  refine zv_icmp_ge (tgt := 41) G rx4 rx3 (by decide) dX21_depth_16 (fun c5 => ?_) (fun c5 => ?_)
  · have h := h.1 c5
    exact zv_pick [1] rfl (cpC_X21_depth_41 hp G M S hl hk rx1 h)
  · have h := h.2 c5
    refine zv_aload_n G rfl rfl dX21_depth_19 ?_
    refine zv_iload G rfl dX21_depth_20 ?_
    have o6 := h.1
    have h := h.2
    refine zc_aald G o6.1 rx4 o6.2.1 o6.2.2 dX21_depth_22 ?_
    refine zv_astoreN G (by decide) dX21_depth_23 (fun x5_7 ex5_7 => ?_)
    have h := h x5_7 ex5_7
    refine zv_iload_n G rfl rfl dX21_depth_25 ?_
    refine zv_aload G rfl dX21_depth_26 ?_
    have o12 := h.1
    have h := h.2
    have en13 : ZEn Γ w 28 [(5, ar x5_7), (1, ai x1), (2, ar x2), (3, ai x3), (4, ai x4)] yX21_depth 3 [ar x5_7] [ai x1] := by
      rcases o12 with z | z | z | z | z | z | z
      · exact (zc_eV (C := zcn 19) G q1592 q1582 q1589 (Or.inl ⟨rfl, rfl⟩) q1591 md_X21_depth (zc_rc G (zne tw z (by decide)) z (by decide) (by decide) rfl) rfl dX21_depth_28)
      · exact (zc_eV (C := zcn 20) G q1592 q1582 q1584 (Or.inl ⟨rfl, rfl⟩) q1591 md_X21_depth (zc_rc G (zne tw z (by decide)) z (by decide) (by decide) rfl) rfl dX21_depth_28)
      · exact (zc_eV (C := zcn 21) G q1592 q1582 q1585 (Or.inl ⟨rfl, rfl⟩) q1591 md_X21_depth (zc_rc G (zne tw z (by decide)) z (by decide) (by decide) rfl) rfl dX21_depth_28)
      · exact (zc_eV (C := zcn 22) G q1592 q1582 q1586 (Or.inl ⟨rfl, rfl⟩) q1591 md_X21_depth (zc_rc G (zne tw z (by decide)) z (by decide) (by decide) rfl) rfl dX21_depth_28)
      · exact (zc_eV (C := zcn 23) G q1592 q1582 q1588 (Or.inl ⟨rfl, rfl⟩) q1591 md_X21_depth (zc_rc G (zne tw z (by decide)) z (by decide) (by decide) rfl) rfl dX21_depth_28)
      · exact (zc_eV (C := zcn 24) G q1592 q1582 q1587 (Or.inl ⟨rfl, rfl⟩) q1591 md_X21_depth (zc_rc G (zne tw z (by decide)) z (by decide) (by decide) rfl) rfl dX21_depth_28)
      · exact (zc_eV (C := zcn 25) G q1592 q1582 q1590 (Or.inl ⟨rfl, rfl⟩) q1591 md_X21_depth (zc_rc G (zne tw z (by decide)) z (by decide) (by decide) rfl) rfl dX21_depth_28)
    refine zv_callI (as := [ar x5_7]) (st := [ai x1]) G M en13 (S 154 _ rfl _ _ _ h (zoks_cons trivial zoks_nil)) (Or.inl ⟨rfl, rfl⟩) (zc_hk q1591 q177) (by decide) (Nat.le_of_ble_eq_true rfl) (fun v9 u8 rv9 h => ?_) (fun _ _ h => h.elim)
    refine zc_wk G hp (fun hu8 tu8 => ?_)
    refine zc_mmax G M q1593 q368 q153 q369 rx1 rv9 (Nat.le_of_ble_eq_true rfl) dX21_depth_31 ?_
    refine zv_istore_nN G rfl (by decide) dX21_depth_34 (fun x1_10 ex1_10 => ?_)
    have h := h x1_10 ex1_10
    have rx1_10 : zr x1_10 := by rw [ex1_10]; exact (zr_ite rv9 rx1)
    refine zv_iincN G rfl (by decide) dX21_depth_35 (fun x4_11 ex4_11 => ?_)
    have h := h x4_11 ex4_11
    have rx4_11 : zr x4_11 := by rw [ex4_11]; exact w32_r _
    refine zv_goto (tgt := 13) G (by decide) dX21_depth_38 ?_
    exact zv_pick [1, 2, 3, 4] rfl (hI13 _ _ _ h rx1_10 rx4_11)
set_option maxHeartbeats 4000000 in
set_option maxRecDepth 100000 in
theorem cpC_X21_depth_0 {Γ : ZG CW} {D : CD} {d p : Nat} (hp : D.K.1 = p) (G : ZOk Γ cX21_depth RX21 6 (KnC D) (ZC D)) (M : ZRm Γ (d + 1) D.lim (Option.some Jvm.ClassFile.FieldType.int) "depth" []) (S : SdC d D p Γ.l) (hl : Γ.l.stackTraces = false) (hk : 0 ≤ d) {x0 : Nat} {w : CW} (h : pC_X21_depth_0 p (wpC p d) (fun v w => Γ.Q (.inl (some (ai v))) w) x0 w) : ZV Γ w 0 [(0, ar x0)] [] := by
  refine zc_wk G hp (fun hw tw => ?_)
  refine zv_iconst (a := 0) G (by decide) dX21_depth_0 ?_
  refine zv_istore_n G rfl (by decide) rfl dX21_depth_1 ?_
  refine zv_aload_n G rfl rfl dX21_depth_2 ?_
  have o1 := h.1
  have h := h.2
  refine zc_get (f := 107) (v := ar (fR w 107 x0)) G o1 rfl q1345 (Or.inl rfl) (cV_R rfl) dX21_depth_3 ?_
  refine zv_astore_nN G rfl (by decide) dX21_depth_6 (fun x2_2 ex2_2 => ?_)
  have h := h x2_2 ex2_2
  refine zv_aload_n G rfl rfl dX21_depth_7 ?_
  have o3 := h.1
  have h := h.2
  refine zc_alen G o3 dX21_depth_8 ?_
  refine zv_istore_nN G rfl (by decide) dX21_depth_9 (fun x3_4 ex3_4 => ?_)
  have h := h x3_4 ex3_4
  have rx3_4 : zr x3_4 := by rw [ex3_4]; exact (zc_lnr hw _)
  refine zv_iconst (a := 0) G (by decide) dX21_depth_10 ?_
  refine zv_istore G (by decide) rfl dX21_depth_11 ?_
  exact zv_pick [1, 2, 3, 4] rfl (cpC_X21_depth_13 hp G M S hl hk (zr_k 0 (by decide) (by decide)) rx3_4 (zr_k 0 (by decide) (by decide)) h)
set_option maxHeartbeats 4000000 in
set_option maxRecDepth 100000 in
theorem cpC_X21_find_54 {Γ : ZG CW} {D : CD} {d p : Nat} (hp : D.K.1 = p) (G : ZOk Γ cX21_find RX21 4 (KnC D) (ZC D)) (M : ZRm Γ (d + 1) D.lim (Option.some (Jvm.ClassFile.FieldType.object "LetterPost$Node")) "find" []) (S : SdC d D p Γ.l) (hl : Γ.l.stackTraces = false) (hk : 0 ≤ d) {x2 : Nat} {w : CW} (h : pC_X21_find_54 p (wpC p d) (fun v w => Γ.Q (.inl (some (ar v))) w) x2 w) : ZV Γ w 54 [(2, ar x2)] [] := by
  refine zc_wk G hp (fun hw tw => ?_)
  refine zv_aload_n G rfl rfl dX21_find_54 ?_
  exact zv_aret G M (Or.inl ⟨_, rfl⟩) dX21_find_55 h
set_option maxHeartbeats 4000000 in
set_option maxRecDepth 100000 in
theorem cpC_X21_find_44 {Γ : ZG CW} {D : CD} {d p : Nat} (hp : D.K.1 = p) (G : ZOk Γ cX21_find RX21 4 (KnC D) (ZC D)) (M : ZRm Γ (d + 1) D.lim (Option.some (Jvm.ClassFile.FieldType.object "LetterPost$Node")) "find" []) (S : SdC d D p Γ.l) (hl : Γ.l.stackTraces = false) (hk : 0 ≤ d) {I2 : Nat → CW → Prop} {x1 : Int} {x2 : Nat} {x3 : Int} {w : CW} (hI2 : ∀ (x2 : Nat) (w : CW), I2 x2 w → ZV Γ w 2 [(1, ai x1), (2, ar x2)] []) (rx1 : zr x1) (rx3 : zr x3) (h : pC_X21_find_44 p (wpC p d) (fun v w => Γ.Q (.inl (some (ar v))) w) I2 x1 x2 x3 w) : ZV Γ w 44 [(1, ai x1), (2, ar x2), (3, ai x3)] [] := by
  refine zc_wk G hp (fun hw tw => ?_)
  refine zv_aload_n G rfl rfl dX21_find_44 ?_
  have o7 := h.1
  have h := h.2
  refine zc_get (f := 107) (v := ar (fR w 107 x2)) G o7 rfl q1345 (Or.inl rfl) (cV_R rfl) dX21_find_45 ?_
  refine zv_iload_n G rfl rfl dX21_find_48 ?_
  have o8 := h.1
  have h := h.2
  refine zc_aald G o8.1 rx3 o8.2.1 o8.2.2 dX21_find_49 ?_
  refine zv_astore_nN G rfl (by decide) dX21_find_50 (fun x2_9 ex2_9 => ?_)
  have h := h x2_9 ex2_9
  refine zv_goto (tgt := 2) G (by decide) dX21_find_51 ?_
  exact zv_pick [1, 2] rfl (hI2 _ _ h )
set_option maxHeartbeats 4000000 in
set_option maxRecDepth 100000 in
theorem cpC_X21_find_12 {Γ : ZG CW} {D : CD} {d p : Nat} (hp : D.K.1 = p) (G : ZOk Γ cX21_find RX21 4 (KnC D) (ZC D)) (M : ZRm Γ (d + 1) D.lim (Option.some (Jvm.ClassFile.FieldType.object "LetterPost$Node")) "find" []) (S : SdC d D p Γ.l) (hl : Γ.l.stackTraces = false) (hk : 0 ≤ d) {I2 : Nat → CW → Prop} {x1 : Int} {x2 : Nat} {x3 : Int} {w : CW} (hI2 : ∀ (x2 : Nat) (w : CW), I2 x2 w → ZV Γ w 2 [(1, ai x1), (2, ar x2)] []) (rx1 : zr x1) (rx3 : zr x3) (h : pC_X21_find_12 p (wpC p d) (fun v w => Γ.Q (.inl (some (ar v))) w) I2 x1 x2 x3 w) : ZV Γ w 12 [(1, ai x1), (2, ar x2), (3, ai x3)] [] := by
  obtain ⟨I12, eI12⟩ : ∃ I : Int → CW → Prop, I = (fun x3 w => zr x3 → ZV Γ w 12 [(1, ai x1), (2, ar x2), (3, ai x3)] []) := ⟨_, rfl⟩
  have hI12 : ∀ (x3 : Int) (w : CW), I12 x3 w → zr x3 → ZV Γ w 12 [(1, ai x1), (2, ar x2), (3, ai x3)] [] := by subst eI12; exact fun _ _ z => z
  have hJ12 : ∀ (x3 : Int) (w : CW), (zr x3 → ZV Γ w 12 [(1, ai x1), (2, ar x2), (3, ai x3)] []) → I12 x3 w := by subst eI12; exact fun _ _ z => z
  refine hI12 x3 w (h I12 (fun x3 w h => hJ12 x3 w (fun rx3 => ?_))) rx3
  refine zc_wk G hp (fun hw tw => ?_)
  refine zv_iload_n G rfl rfl dX21_find_12 ?_
  refine zv_iconst (a := 1) G (by decide) dX21_find_13 ?_
  refine zv_iadd G dX21_find_14 ?_
  refine zv_aload_n G rfl rfl dX21_find_15 ?_
  have o3 := h.1
  have h := h.2
  refine zc_get (f := 107) (v := ar (fR w 107 x2)) G o3 rfl q1345 (Or.inl rfl) (cV_R rfl) dX21_find_16 ?_
  have o4 := h.1
  have h := h.2
  refine zc_alen G o4 dX21_find_19 ?_
  have o5 := h.1
  have h := h.2
  have kt10 : ¬ (((ln w (fR w 107 x2) : Nat) : Int) ≤ (w32 (x3 + 1))) ∧ (¬ (x1 < (fI w 106 (aR w (fR w 107 x2) (w32 (x3 + 1)))))) → ZV Γ w 38 [(1, ai x1), (2, ar x2), (3, ai x3)] [] := by
    intro c12
    have h := h.1 c12
    refine zv_iincN G rfl (by decide) dX21_find_38 (fun x3_6 ex3_6 => ?_)
    have h := h x3_6 ex3_6
    have rx3_6 : zr x3_6 := by rw [ex3_6]; exact w32_r _
    refine zv_goto (tgt := 12) G (by decide) dX21_find_41 ?_
    exact zv_pick [1, 2, 3] rfl (hI12 _ _ h rx3_6)
  have kf11 : ¬ (¬ (((ln w (fR w 107 x2) : Nat) : Int) ≤ (w32 (x3 + 1))) ∧ (¬ (x1 < (fI w 106 (aR w (fR w 107 x2) (w32 (x3 + 1))))))) → ZV Γ w 44 [(1, ai x1), (2, ar x2), (3, ai x3)] [] := by
    intro c12
    have h := h.2 c12
    exact zv_pick [1, 2, 3] rfl (cpC_X21_find_44 hp G M S hl hk hI2 rx1 rx3 h)
  refine zv_icmp_ge (tgt := 44) G (w32_r _) (zc_lnr hw _) (by decide) dX21_find_20 (fun c13 => ?_) (fun c13 => ?_)
  · exact kf11 (fun q => q.1 c13)
  · refine zv_aload_n G rfl rfl dX21_find_23 ?_
    refine zc_get (f := 107) (v := ar (fR w 107 x2)) G (o5 c13).1 rfl q1345 (Or.inl rfl) (cV_R rfl) dX21_find_24 ?_
    refine zv_iload_n G rfl rfl dX21_find_27 ?_
    refine zv_iconst (a := 1) G (by decide) dX21_find_28 ?_
    refine zv_iadd G dX21_find_29 ?_
    refine zc_aald G (o5 c13).2.1.1 (w32_r _) (o5 c13).2.1.2.1 (o5 c13).2.1.2.2 dX21_find_30 ?_
    refine zc_get (f := 106) (v := ai (fI w 106 (aR w (fR w 107 x2) (w32 (x3 + 1))))) G (o5 c13).2.2 rfl q1343 (Or.inl rfl) (cV_I (by decide) (by decide)) dX21_find_31 ?_
    refine zv_iload_n G rfl rfl dX21_find_34 ?_
    refine zv_icmp_gt (tgt := 44) G (hw.i 106 _ (by decide)) rx1 (by decide) dX21_find_35 (fun c14 => ?_) (fun c14 => ?_)
    · exact kf11 (fun q => (fun q => q c14) q.2)
    · exact kt10 ⟨c13, c14⟩
set_option maxHeartbeats 4000000 in
set_option maxRecDepth 100000 in
theorem cpC_X21_find_2 {Γ : ZG CW} {D : CD} {d p : Nat} (hp : D.K.1 = p) (G : ZOk Γ cX21_find RX21 4 (KnC D) (ZC D)) (M : ZRm Γ (d + 1) D.lim (Option.some (Jvm.ClassFile.FieldType.object "LetterPost$Node")) "find" []) (S : SdC d D p Γ.l) (hl : Γ.l.stackTraces = false) (hk : 0 ≤ d) {x1 : Int} {x2 : Nat} {w : CW} (rx1 : zr x1) (h : pC_X21_find_2 p (wpC p d) (fun v w => Γ.Q (.inl (some (ar v))) w) x1 x2 w) : ZV Γ w 2 [(1, ai x1), (2, ar x2)] [] := by
  obtain ⟨I2, eI2⟩ : ∃ I : Nat → CW → Prop, I = (fun x2 w => ZV Γ w 2 [(1, ai x1), (2, ar x2)] []) := ⟨_, rfl⟩
  have hI2 : ∀ (x2 : Nat) (w : CW), I2 x2 w → ZV Γ w 2 [(1, ai x1), (2, ar x2)] [] := by subst eI2; exact fun _ _ z => z
  have hJ2 : ∀ (x2 : Nat) (w : CW), (ZV Γ w 2 [(1, ai x1), (2, ar x2)] []) → I2 x2 w := by subst eI2; exact fun _ _ z => z
  refine hI2 x2 w (h I2 (fun x2 w h => hJ2 x2 w ?_)) 
  refine zc_wk G hp (fun hw tw => ?_)
  refine zv_aload_n G rfl rfl dX21_find_2 ?_
  have o1 := h.1
  have h := h.2
  refine zc_get (f := 106) (v := ai (fI w 106 x2)) G o1 rfl q1343 (Or.inl rfl) (cV_I (by decide) (by decide)) dX21_find_3 ?_
  refine zv_iload_n G rfl rfl dX21_find_6 ?_
  refine zv_icmp_eq (tgt := 54) G (hw.i 106 _ (by decide)) rx1 (by decide) dX21_find_7 (fun c2 => ?_) (fun c2 => ?_)
  · have h := h.1 c2
    exact zv_pick [2] rfl (cpC_X21_find_54 hp G M S hl hk h)
  · have h := h.2 c2
    refine zv_iconst (a := 0) G (by decide) dX21_find_10 ?_
    refine zv_istore_n G rfl (by decide) rfl dX21_find_11 ?_
    exact zv_pick [1, 2, 3] rfl (cpC_X21_find_12 hp G M S hl hk hI2 rx1 (zr_k 0 (by decide) (by decide)) h)
set_option maxHeartbeats 4000000 in
set_option maxRecDepth 100000 in
theorem cpC_X21_find_0 {Γ : ZG CW} {D : CD} {d p : Nat} (hp : D.K.1 = p) (G : ZOk Γ cX21_find RX21 4 (KnC D) (ZC D)) (M : ZRm Γ (d + 1) D.lim (Option.some (Jvm.ClassFile.FieldType.object "LetterPost$Node")) "find" []) (S : SdC d D p Γ.l) (hl : Γ.l.stackTraces = false) (hk : 0 ≤ d) {x0 : Nat} {x1 : Int} {w : CW} (rx1 : zr x1) (h : pC_X21_find_0 p (wpC p d) (fun v w => Γ.Q (.inl (some (ar v))) w) x0 x1 w) : ZV Γ w 0 [(0, ar x0), (1, ai x1)] [] := by
  refine zc_wk G hp (fun hw tw => ?_)
  refine zv_aload_n G rfl rfl dX21_find_0 ?_
  refine zv_astore_n G rfl (by decide) rfl dX21_find_1 ?_
  exact zv_pick [1, 2] rfl (cpC_X21_find_2 hp G M S hl hk rx1 h)
set_option maxHeartbeats 4000000 in
set_option maxRecDepth 100000 in
theorem cpC_X21_what_0 {Γ : ZG CW} {D : CD} {d p : Nat} (hp : D.K.1 = p) (G : ZOk Γ cX21_what RX21 1 (KnC D) (ZC D)) (M : ZRm Γ (d + 1) D.lim (Option.some Jvm.ClassFile.FieldType.int) "what" []) (S : SdC d D p Γ.l) (hl : Γ.l.stackTraces = false) (hk : 0 ≤ d) {w : CW} (h : pC_X21_what_0 p (wpC p d) (fun v w => Γ.Q (.inl (some (ai v))) w) w) : ZV Γ w 0 [] [] := by
  refine zc_wk G hp (fun hw tw => ?_)
  refine zv_iconst (a := 0) G (by decide) dX21_what_0 ?_
  exact zv_iret (ty := .int) (zr_k 0 (by decide) (by decide)) G M rfl dX21_what_1 h
set_option maxHeartbeats 4000000 in
set_option maxRecDepth 100000 in
theorem cpC_X21_rule_0 {Γ : ZG CW} {D : CD} {d p : Nat} (hp : D.K.1 = p) (G : ZOk Γ cX21_rule RX21 1 (KnC D) (ZC D)) (M : ZRm Γ (d + 1) D.lim (Option.some (Jvm.ClassFile.FieldType.object "LetterPost$Rule")) "rule" []) (S : SdC d D p Γ.l) (hl : Γ.l.stackTraces = false) (hk : 0 ≤ d) {w : CW} (h : pC_X21_rule_0 p (wpC p d) (fun v w => Γ.Q (.inl (some (ar v))) w) w) : ZV Γ w 0 [] [] := by
  refine zc_wk G hp (fun hw tw => ?_)
  refine zv_null G dX21_rule_0 ?_
  exact zv_aret G M (Or.inl ⟨_, rfl⟩) dX21_rule_1 h
set_option maxHeartbeats 4000000 in
set_option maxRecDepth 100000 in
theorem cpC_X21_place_0 {Γ : ZG CW} {D : CD} {d p : Nat} (hp : D.K.1 = p) (G : ZOk Γ cX21_place RX21 1 (KnC D) (ZC D)) (M : ZRm Γ (d + 1) D.lim (Option.some (Jvm.ClassFile.FieldType.object "LetterPost$Place")) "place" []) (S : SdC d D p Γ.l) (hl : Γ.l.stackTraces = false) (hk : 0 ≤ d) {w : CW} (h : pC_X21_place_0 p (wpC p d) (fun v w => Γ.Q (.inl (some (ar v))) w) w) : ZV Γ w 0 [] [] := by
  refine zc_wk G hp (fun hw tw => ?_)
  refine zv_null G dX21_place_0 ?_
  exact zv_aret G M (Or.inl ⟨_, rfl⟩) dX21_place_1 h
set_option maxHeartbeats 4000000 in
set_option maxRecDepth 100000 in
theorem cpC_X21_has_66 {Γ : ZG CW} {D : CD} {d p : Nat} (hp : D.K.1 = p) (G : ZOk Γ cX21_has RX21 4 (KnC D) (ZC D)) (M : ZRm Γ (d + 1) D.lim (Option.some Jvm.ClassFile.FieldType.boolean) "has" []) (S : SdC d D p Γ.l) (hl : Γ.l.stackTraces = false) (hk : 0 ≤ d) {x2 : Int} {w : CW} (rx2 : zr x2) (h : pC_X21_has_66 p (wpC p d) (fun v w => Γ.Q (.inl (some (ai v))) w) x2 w) : ZV Γ w 66 [(2, ai x2)] [] := by
  refine zc_wk G hp (fun hw tw => ?_)
  refine zv_iload_n G rfl rfl dX21_has_66 ?_
  exact zv_iret (ty := .boolean) rx2 G M (zn_Z h.1) dX21_has_67 h.2
set_option maxHeartbeats 4000000 in
set_option maxRecDepth 100000 in
theorem cpC_X21_has_36 {Γ : ZG CW} {D : CD} {d p : Nat} (hp : D.K.1 = p) (G : ZOk Γ cX21_has RX21 4 (KnC D) (ZC D)) (M : ZRm Γ (d + 1) D.lim (Option.some Jvm.ClassFile.FieldType.boolean) "has" []) (S : SdC d D p Γ.l) (hl : Γ.l.stackTraces = false) (hk : 0 ≤ d) {x0 : Nat} {x1 : Nat} {x2 : Int} {x3 : Int} {w : CW} (rx2 : zr x2) (rx3 : zr x3) (h : pC_X21_has_36 p (wpC p d) (fun v w => Γ.Q (.inl (some (ai v))) w) x0 x1 x2 x3 w) : ZV Γ w 36 [(0, ar x0), (1, ar x1), (2, ai x2), (3, ai x3)] [] := by
  obtain ⟨I36, eI36⟩ : ∃ I : Int → Int → CW → Prop, I = (fun x2 x3 w => zr x2 → zr x3 → ZV Γ w 36 [(0, ar x0), (1, ar x1), (2, ai x2), (3, ai x3)] []) := ⟨_, rfl⟩
  have hI36 : ∀ (x2 : Int) (x3 : Int) (w : CW), I36 x2 x3 w → zr x2 → zr x3 → ZV Γ w 36 [(0, ar x0), (1, ar x1), (2, ai x2), (3, ai x3)] [] := by subst eI36; exact fun _ _ _ z => z
  have hJ36 : ∀ (x2 : Int) (x3 : Int) (w : CW), (zr x2 → zr x3 → ZV Γ w 36 [(0, ar x0), (1, ar x1), (2, ai x2), (3, ai x3)] []) → I36 x2 x3 w := by subst eI36; exact fun _ _ _ z => z
  refine hI36 x2 x3 w (h I36 (fun x2 x3 w h => hJ36 x2 x3 w (fun rx2 rx3 => ?_))) rx2 rx3
  refine zc_wk G hp (fun hw tw => ?_)
  refine zv_iload_n G rfl rfl dX21_has_36 ?_
  refine zv_aload_n G rfl rfl dX21_has_37 ?_
  have o5 := h.1
  have h := h.2
  refine zc_get (f := 107) (v := ar (fR w 107 x0)) G o5 rfl q1345 (Or.inl rfl) (cV_R rfl) dX21_has_38 ?_
  have o6 := h.1
  have h := h.2
  refine zc_alen G o6 dX21_has_41 ?_
  have kt14 : ¬ (((ln w (fR w 107 x0) : Nat) : Int) ≤ x3) ∧ (x2 = 0) → ZV Γ w 49 [(0, ar x0), (1, ar x1), (2, ai x2), (3, ai x3)] [] := by
    intro c16
    have h := h.1 c16
    refine zv_aload_n G rfl rfl dX21_has_49 ?_
    have o7 := h.1
    have h := h.2
    refine zc_get (f := 107) (v := ar (fR w 107 x0)) G o7 rfl q1345 (Or.inl rfl) (cV_R rfl) dX21_has_50 ?_
    refine zv_iload_n G rfl rfl dX21_has_53 ?_
    have o8 := h.1
    have h := h.2
    refine zc_aald G o8.1 rx3 o8.2.1 o8.2.2 dX21_has_54 ?_
    refine zv_aload_n G rfl rfl dX21_has_55 ?_
    have o12 := h.1
    have h := h.2
    have en13 : ZEn Γ w 56 [(0, ar x0), (1, ar x1), (2, ai x2), (3, ai x3)] yX21_has 3 [ar (aR w (fR w 107 x0) x3), ar x1] [] := by
      rcases o12 with z | z | z | z | z | z | z
      · exact (zc_eV (C := zcn 19) G q1684 q1673 q1680 (Or.inl ⟨rfl, rfl⟩) q1682 md_X21_has (zc_rc G (zne tw z (by decide)) z (by decide) (by decide) rfl) rfl dX21_has_56)
      · exact (zc_eV (C := zcn 20) G q1684 q1673 q1675 (Or.inl ⟨rfl, rfl⟩) q1682 md_X21_has (zc_rc G (zne tw z (by decide)) z (by decide) (by decide) rfl) rfl dX21_has_56)
      · exact (zc_eV (C := zcn 21) G q1684 q1673 q1676 (Or.inl ⟨rfl, rfl⟩) q1682 md_X21_has (zc_rc G (zne tw z (by decide)) z (by decide) (by decide) rfl) rfl dX21_has_56)
      · exact (zc_eV (C := zcn 22) G q1684 q1673 q1677 (Or.inl ⟨rfl, rfl⟩) q1682 md_X21_has (zc_rc G (zne tw z (by decide)) z (by decide) (by decide) rfl) rfl dX21_has_56)
      · exact (zc_eV (C := zcn 23) G q1684 q1673 q1679 (Or.inl ⟨rfl, rfl⟩) q1682 md_X21_has (zc_rc G (zne tw z (by decide)) z (by decide) (by decide) rfl) rfl dX21_has_56)
      · exact (zc_eV (C := zcn 24) G q1684 q1673 q1678 (Or.inl ⟨rfl, rfl⟩) q1682 md_X21_has (zc_rc G (zne tw z (by decide)) z (by decide) (by decide) rfl) rfl dX21_has_56)
      · exact (zc_eV (C := zcn 25) G q1684 q1673 q1681 (Or.inl ⟨rfl, rfl⟩) q1682 md_X21_has (zc_rc G (zne tw z (by decide)) z (by decide) (by decide) rfl) rfl dX21_has_56)
    refine zv_callI (as := [ar (aR w (fR w 107 x0) x3), ar x1]) (st := []) G M en13 (S 159 _ rfl _ _ _ h (zoks_cons trivial (zoks_cons trivial zoks_nil))) (Or.inl ⟨rfl, rfl⟩) (zc_hk q1682 q177) (by decide) (Nat.le_of_ble_eq_true rfl) (fun v10 u9 rv10 h => ?_) (fun _ _ h => h.elim)
    refine zc_wk G hp (fun hu9 tu9 => ?_)
    refine zv_istore_n G rfl (by decide) rfl dX21_has_59 ?_
    refine zv_iincN G rfl (by decide) dX21_has_60 (fun x3_11 ex3_11 => ?_)
    have h := h x3_11 ex3_11
    have rx3_11 : zr x3_11 := by rw [ex3_11]; exact w32_r _
    refine zv_goto (tgt := 36) G (by decide) dX21_has_63 ?_
    exact zv_pick [0, 1, 2, 3] rfl (hI36 _ _ _ h rv10 rx3_11)
  have kf15 : ¬ (¬ (((ln w (fR w 107 x0) : Nat) : Int) ≤ x3) ∧ (x2 = 0)) → ZV Γ w 66 [(0, ar x0), (1, ar x1), (2, ai x2), (3, ai x3)] [] := by
    intro c16
    have h := h.2 c16
    exact zv_pick [2] rfl (cpC_X21_has_66 hp G M S hl hk rx2 h)
  refine zv_icmp_ge (tgt := 66) G rx3 (zc_lnr hw _) (by decide) dX21_has_42 (fun c17 => ?_) (fun c17 => ?_)
  · exact kf15 (fun q => q.1 c17)
  · refine zv_iload_n G rfl rfl dX21_has_45 ?_
    refine zv_if_ne (tgt := 66) G rx2 (by decide) dX21_has_46 (fun c18 => ?_) (fun c18 => ?_)
    · exact kf15 (fun q => c18 q.2)
    · exact kt14 ⟨c17, c18⟩
set_option maxHeartbeats 4000000 in
set_option maxRecDepth 100000 in
theorem cpC_X21_has_33 {Γ : ZG CW} {D : CD} {d p : Nat} (hp : D.K.1 = p) (G : ZOk Γ cX21_has RX21 4 (KnC D) (ZC D)) (M : ZRm Γ (d + 1) D.lim (Option.some Jvm.ClassFile.FieldType.boolean) "has" []) (S : SdC d D p Γ.l) (hl : Γ.l.stackTraces = false) (hk : 0 ≤ d) {x0 : Nat} {x1 : Nat} {s0 : Int} {w : CW} (rs0 : zr s0) (h : pC_X21_has_33 p (wpC p d) (fun v w => Γ.Q (.inl (some (ai v))) w) x0 x1 s0 w) : ZV Γ w 33 [(0, ar x0), (1, ar x1)] [ai s0] := by
  refine zc_wk G hp (fun hw tw => ?_)
  refine zv_istore_n G rfl (by decide) rfl dX21_has_33 ?_
  refine zv_iconst (a := 0) G (by decide) dX21_has_34 ?_
  refine zv_istore_n G rfl (by decide) rfl dX21_has_35 ?_
  exact zv_pick [0, 1, 2, 3] rfl (cpC_X21_has_36 hp G M S hl hk rs0 (zr_k 0 (by decide) (by decide)) h)
set_option maxHeartbeats 4000000 in
set_option maxRecDepth 100000 in
theorem cpC_X21_has_32 {Γ : ZG CW} {D : CD} {d p : Nat} (hp : D.K.1 = p) (G : ZOk Γ cX21_has RX21 4 (KnC D) (ZC D)) (M : ZRm Γ (d + 1) D.lim (Option.some Jvm.ClassFile.FieldType.boolean) "has" []) (S : SdC d D p Γ.l) (hl : Γ.l.stackTraces = false) (hk : 0 ≤ d) {x0 : Nat} {x1 : Nat} {w : CW} (h : pC_X21_has_32 p (wpC p d) (fun v w => Γ.Q (.inl (some (ai v))) w) x0 x1 w) : ZV Γ w 32 [(0, ar x0), (1, ar x1)] [] := by
  refine zc_wk G hp (fun hw tw => ?_)
  refine zv_iconst (a := 0) G (by decide) dX21_has_32 ?_
  exact zv_pick [0, 1] rfl (cpC_X21_has_33 hp G M S hl hk (zr_k 0 (by decide) (by decide)) h)
set_option maxHeartbeats 4000000 in
set_option maxRecDepth 100000 in
theorem cpC_X21_has_28 {Γ : ZG CW} {D : CD} {d p : Nat} (hp : D.K.1 = p) (G : ZOk Γ cX21_has RX21 4 (KnC D) (ZC D)) (M : ZRm Γ (d + 1) D.lim (Option.some Jvm.ClassFile.FieldType.boolean) "has" []) (S : SdC d D p Γ.l) (hl : Γ.l.stackTraces = false) (hk : 0 ≤ d) {x0 : Nat} {x1 : Nat} {w : CW} (h : pC_X21_has_28 p (wpC p d) (fun v w => Γ.Q (.inl (some (ai v))) w) x0 x1 w) : ZV Γ w 28 [(0, ar x0), (1, ar x1)] [] := by
  refine zc_wk G hp (fun hw tw => ?_)
  refine zv_iconst (a := 1) G (by decide) dX21_has_28 ?_
  refine zv_goto (tgt := 33) G (by decide) dX21_has_29 ?_
  exact zv_pick [0, 1] rfl (cpC_X21_has_33 hp G M S hl hk (zr_k 1 (by decide) (by decide)) h)
set_option maxHeartbeats 4000000 in
set_option maxRecDepth 100000 in
theorem cpC_X21_has_16 {Γ : ZG CW} {D : CD} {d p : Nat} (hp : D.K.1 = p) (G : ZOk Γ cX21_has RX21 4 (KnC D) (ZC D)) (M : ZRm Γ (d + 1) D.lim (Option.some Jvm.ClassFile.FieldType.boolean) "has" []) (S : SdC d D p Γ.l) (hl : Γ.l.stackTraces = false) (hk : 0 ≤ d) {x0 : Nat} {x1 : Nat} {w : CW} (h : pC_X21_has_16 p (wpC p d) (fun v w => Γ.Q (.inl (some (ai v))) w) x0 x1 w) : ZV Γ w 16 [(0, ar x0), (1, ar x1)] [] := by
  refine zc_wk G hp (fun hw tw => ?_)
  refine zv_aload_n G rfl rfl dX21_has_16 ?_
  refine zv_ifnull (tgt := 32) G (by decide) dX21_has_17 (fun c4 => ?_) (fun c4 => ?_)
  · have h := h.1 c4
    exact zv_pick [0, 1] rfl (cpC_X21_has_32 hp G M S hl hk h)
  · have h := h.2 c4
    refine zv_aload_n G rfl rfl dX21_has_20 ?_
    have kj22 : ∀ (v20 : Nat) (u19 : CW), (
        (v20 = x1 →
          pC_X21_has_28 p (wpC p d) (fun v w => Γ.Q (.inl (some (ai v))) w) x0 x1 u19) ∧
        (¬ (v20 = x1) →
          pC_X21_has_32 p (wpC p d) (fun v w => Γ.Q (.inl (some (ai v))) w) x0 x1 u19)) → ZV Γ u19 24 [(0, ar x0), (1, ar x1)] [ar v20] := by
      intro v20 u19 h
      refine zc_wk G hp (fun hu19 tu19 => ?_)
      refine zv_aload_n G rfl rfl dX21_has_24 ?_
      refine zv_acmp_ne (tgt := 32) G (by decide) dX21_has_25 (fun c21 => ?_) (fun c21 => ?_)
      · have h := h.2 c21
        exact zv_pick [0, 1] rfl (cpC_X21_has_32 hp G M S hl hk h)
      · have h := h.1 c21
        exact zv_pick [0, 1] rfl (cpC_X21_has_28 hp G M S hl hk h)
    have h : wpC p d (vm3 (tg w x0)) [ar x0] w _ := h
    by_cases c23 : tg w x0 = 19
    · have e : vm3 (tg w x0) = 157 := by rw [c23]; rfl
      rw [e] at h
      exact zv_callR (as := [ar x0]) (st := []) G M (zc_eV (C := zcn 19) G q1683 q1638 q1647 (Or.inl ⟨rfl, rfl⟩) q1649 md_X21_rule (zc_rc G (zne tw c23 (by decide)) c23 (by decide) (by decide) rfl) rfl dX21_has_21) (S 157 _ rfl _ _ _ h (zoks_cons trivial zoks_nil)) (Or.inl ⟨rfl, rfl⟩) (zc_hk q1649 q177) (by decide) (Nat.le_of_ble_eq_true rfl) kj22 (fun _ _ h => h.elim)
    by_cases c24 : tg w x0 = 20
    · have e : vm3 (tg w x0) = 164 := by rw [c24]; rfl
      rw [e] at h
      exact zv_callR (as := [ar x0]) (st := []) G M (zc_eU (C := zcn 20) G q1683 q1639 (zc_declC G q1638 q1649) ⟨by decide, by decide⟩ q1640 q1641 md_X21_rule (zc_rc G (zne tw c24 (by decide)) c24 (by decide) (by decide) rfl) rfl dX21_has_21) (S 164 _ rfl _ _ _ h (zoks_cons trivial zoks_nil)) (Or.inl ⟨rfl, rfl⟩) (zc_hk q1642 q179) (by decide) (Nat.le_of_ble_eq_true rfl) kj22 (fun _ _ h => h.elim)
    by_cases c25 : tg w x0 = 21
    · have e : vm3 (tg w x0) = 164 := by rw [c25]; rfl
      rw [e] at h
      exact zv_callR (as := [ar x0]) (st := []) G M (zc_eU (C := zcn 21) G q1683 q1639 (zc_declC G q1638 q1649) ⟨by decide, by decide⟩ q1643 q1641 md_X21_rule (zc_rc G (zne tw c25 (by decide)) c25 (by decide) (by decide) rfl) rfl dX21_has_21) (S 164 _ rfl _ _ _ h (zoks_cons trivial zoks_nil)) (Or.inl ⟨rfl, rfl⟩) (zc_hk q1642 q179) (by decide) (Nat.le_of_ble_eq_true rfl) kj22 (fun _ _ h => h.elim)
    by_cases c26 : tg w x0 = 22
    · have e : vm3 (tg w x0) = 157 := by rw [c26]; rfl
      rw [e] at h
      exact zv_callR (as := [ar x0]) (st := []) G M (zc_eV (C := zcn 22) G q1683 q1638 q1644 (Or.inl ⟨rfl, rfl⟩) q1649 md_X21_rule (zc_rc G (zne tw c26 (by decide)) c26 (by decide) (by decide) rfl) rfl dX21_has_21) (S 157 _ rfl _ _ _ h (zoks_cons trivial zoks_nil)) (Or.inl ⟨rfl, rfl⟩) (zc_hk q1649 q177) (by decide) (Nat.le_of_ble_eq_true rfl) kj22 (fun _ _ h => h.elim)
    by_cases c27 : tg w x0 = 23
    · have e : vm3 (tg w x0) = 157 := by rw [c27]; rfl
      rw [e] at h
      exact zv_callR (as := [ar x0]) (st := []) G M (zc_eV (C := zcn 23) G q1683 q1638 q1646 (Or.inl ⟨rfl, rfl⟩) q1649 md_X21_rule (zc_rc G (zne tw c27 (by decide)) c27 (by decide) (by decide) rfl) rfl dX21_has_21) (S 157 _ rfl _ _ _ h (zoks_cons trivial zoks_nil)) (Or.inl ⟨rfl, rfl⟩) (zc_hk q1649 q177) (by decide) (Nat.le_of_ble_eq_true rfl) kj22 (fun _ _ h => h.elim)
    by_cases c28 : tg w x0 = 24
    · have e : vm3 (tg w x0) = 157 := by rw [c28]; rfl
      rw [e] at h
      exact zv_callR (as := [ar x0]) (st := []) G M (zc_eV (C := zcn 24) G q1683 q1638 q1645 (Or.inl ⟨rfl, rfl⟩) q1649 md_X21_rule (zc_rc G (zne tw c28 (by decide)) c28 (by decide) (by decide) rfl) rfl dX21_has_21) (S 157 _ rfl _ _ _ h (zoks_cons trivial zoks_nil)) (Or.inl ⟨rfl, rfl⟩) (zc_hk q1649 q177) (by decide) (Nat.le_of_ble_eq_true rfl) kj22 (fun _ _ h => h.elim)
    by_cases c29 : tg w x0 = 25
    · have e : vm3 (tg w x0) = 157 := by rw [c29]; rfl
      rw [e] at h
      exact zv_callR (as := [ar x0]) (st := []) G M (zc_eV (C := zcn 25) G q1683 q1638 q1648 (Or.inl ⟨rfl, rfl⟩) q1649 md_X21_rule (zc_rc G (zne tw c29 (by decide)) c29 (by decide) (by decide) rfl) rfl dX21_has_21) (S 157 _ rfl _ _ _ h (zoks_cons trivial zoks_nil)) (Or.inl ⟨rfl, rfl⟩) (zc_hk q1649 q177) (by decide) (Nat.le_of_ble_eq_true rfl) kj22 (fun _ _ h => h.elim)
    have e : vm3 (tg w x0) = 9999 := by unfold vm3; rw [if_neg c23, if_neg c24, if_neg c25, if_neg c26, if_neg c27, if_neg c28, if_neg c29]
    rw [e] at h
    exact (wpC_none h).elim
set_option maxHeartbeats 4000000 in
set_option maxRecDepth 100000 in
theorem cpC_X21_has_0 {Γ : ZG CW} {D : CD} {d p : Nat} (hp : D.K.1 = p) (G : ZOk Γ cX21_has RX21 4 (KnC D) (ZC D)) (M : ZRm Γ (d + 1) D.lim (Option.some Jvm.ClassFile.FieldType.boolean) "has" []) (S : SdC d D p Γ.l) (hl : Γ.l.stackTraces = false) (hk : 0 ≤ d) {x0 : Nat} {x1 : Nat} {w : CW} (h : pC_X21_has_0 p (wpC p d) (fun v w => Γ.Q (.inl (some (ai v))) w) x0 x1 w) : ZV Γ w 0 [(0, ar x0), (1, ar x1)] [] := by
  refine zc_wk G hp (fun hw tw => ?_)
  refine zv_aload_n G rfl rfl dX21_has_0 ?_
  have kj35 : ∀ (v2 : Nat) (u1 : CW), (
      ((v2 = x1 → (hF 107 (tg u1 x0) = true) ∧ (101 ≤ tg u1 (fR u1 107 x0) ∧ tg u1 (fR u1 107 x0) ≤ 119 ∧ (tg u1 (fR u1 107 x0) < 107 ∨ 111 ≤ tg u1 (fR u1 107 x0))))) ∧
      (¬ (v2 = x1) ∨ (¬ (((ln u1 (fR u1 107 x0) : Nat) : Int) = 0)) →
        pC_X21_has_16 p (wpC p d) (fun v w => Γ.Q (.inl (some (ai v))) w) x0 x1 u1) ∧
      (¬ (¬ (v2 = x1) ∨ (¬ (((ln u1 (fR u1 107 x0) : Nat) : Int) = 0))) →
        pC_X21_has_28 p (wpC p d) (fun v w => Γ.Q (.inl (some (ai v))) w) x0 x1 u1)) → ZV Γ u1 4 [(0, ar x0), (1, ar x1)] [ar v2] := by
    intro v2 u1 h
    refine zc_wk G hp (fun hu1 tu1 => ?_)
    refine zv_aload_n G rfl rfl dX21_has_4 ?_
    have o3 := h.1
    have h := h.2
    have kt30 : ¬ (v2 = x1) ∨ (¬ (((ln u1 (fR u1 107 x0) : Nat) : Int) = 0)) → ZV Γ u1 16 [(0, ar x0), (1, ar x1)] [] := by
      intro c32
      have h := h.1 c32
      exact zv_pick [0, 1] rfl (cpC_X21_has_16 hp G M S hl hk h)
    have kf31 : ¬ (¬ (v2 = x1) ∨ (¬ (((ln u1 (fR u1 107 x0) : Nat) : Int) = 0))) → ZV Γ u1 28 [(0, ar x0), (1, ar x1)] [] := by
      intro c32
      have h := h.2 c32
      exact zv_pick [0, 1] rfl (cpC_X21_has_28 hp G M S hl hk h)
    refine zv_acmp_ne (tgt := 16) G (by decide) dX21_has_5 (fun c33 => ?_) (fun c33 => ?_)
    · exact kt30 (Or.inl c33)
    · refine zv_aload_n G rfl rfl dX21_has_8 ?_
      refine zc_get (f := 107) (v := ar (fR u1 107 x0)) G (o3 c33).1 rfl q1345 (Or.inl rfl) (cV_R rfl) dX21_has_9 ?_
      refine zc_alen G (o3 c33).2 dX21_has_12 ?_
      refine zv_if_eq (tgt := 28) G (zc_lnr hu1 _) (by decide) dX21_has_13 (fun c34 => ?_) (fun c34 => ?_)
      · exact kf31 (fun q => q.elim (fun z => z c33) (fun q => q c34))
      · exact kt30 (Or.inr c34)
  have h : wpC p d (vm3 (tg w x0)) [ar x0] w _ := h
  by_cases c36 : tg w x0 = 19
  · have e : vm3 (tg w x0) = 157 := by rw [c36]; rfl
    rw [e] at h
    exact zv_callR (as := [ar x0]) (st := []) G M (zc_eV (C := zcn 19) G q1683 q1638 q1647 (Or.inl ⟨rfl, rfl⟩) q1649 md_X21_rule (zc_rc G (zne tw c36 (by decide)) c36 (by decide) (by decide) rfl) rfl dX21_has_1) (S 157 _ rfl _ _ _ h (zoks_cons trivial zoks_nil)) (Or.inl ⟨rfl, rfl⟩) (zc_hk q1649 q177) (by decide) (Nat.le_of_ble_eq_true rfl) kj35 (fun _ _ h => h.elim)
  by_cases c37 : tg w x0 = 20
  · have e : vm3 (tg w x0) = 164 := by rw [c37]; rfl
    rw [e] at h
    exact zv_callR (as := [ar x0]) (st := []) G M (zc_eU (C := zcn 20) G q1683 q1639 (zc_declC G q1638 q1649) ⟨by decide, by decide⟩ q1640 q1641 md_X21_rule (zc_rc G (zne tw c37 (by decide)) c37 (by decide) (by decide) rfl) rfl dX21_has_1) (S 164 _ rfl _ _ _ h (zoks_cons trivial zoks_nil)) (Or.inl ⟨rfl, rfl⟩) (zc_hk q1642 q179) (by decide) (Nat.le_of_ble_eq_true rfl) kj35 (fun _ _ h => h.elim)
  by_cases c38 : tg w x0 = 21
  · have e : vm3 (tg w x0) = 164 := by rw [c38]; rfl
    rw [e] at h
    exact zv_callR (as := [ar x0]) (st := []) G M (zc_eU (C := zcn 21) G q1683 q1639 (zc_declC G q1638 q1649) ⟨by decide, by decide⟩ q1643 q1641 md_X21_rule (zc_rc G (zne tw c38 (by decide)) c38 (by decide) (by decide) rfl) rfl dX21_has_1) (S 164 _ rfl _ _ _ h (zoks_cons trivial zoks_nil)) (Or.inl ⟨rfl, rfl⟩) (zc_hk q1642 q179) (by decide) (Nat.le_of_ble_eq_true rfl) kj35 (fun _ _ h => h.elim)
  by_cases c39 : tg w x0 = 22
  · have e : vm3 (tg w x0) = 157 := by rw [c39]; rfl
    rw [e] at h
    exact zv_callR (as := [ar x0]) (st := []) G M (zc_eV (C := zcn 22) G q1683 q1638 q1644 (Or.inl ⟨rfl, rfl⟩) q1649 md_X21_rule (zc_rc G (zne tw c39 (by decide)) c39 (by decide) (by decide) rfl) rfl dX21_has_1) (S 157 _ rfl _ _ _ h (zoks_cons trivial zoks_nil)) (Or.inl ⟨rfl, rfl⟩) (zc_hk q1649 q177) (by decide) (Nat.le_of_ble_eq_true rfl) kj35 (fun _ _ h => h.elim)
  by_cases c40 : tg w x0 = 23
  · have e : vm3 (tg w x0) = 157 := by rw [c40]; rfl
    rw [e] at h
    exact zv_callR (as := [ar x0]) (st := []) G M (zc_eV (C := zcn 23) G q1683 q1638 q1646 (Or.inl ⟨rfl, rfl⟩) q1649 md_X21_rule (zc_rc G (zne tw c40 (by decide)) c40 (by decide) (by decide) rfl) rfl dX21_has_1) (S 157 _ rfl _ _ _ h (zoks_cons trivial zoks_nil)) (Or.inl ⟨rfl, rfl⟩) (zc_hk q1649 q177) (by decide) (Nat.le_of_ble_eq_true rfl) kj35 (fun _ _ h => h.elim)
  by_cases c41 : tg w x0 = 24
  · have e : vm3 (tg w x0) = 157 := by rw [c41]; rfl
    rw [e] at h
    exact zv_callR (as := [ar x0]) (st := []) G M (zc_eV (C := zcn 24) G q1683 q1638 q1645 (Or.inl ⟨rfl, rfl⟩) q1649 md_X21_rule (zc_rc G (zne tw c41 (by decide)) c41 (by decide) (by decide) rfl) rfl dX21_has_1) (S 157 _ rfl _ _ _ h (zoks_cons trivial zoks_nil)) (Or.inl ⟨rfl, rfl⟩) (zc_hk q1649 q177) (by decide) (Nat.le_of_ble_eq_true rfl) kj35 (fun _ _ h => h.elim)
  by_cases c42 : tg w x0 = 25
  · have e : vm3 (tg w x0) = 157 := by rw [c42]; rfl
    rw [e] at h
    exact zv_callR (as := [ar x0]) (st := []) G M (zc_eV (C := zcn 25) G q1683 q1638 q1648 (Or.inl ⟨rfl, rfl⟩) q1649 md_X21_rule (zc_rc G (zne tw c42 (by decide)) c42 (by decide) (by decide) rfl) rfl dX21_has_1) (S 157 _ rfl _ _ _ h (zoks_cons trivial zoks_nil)) (Or.inl ⟨rfl, rfl⟩) (zc_hk q1649 q177) (by decide) (Nat.le_of_ble_eq_true rfl) kj35 (fun _ _ h => h.elim)
  have e : vm3 (tg w x0) = 9999 := by unfold vm3; rw [if_neg c36, if_neg c37, if_neg c38, if_neg c39, if_neg c40, if_neg c41, if_neg c42]
  rw [e] at h
  exact (wpC_none h).elim
set_option maxHeartbeats 4000000 in
set_option maxRecDepth 100000 in
theorem cpC_X21_go_0 {Γ : ZG CW} {D : CD} {d p : Nat} (hp : D.K.1 = p) (G : ZOk Γ cX21_go RX21 2 (KnC D) (ZC D)) (M : ZRm Γ (d + 1) D.lim (Option.some (Jvm.ClassFile.FieldType.object "LetterPost$Node")) "go" []) (S : SdC d D p Γ.l) (hl : Γ.l.stackTraces = false) (hk : 0 ≤ d) {w : CW} (h : pC_X21_go_0 p (wpC p d) (fun v w => Γ.Q (.inl (some (ar v))) w) w) : ZV Γ w 0 [] [] := by
  refine zc_wk G hp (fun hw tw => ?_)
  refine zv_null G dX21_go_0 ?_
  exact zv_aret G M (Or.inl ⟨_, rfl⟩) dX21_go_1 h
set_option maxHeartbeats 4000000 in
set_option maxRecDepth 100000 in
theorem cpC_X22_init_0 {Γ : ZG CW} {D : CD} {d p : Nat} (hp : D.K.1 = p) (G : ZOk Γ cX22_init RX22 2 (KnC D) (ZC D)) (M : ZRm Γ (d + 1) D.lim (Option.none : Option Jvm.ClassFile.FieldType) "<init>" []) (S : SdC d D p Γ.l) (hl : Γ.l.stackTraces = false) (hk : 0 ≤ d) {x0 : Nat} {x1 : Int} {w : CW} (rx1 : zr x1) (h : pC_X22_init_0 p (wpC p d) (fun w => Γ.Q (.inl none) w) x0 x1 w) : ZV Γ w 0 [(0, ar x0), (1, ai x1)] [] := by
  refine zc_wk G hp (fun hw tw => ?_)
  refine zv_aload_n G rfl rfl dX22_init_0 ?_
  refine zv_iload_n G rfl rfl dX22_init_1 ?_
  have o3 := h.1
  have h := h.2
  refine zv_callV (as := [ar x0, ai x1]) (st := []) G M (zc_eI G rfl q1337 q1338 q1339 md_X21_init o3 rfl dX22_init_2) (S 152 _ rfl _ _ _ h (zoks_cons trivial (zoks_cons rx1 zoks_nil))) (Or.inl ⟨rfl, rfl⟩) (zc_hk q1339 q177) (by decide) (Nat.le_of_ble_eq_true rfl) (fun u1 h => ?_) (fun _ _ h => h.elim)
  refine zc_wk G hp (fun hu1 tu1 => ?_)
  exact zv_vret G M dX22_init_5 h
set_option maxHeartbeats 4000000 in
set_option maxRecDepth 100000 in
theorem cpC_X23_init_0 {Γ : ZG CW} {D : CD} {d p : Nat} (hp : D.K.1 = p) (G : ZOk Γ cX23_init RX23 3 (KnC D) (ZC D)) (M : ZRm Γ (d + 1) D.lim (Option.none : Option Jvm.ClassFile.FieldType) "<init>" []) (S : SdC d D p Γ.l) (hl : Γ.l.stackTraces = false) (hk : 0 ≤ d) {x0 : Nat} {x1 : Int} {x2 : Nat} {w : CW} (rx1 : zr x1) (h : pC_X23_init_0 p (wpC p d) (fun w => Γ.Q (.inl none) w) x0 x1 x2 w) : ZV Γ w 0 [(0, ar x0), (1, ai x1), (2, ar x2)] [] := by
  refine zc_wk G hp (fun hw tw => ?_)
  refine zv_aload_n G rfl rfl dX23_init_0 ?_
  refine zv_iload_n G rfl rfl dX23_init_1 ?_
  have o5 := h.1
  have h := h.2
  refine zv_callV (as := [ar x0, ai x1]) (st := []) G M (zc_eI G rfl q1384 q1338 q1339 md_X21_init o5 rfl dX23_init_2) (S 152 _ rfl _ _ _ h (zoks_cons trivial (zoks_cons rx1 zoks_nil))) (Or.inl ⟨rfl, rfl⟩) (zc_hk q1339 q177) (by decide) (Nat.le_of_ble_eq_true rfl) (fun u1 h => ?_) (fun _ _ h => h.elim)
  refine zc_wk G hp (fun hu1 tu1 => ?_)
  refine zv_aload_n G rfl rfl dX23_init_5 ?_
  refine zv_aload_n G rfl rfl dX23_init_6 ?_
  have o4 := h.1
  have h := h.2
  refine zc_putR (f := 108) G M o4 rfl q1385 (Or.inl rfl) (Or.inr ⟨rfl, rfl, rfl⟩) (zfty_108) (Or.inl ⟨_, rfl⟩) rfl dX23_init_7 (fun u3 eu3 => ?_)
  have h := h u3 eu3
  refine zc_wk G hp (fun hu3 tu3 => ?_)
  exact zv_vret G M dX23_init_10 h
set_option maxHeartbeats 4000000 in
set_option maxRecDepth 100000 in
theorem cpC_X23_what_0 {Γ : ZG CW} {D : CD} {d p : Nat} (hp : D.K.1 = p) (G : ZOk Γ cX23_what RX23 1 (KnC D) (ZC D)) (M : ZRm Γ (d + 1) D.lim (Option.some Jvm.ClassFile.FieldType.int) "what" []) (S : SdC d D p Γ.l) (hl : Γ.l.stackTraces = false) (hk : 0 ≤ d) {w : CW} (h : pC_X23_what_0 p (wpC p d) (fun v w => Γ.Q (.inl (some (ai v))) w) w) : ZV Γ w 0 [] [] := by
  refine zc_wk G hp (fun hw tw => ?_)
  refine zv_iconst (a := 1) G (by decide) dX23_what_0 ?_
  exact zv_iret (ty := .int) (zr_k 1 (by decide) (by decide)) G M rfl dX23_what_1 h
set_option maxHeartbeats 4000000 in
set_option maxRecDepth 100000 in
theorem cpC_X23_rule_0 {Γ : ZG CW} {D : CD} {d p : Nat} (hp : D.K.1 = p) (G : ZOk Γ cX23_rule RX23 1 (KnC D) (ZC D)) (M : ZRm Γ (d + 1) D.lim (Option.some (Jvm.ClassFile.FieldType.object "LetterPost$Rule")) "rule" []) (S : SdC d D p Γ.l) (hl : Γ.l.stackTraces = false) (hk : 0 ≤ d) {x0 : Nat} {w : CW} (h : pC_X23_rule_0 p (wpC p d) (fun v w => Γ.Q (.inl (some (ar v))) w) x0 w) : ZV Γ w 0 [(0, ar x0)] [] := by
  refine zc_wk G hp (fun hw tw => ?_)
  refine zv_aload_n G rfl rfl dX23_rule_0 ?_
  have o1 := h.1
  have h := h.2
  refine zc_get (f := 108) (v := ar (fR w 108 x0)) G o1 rfl q1385 (Or.inl rfl) (cV_R rfl) dX23_rule_1 ?_
  have o2 := h.1
  have h := h.2
  refine zc_get (f := 80) (v := ar (fR w 80 (fR w 108 x0))) G o2 rfl q1103 (Or.inl rfl) (cV_R rfl) dX23_rule_4 ?_
  exact zv_aret G M (Or.inl ⟨_, rfl⟩) dX23_rule_7 h
set_option maxHeartbeats 4000000 in
set_option maxRecDepth 100000 in
theorem cpC_X23_binds_46 {Γ : ZG CW} {D : CD} {d p : Nat} (hp : D.K.1 = p) (G : ZOk Γ cX23_binds RX23 4 (KnC D) (ZC D)) (M : ZRm Γ (d + 1) D.lim (Option.none : Option Jvm.ClassFile.FieldType) "binds" []) (S : SdC d D p Γ.l) (hl : Γ.l.stackTraces = false) (hk : 0 ≤ d) {w : CW} (h : pC_X23_binds_46 p (wpC p d) (fun w => Γ.Q (.inl none) w) w) : ZV Γ w 46 [] [] := by
  refine zc_wk G hp (fun hw tw => ?_)
  exact zv_vret G M dX23_binds_46 h
set_option maxHeartbeats 4000000 in
set_option maxRecDepth 100000 in
theorem cpC_X23_binds_39 {Γ : ZG CW} {D : CD} {d p : Nat} (hp : D.K.1 = p) (G : ZOk Γ cX23_binds RX23 4 (KnC D) (ZC D)) (M : ZRm Γ (d + 1) D.lim (Option.none : Option Jvm.ClassFile.FieldType) "binds" []) (S : SdC d D p Γ.l) (hl : Γ.l.stackTraces = false) (hk : 0 ≤ d) {I2 : Int → CW → Prop} {x0 : Nat} {x1 : Nat} {x2 : Nat} {x3 : Int} {s0 : Nat} {s1 : Int} {s2 : Nat} {w : CW} (hI2 : ∀ (x3 : Int) (w : CW), I2 x3 w → zr x3 → ZV Γ w 2 [(0, ar x0), (1, ar x1), (2, ar x2), (3, ai x3)] []) (rx3 : zr x3) (rs1 : zr s1) (h : pC_X23_binds_39 p (wpC p d) (fun w => Γ.Q (.inl none) w) I2 x0 x1 x2 x3 s0 s1 s2 w) : ZV Γ w 39 [(0, ar x0), (1, ar x1), (2, ar x2), (3, ai x3)] [ar s0, ai s1, ar s2] := by
  refine zc_wk G hp (fun hw tw => ?_)
  have o12 := h.1
  have h := h.2
  have o13 := h.1
  have h := h.2
  refine zc_aast G o12.1 o13 rs1 o12.2.1 o12.2.2 dX23_binds_39 (fun u11 eu11 => ?_)
  have h := h u11 eu11
  refine zc_wk G hp (fun hu11 tu11 => ?_)
  refine zv_iincN G rfl (by decide) dX23_binds_40 (fun x3_14 ex3_14 => ?_)
  have h := h x3_14 ex3_14
  have rx3_14 : zr x3_14 := by rw [ex3_14]; exact w32_r _
  refine zv_goto (tgt := 2) G (by decide) dX23_binds_43 ?_
  exact zv_pick [0, 1, 2, 3] rfl (hI2 _ _ h rx3_14)
set_option maxHeartbeats 4000000 in
set_option maxRecDepth 100000 in
theorem cpC_X23_binds_2 {Γ : ZG CW} {D : CD} {d p : Nat} (hp : D.K.1 = p) (G : ZOk Γ cX23_binds RX23 4 (KnC D) (ZC D)) (M : ZRm Γ (d + 1) D.lim (Option.none : Option Jvm.ClassFile.FieldType) "binds" []) (S : SdC d D p Γ.l) (hl : Γ.l.stackTraces = false) (hk : 0 ≤ d) {x0 : Nat} {x1 : Nat} {x2 : Nat} {x3 : Int} {w : CW} (rx3 : zr x3) (h : pC_X23_binds_2 p (wpC p d) (fun w => Γ.Q (.inl none) w) x0 x1 x2 x3 w) : ZV Γ w 2 [(0, ar x0), (1, ar x1), (2, ar x2), (3, ai x3)] [] := by
  obtain ⟨I2, eI2⟩ : ∃ I : Int → CW → Prop, I = (fun x3 w => zr x3 → ZV Γ w 2 [(0, ar x0), (1, ar x1), (2, ar x2), (3, ai x3)] []) := ⟨_, rfl⟩
  have hI2 : ∀ (x3 : Int) (w : CW), I2 x3 w → zr x3 → ZV Γ w 2 [(0, ar x0), (1, ar x1), (2, ar x2), (3, ai x3)] [] := by subst eI2; exact fun _ _ z => z
  have hJ2 : ∀ (x3 : Int) (w : CW), (zr x3 → ZV Γ w 2 [(0, ar x0), (1, ar x1), (2, ar x2), (3, ai x3)] []) → I2 x3 w := by subst eI2; exact fun _ _ z => z
  refine hI2 x3 w (h I2 (fun x3 w h => hJ2 x3 w (fun rx3 => ?_))) rx3
  refine zc_wk G hp (fun hw tw => ?_)
  refine zv_iload_n G rfl rfl dX23_binds_2 ?_
  refine zv_bipush (a := 8) G (by decide) dX23_binds_3 ?_
  refine zv_icmp_ge (tgt := 46) G rx3 (zr_k 8 (by decide) (by decide)) (by decide) dX23_binds_5 (fun c1 => ?_) (fun c1 => ?_)
  · have h := h.1 c1
    exact zv_pick [] rfl (cpC_X23_binds_46 hp G M S hl hk h)
  · have h := h.2 c1
    refine zv_aload_n G rfl rfl dX23_binds_8 ?_
    refine zv_iload_n G rfl rfl dX23_binds_9 ?_
    refine zv_aload_n G rfl rfl dX23_binds_10 ?_
    have o2 := h.1
    have h := h.2
    refine zc_get (f := 108) (v := ar (fR w 108 x0)) G o2 rfl q1385 (Or.inl rfl) (cV_R rfl) dX23_binds_11 ?_
    have o3 := h.1
    have h := h.2
    refine zc_get (f := 84) (v := ar (fR w 84 (fR w 108 x0))) G o3 rfl q1111 (Or.inl rfl) (cV_R rfl) dX23_binds_14 ?_
    refine zv_iload_n G rfl rfl dX23_binds_17 ?_
    have o4 := h.1
    have h := h.2
    refine zc_aald G o4.1 rx3 o4.2.1 o4.2.2 dX23_binds_18 ?_
    refine zv_ifnonnull (tgt := 26) G (by decide) dX23_binds_19 (fun c5 => ?_) (fun c5 => ?_)
    · have h := h.2 c5
      refine zv_aload_n G rfl rfl dX23_binds_26 ?_
      have o6 := h.1
      have h := h.2
      refine zc_get (f := 108) (v := ar (fR w 108 x0)) G o6 rfl q1385 (Or.inl rfl) (cV_R rfl) dX23_binds_27 ?_
      have o7 := h.1
      have h := h.2
      refine zc_get (f := 84) (v := ar (fR w 84 (fR w 108 x0))) G o7 rfl q1111 (Or.inl rfl) (cV_R rfl) dX23_binds_30 ?_
      refine zv_iload_n G rfl rfl dX23_binds_33 ?_
      have o8 := h.1
      have h := h.2
      refine zc_aald G o8.1 rx3 o8.2.1 o8.2.2 dX23_binds_34 ?_
      refine zv_aload_n G rfl rfl dX23_binds_35 ?_
      have o15 := h.1
      have h := h.2
      refine zv_callR (as := [ar (aR w (fR w 84 (fR w 108 x0)) x3), ar x1]) (st := [ai x3, ar x2]) G M (zc_eV (C := zcn 15) G q1901 q1902 q1903 (Or.inl ⟨rfl, rfl⟩) q1904 md_X17_of (zc_rc G (zne tw o15 (by decide)) o15 (by decide) (by decide) rfl) rfl dX23_binds_36) (S 131 _ rfl _ _ _ h (zoks_cons trivial (zoks_cons trivial zoks_nil))) (Or.inl ⟨rfl, rfl⟩) (zc_hk q1904 q173) (by decide) (Nat.le_of_ble_eq_true rfl) (fun v10 u9 h => ?_) (fun _ _ h => h.elim)
      refine zc_wk G hp (fun hu9 tu9 => ?_)
      exact zv_pick [0, 1, 2, 3] rfl (cpC_X23_binds_39 hp G M S hl hk hI2 rx3 rx3 h)
    · have h := h.1 c5
      refine zv_null G dX23_binds_22 ?_
      refine zv_goto (tgt := 39) G (by decide) dX23_binds_23 ?_
      exact zv_pick [0, 1, 2, 3] rfl (cpC_X23_binds_39 hp G M S hl hk hI2 rx3 rx3 h)
set_option maxHeartbeats 4000000 in
set_option maxRecDepth 100000 in
theorem cpC_X23_binds_0 {Γ : ZG CW} {D : CD} {d p : Nat} (hp : D.K.1 = p) (G : ZOk Γ cX23_binds RX23 4 (KnC D) (ZC D)) (M : ZRm Γ (d + 1) D.lim (Option.none : Option Jvm.ClassFile.FieldType) "binds" []) (S : SdC d D p Γ.l) (hl : Γ.l.stackTraces = false) (hk : 0 ≤ d) {x0 : Nat} {x1 : Nat} {x2 : Nat} {w : CW} (h : pC_X23_binds_0 p (wpC p d) (fun w => Γ.Q (.inl none) w) x0 x1 x2 w) : ZV Γ w 0 [(0, ar x0), (1, ar x1), (2, ar x2)] [] := by
  refine zc_wk G hp (fun hw tw => ?_)
  refine zv_iconst (a := 0) G (by decide) dX23_binds_0 ?_
  refine zv_istore_n G rfl (by decide) rfl dX23_binds_1 ?_
  exact zv_pick [0, 1, 2, 3] rfl (cpC_X23_binds_2 hp G M S hl hk (zr_k 0 (by decide) (by decide)) h)
set_option maxHeartbeats 4000000 in
set_option maxRecDepth 100000 in
theorem cpC_X24_init_0 {Γ : ZG CW} {D : CD} {d p : Nat} (hp : D.K.1 = p) (G : ZOk Γ cX24_init RX24 3 (KnC D) (ZC D)) (M : ZRm Γ (d + 1) D.lim (Option.none : Option Jvm.ClassFile.FieldType) "<init>" []) (S : SdC d D p Γ.l) (hl : Γ.l.stackTraces = false) (hk : 0 ≤ d) {x0 : Nat} {x1 : Int} {x2 : Nat} {w : CW} (rx1 : zr x1) (h : pC_X24_init_0 p (wpC p d) (fun w => Γ.Q (.inl none) w) x0 x1 x2 w) : ZV Γ w 0 [(0, ar x0), (1, ai x1), (2, ar x2)] [] := by
  refine zc_wk G hp (fun hw tw => ?_)
  refine zv_aload_n G rfl rfl dX24_init_0 ?_
  refine zv_iload_n G rfl rfl dX24_init_1 ?_
  refine zv_aload_n G rfl rfl dX24_init_2 ?_
  have o3 := h.1
  have h := h.2
  refine zv_callV (as := [ar x0, ai x1, ar x2]) (st := []) G M (zc_eI G rfl q1397 q1382 q1383 md_X23_init o3 rfl dX24_init_3) (S 162 _ rfl _ _ _ h (zoks_cons trivial (zoks_cons rx1 (zoks_cons trivial zoks_nil)))) (Or.inl ⟨rfl, rfl⟩) (zc_hk q1383 q179) (by decide) (Nat.le_of_ble_eq_true rfl) (fun u1 h => ?_) (fun _ _ h => h.elim)
  refine zc_wk G hp (fun hu1 tu1 => ?_)
  exact zv_vret G M dX24_init_6 h
set_option maxHeartbeats 4000000 in
set_option maxRecDepth 100000 in
theorem cpC_X24_what_0 {Γ : ZG CW} {D : CD} {d p : Nat} (hp : D.K.1 = p) (G : ZOk Γ cX24_what RX24 1 (KnC D) (ZC D)) (M : ZRm Γ (d + 1) D.lim (Option.some Jvm.ClassFile.FieldType.int) "what" []) (S : SdC d D p Γ.l) (hl : Γ.l.stackTraces = false) (hk : 0 ≤ d) {w : CW} (h : pC_X24_what_0 p (wpC p d) (fun v w => Γ.Q (.inl (some (ai v))) w) w) : ZV Γ w 0 [] [] := by
  refine zc_wk G hp (fun hw tw => ?_)
  refine zv_iconst (a := 2) G (by decide) dX24_what_0 ?_
  exact zv_iret (ty := .int) (zr_k 2 (by decide) (by decide)) G M rfl dX24_what_1 h
set_option maxHeartbeats 4000000 in
set_option maxRecDepth 100000 in
theorem cpC_X24_go_0 {Γ : ZG CW} {D : CD} {d p : Nat} (hp : D.K.1 = p) (G : ZOk Γ cX24_go RX24 2 (KnC D) (ZC D)) (M : ZRm Γ (d + 1) D.lim (Option.some (Jvm.ClassFile.FieldType.object "LetterPost$Node")) "go" []) (S : SdC d D p Γ.l) (hl : Γ.l.stackTraces = false) (hk : 0 ≤ d) {x0 : Nat} {w : CW} (h : pC_X24_go_0 p (wpC p d) (fun v w => Γ.Q (.inl (some (ar v))) w) x0 w) : ZV Γ w 0 [(0, ar x0)] [] := by
  refine zc_wk G hp (fun hw tw => ?_)
  refine zv_aload_n G rfl rfl dX24_go_0 ?_
  have o1 := h.1
  have h := h.2
  refine zc_get (f := 107) (v := ar (fR w 107 x0)) G o1 rfl q1346 (Or.inr q1347) (cV_R rfl) dX24_go_1 ?_
  refine zv_iconst (a := 0) G (by decide) dX24_go_4 ?_
  have o2 := h.1
  have h := h.2
  refine zc_aald G o2.1 (zr_k 0 (by decide) (by decide)) o2.2.1 o2.2.2 dX24_go_5 ?_
  exact zv_aret G M (Or.inl ⟨_, rfl⟩) dX24_go_6 h
set_option maxHeartbeats 4000000 in
set_option maxRecDepth 100000 in
theorem cpC_X25_init_0 {Γ : ZG CW} {D : CD} {d p : Nat} (hp : D.K.1 = p) (G : ZOk Γ cX25_init RX25 3 (KnC D) (ZC D)) (M : ZRm Γ (d + 1) D.lim (Option.none : Option Jvm.ClassFile.FieldType) "<init>" []) (S : SdC d D p Γ.l) (hl : Γ.l.stackTraces = false) (hk : 0 ≤ d) {x0 : Nat} {x1 : Int} {x2 : Nat} {w : CW} (rx1 : zr x1) (h : pC_X25_init_0 p (wpC p d) (fun w => Γ.Q (.inl none) w) x0 x1 x2 w) : ZV Γ w 0 [(0, ar x0), (1, ai x1), (2, ar x2)] [] := by
  refine zc_wk G hp (fun hw tw => ?_)
  refine zv_aload_n G rfl rfl dX25_init_0 ?_
  refine zv_iload_n G rfl rfl dX25_init_1 ?_
  have o5 := h.1
  have h := h.2
  refine zv_callV (as := [ar x0, ai x1]) (st := []) G M (zc_eI G rfl q1458 q1338 q1339 md_X21_init o5 rfl dX25_init_2) (S 152 _ rfl _ _ _ h (zoks_cons trivial (zoks_cons rx1 zoks_nil))) (Or.inl ⟨rfl, rfl⟩) (zc_hk q1339 q177) (by decide) (Nat.le_of_ble_eq_true rfl) (fun u1 h => ?_) (fun _ _ h => h.elim)
  refine zc_wk G hp (fun hu1 tu1 => ?_)
  refine zv_aload_n G rfl rfl dX25_init_5 ?_
  refine zv_aload_n G rfl rfl dX25_init_6 ?_
  have o4 := h.1
  have h := h.2
  refine zc_putR (f := 109) G M o4 rfl q1461 (Or.inl rfl) (Or.inr ⟨rfl, rfl, rfl⟩) (zfty_109) (Or.inl ⟨_, rfl⟩) rfl dX25_init_7 (fun u3 eu3 => ?_)
  have h := h u3 eu3
  refine zc_wk G hp (fun hu3 tu3 => ?_)
  exact zv_vret G M dX25_init_10 h
set_option maxHeartbeats 4000000 in
set_option maxRecDepth 100000 in
theorem cpC_X25_place_0 {Γ : ZG CW} {D : CD} {d p : Nat} (hp : D.K.1 = p) (G : ZOk Γ cX25_place RX25 1 (KnC D) (ZC D)) (M : ZRm Γ (d + 1) D.lim (Option.some (Jvm.ClassFile.FieldType.object "LetterPost$Place")) "place" []) (S : SdC d D p Γ.l) (hl : Γ.l.stackTraces = false) (hk : 0 ≤ d) {x0 : Nat} {w : CW} (h : pC_X25_place_0 p (wpC p d) (fun v w => Γ.Q (.inl (some (ar v))) w) x0 w) : ZV Γ w 0 [(0, ar x0)] [] := by
  refine zc_wk G hp (fun hw tw => ?_)
  refine zv_aload_n G rfl rfl dX25_place_0 ?_
  have o1 := h.1
  have h := h.2
  refine zc_get (f := 109) (v := ar (fR w 109 x0)) G o1 rfl q1461 (Or.inl rfl) (cV_R rfl) dX25_place_1 ?_
  exact zv_aret G M (Or.inl ⟨_, rfl⟩) dX25_place_4 h
set_option maxHeartbeats 4000000 in
set_option maxRecDepth 100000 in
theorem cpC_X26_init_0 {Γ : ZG CW} {D : CD} {d p : Nat} (hp : D.K.1 = p) (G : ZOk Γ cX26_init RX26 4 (KnC D) (ZC D)) (M : ZRm Γ (d + 1) D.lim (Option.none : Option Jvm.ClassFile.FieldType) "<init>" []) (S : SdC d D p Γ.l) (hl : Γ.l.stackTraces = false) (hk : 0 ≤ d) {x0 : Nat} {x1 : Int} {x2 : Nat} {x3 : Nat} {w : CW} (rx1 : zr x1) (h : pC_X26_init_0 p (wpC p d) (fun w => Γ.Q (.inl none) w) x0 x1 x2 x3 w) : ZV Γ w 0 [(0, ar x0), (1, ai x1), (2, ar x2), (3, ar x3)] [] := by
  refine zc_wk G hp (fun hw tw => ?_)
  refine zv_aload_n G rfl rfl dX26_init_0 ?_
  refine zv_iload_n G rfl rfl dX26_init_1 ?_
  refine zv_aload_n G rfl rfl dX26_init_2 ?_
  have o5 := h.1
  have h := h.2
  refine zv_callV (as := [ar x0, ai x1, ar x2]) (st := []) G M (zc_eI G rfl q1455 q1456 q1457 md_X25_init o5 rfl dX26_init_3) (S 169 _ rfl _ _ _ h (zoks_cons trivial (zoks_cons rx1 (zoks_cons trivial zoks_nil)))) (Or.inl ⟨rfl, rfl⟩) (zc_hk q1457 q181) (by decide) (Nat.le_of_ble_eq_true rfl) (fun u1 h => ?_) (fun _ _ h => h.elim)
  refine zc_wk G hp (fun hu1 tu1 => ?_)
  refine zv_aload_n G rfl rfl dX26_init_6 ?_
  refine zv_aload_n G rfl rfl dX26_init_7 ?_
  have o4 := h.1
  have h := h.2
  refine zc_putR (f := 110) G M o4 rfl q1459 (Or.inl rfl) (Or.inr ⟨rfl, rfl, rfl⟩) (zfty_110) (Or.inr ⟨_, rfl⟩) rfl dX26_init_8 (fun u3 eu3 => ?_)
  have h := h u3 eu3
  refine zc_wk G hp (fun hu3 tu3 => ?_)
  exact zv_vret G M dX26_init_11 h
set_option maxHeartbeats 4000000 in
set_option maxRecDepth 100000 in
theorem cpC_X26_what_0 {Γ : ZG CW} {D : CD} {d p : Nat} (hp : D.K.1 = p) (G : ZOk Γ cX26_what RX26 1 (KnC D) (ZC D)) (M : ZRm Γ (d + 1) D.lim (Option.some Jvm.ClassFile.FieldType.int) "what" []) (S : SdC d D p Γ.l) (hl : Γ.l.stackTraces = false) (hk : 0 ≤ d) {w : CW} (h : pC_X26_what_0 p (wpC p d) (fun v w => Γ.Q (.inl (some (ai v))) w) w) : ZV Γ w 0 [] [] := by
  refine zc_wk G hp (fun hw tw => ?_)
  refine zv_iconst (a := 3) G (by decide) dX26_what_0 ?_
  exact zv_iret (ty := .int) (zr_k 3 (by decide) (by decide)) G M rfl dX26_what_1 h
set_option maxHeartbeats 4000000 in
set_option maxRecDepth 100000 in
theorem cpC_X26_go_59 {Γ : ZG CW} {D : CD} {d p : Nat} (hp : D.K.1 = p) (G : ZOk Γ cX26_go RX26 4 (KnC D) (ZC D)) (M : ZRm Γ (d + 1) D.lim (Option.some (Jvm.ClassFile.FieldType.object "LetterPost$Node")) "go" []) (S : SdC d D p Γ.l) (hl : Γ.l.stackTraces = false) (hk : 0 ≤ d) {w : CW} (h : pC_X26_go_59 p (wpC p d) (fun v w => Γ.Q (.inl (some (ar v))) w) w) : ZV Γ w 59 [] [] := by
  refine zc_wk G hp (fun hw tw => ?_)
  refine zv_null G dX26_go_59 ?_
  exact zv_aret G M (Or.inl ⟨_, rfl⟩) dX26_go_60 h
set_option maxHeartbeats 4000000 in
set_option maxRecDepth 100000 in
theorem cpC_X26_go_44 {Γ : ZG CW} {D : CD} {d p : Nat} (hp : D.K.1 = p) (G : ZOk Γ cX26_go RX26 4 (KnC D) (ZC D)) (M : ZRm Γ (d + 1) D.lim (Option.some (Jvm.ClassFile.FieldType.object "LetterPost$Node")) "go" []) (S : SdC d D p Γ.l) (hl : Γ.l.stackTraces = false) (hk : 0 ≤ d) {x0 : Nat} {x3 : Int} {w : CW} (rx3 : zr x3) (h : pC_X26_go_44 p (wpC p d) (fun v w => Γ.Q (.inl (some (ar v))) w) x0 x3 w) : ZV Γ w 44 [(0, ar x0), (3, ai x3)] [] := by
  refine zc_wk G hp (fun hw tw => ?_)
  refine zv_aload_n G rfl rfl dX26_go_44 ?_
  have o14 := h.1
  have h := h.2
  refine zc_get (f := 107) (v := ar (fR w 107 x0)) G o14 rfl q1350 (Or.inr q1351) (cV_R rfl) dX26_go_45 ?_
  refine zv_iload_n G rfl rfl dX26_go_48 ?_
  refine zv_iconst (a := 1) G (by decide) dX26_go_49 ?_
  refine zv_iadd G dX26_go_50 ?_
  have o15 := h.1
  have h := h.2
  refine zc_aald G o15.1 (w32_r _) o15.2.1 o15.2.2 dX26_go_51 ?_
  exact zv_aret G M (Or.inl ⟨_, rfl⟩) dX26_go_52 h
set_option maxHeartbeats 4000000 in
set_option maxRecDepth 100000 in
theorem cpC_X26_go_25 {Γ : ZG CW} {D : CD} {d p : Nat} (hp : D.K.1 = p) (G : ZOk Γ cX26_go RX26 4 (KnC D) (ZC D)) (M : ZRm Γ (d + 1) D.lim (Option.some (Jvm.ClassFile.FieldType.object "LetterPost$Node")) "go" []) (S : SdC d D p Γ.l) (hl : Γ.l.stackTraces = false) (hk : 0 ≤ d) {x0 : Nat} {x2 : Nat} {x3 : Int} {w : CW} (rx3 : zr x3) (h : pC_X26_go_25 p (wpC p d) (fun v w => Γ.Q (.inl (some (ar v))) w) x0 x2 x3 w) : ZV Γ w 25 [(0, ar x0), (2, ar x2), (3, ai x3)] [] := by
  obtain ⟨I25, eI25⟩ : ∃ I : Int → CW → Prop, I = (fun x3 w => zr x3 → ZV Γ w 25 [(0, ar x0), (2, ar x2), (3, ai x3)] []) := ⟨_, rfl⟩
  have hI25 : ∀ (x3 : Int) (w : CW), I25 x3 w → zr x3 → ZV Γ w 25 [(0, ar x0), (2, ar x2), (3, ai x3)] [] := by subst eI25; exact fun _ _ z => z
  have hJ25 : ∀ (x3 : Int) (w : CW), (zr x3 → ZV Γ w 25 [(0, ar x0), (2, ar x2), (3, ai x3)] []) → I25 x3 w := by subst eI25; exact fun _ _ z => z
  refine hI25 x3 w (h I25 (fun x3 w h => hJ25 x3 w (fun rx3 => ?_))) rx3
  refine zc_wk G hp (fun hw tw => ?_)
  refine zv_iload_n G rfl rfl dX26_go_25 ?_
  refine zv_aload_n G rfl rfl dX26_go_26 ?_
  have o7 := h.1
  have h := h.2
  refine zc_get (f := 110) (v := ar (fR w 110 x0)) G o7 rfl q1459 (Or.inl rfl) (cV_R rfl) dX26_go_27 ?_
  have o8 := h.1
  have h := h.2
  refine zc_alen G o8 dX26_go_30 ?_
  refine zv_icmp_ge (tgt := 59) G rx3 (zc_lnr hw _) (by decide) dX26_go_31 (fun c9 => ?_) (fun c9 => ?_)
  · have h := h.1 c9
    exact zv_pick [] rfl (cpC_X26_go_59 hp G M S hl hk h)
  · have h := h.2 c9
    refine zv_aload_n G rfl rfl dX26_go_34 ?_
    have o10 := h.1
    have h := h.2
    refine zc_get (f := 110) (v := ar (fR w 110 x0)) G o10 rfl q1459 (Or.inl rfl) (cV_R rfl) dX26_go_35 ?_
    refine zv_iload_n G rfl rfl dX26_go_38 ?_
    have o11 := h.1
    have h := h.2
    refine zc_aald G o11.1 rx3 o11.2.1 o11.2.2 dX26_go_39 ?_
    refine zv_aload_n G rfl rfl dX26_go_40 ?_
    refine zv_acmp_ne (tgt := 53) G (by decide) dX26_go_41 (fun c12 => ?_) (fun c12 => ?_)
    · have h := h.2 c12
      refine zv_iincN G rfl (by decide) dX26_go_53 (fun x3_13 ex3_13 => ?_)
      have h := h x3_13 ex3_13
      have rx3_13 : zr x3_13 := by rw [ex3_13]; exact w32_r _
      refine zv_goto (tgt := 25) G (by decide) dX26_go_56 ?_
      exact zv_pick [0, 2, 3] rfl (hI25 _ _ h rx3_13)
    · have h := h.1 c12
      exact zv_pick [0, 3] rfl (cpC_X26_go_44 hp G M S hl hk rx3 h)
set_option maxHeartbeats 4000000 in
set_option maxRecDepth 100000 in
theorem cpC_X26_go_0 {Γ : ZG CW} {D : CD} {d p : Nat} (hp : D.K.1 = p) (G : ZOk Γ cX26_go RX26 4 (KnC D) (ZC D)) (M : ZRm Γ (d + 1) D.lim (Option.some (Jvm.ClassFile.FieldType.object "LetterPost$Node")) "go" []) (S : SdC d D p Γ.l) (hl : Γ.l.stackTraces = false) (hk : 0 ≤ d) {x0 : Nat} {x1 : Nat} {w : CW} (h : pC_X26_go_0 p (wpC p d) (fun v w => Γ.Q (.inl (some (ar v))) w) x0 x1 w) : ZV Γ w 0 [(0, ar x0), (1, ar x1)] [] := by
  refine zc_wk G hp (fun hw tw => ?_)
  refine zv_aload_n G rfl rfl dX26_go_0 ?_
  have o1 := h.1
  have h := h.2
  refine zc_get (f := 109) (v := ar (fR w 109 x0)) G o1 rfl q1462 (Or.inr q1463) (cV_R rfl) dX26_go_1 ?_
  refine zv_aload_n G rfl rfl dX26_go_4 ?_
  have o24 := h.1
  have h := h.2
  refine zv_callR (as := [ar (fR w 109 x0), ar x1]) (st := []) G M (zc_eV (C := zcn 15) G q1962 q1902 q1903 (Or.inl ⟨rfl, rfl⟩) q1904 md_X17_of (zc_rc G (zne tw o24 (by decide)) o24 (by decide) (by decide) rfl) rfl dX26_go_5) (S 131 _ rfl _ _ _ h (zoks_cons trivial (zoks_cons trivial zoks_nil))) (Or.inl ⟨rfl, rfl⟩) (zc_hk q1904 q173) (by decide) (Nat.le_of_ble_eq_true rfl) (fun v3 u2 h => ?_) (fun _ _ h => h.elim)
  refine zc_wk G hp (fun hu2 tu2 => ?_)
  have kj18 : ∀ (v5 : Nat) (u4 : CW), (
      (v5 = 0 →
        (hF 107 (tg u4 x0) = true) ∧
        ((111 ≤ tg u4 (fR u4 107 x0) ∧ tg u4 (fR u4 107 x0) ≤ 119) ∧ 0 ≤ (0 : Int) ∧ (0 : Int) < ln u4 (fR u4 107 x0)) ∧
        (fun v w => Γ.Q (.inl (some (ar v))) w) (aR u4 (fR u4 107 x0) 0) u4) ∧
      (¬ (v5 = 0) →
        pC_X26_go_25 p (wpC p d) (fun v w => Γ.Q (.inl (some (ar v))) w) x0 v5 0 u4)) → ZV Γ u4 11 [(0, ar x0), (1, ar x1)] [ar v5] := by
    intro v5 u4 h
    refine zc_wk G hp (fun hu4 tu4 => ?_)
    refine zv_astore_n G rfl (by decide) rfl dX26_go_11 ?_
    refine zv_aload_n G rfl rfl dX26_go_12 ?_
    refine zv_ifnonnull (tgt := 23) G (by decide) dX26_go_13 (fun c6 => ?_) (fun c6 => ?_)
    · have h := h.2 c6
      refine zv_iconst (a := 0) G (by decide) dX26_go_23 ?_
      refine zv_istore_n G rfl (by decide) rfl dX26_go_24 ?_
      exact zv_pick [0, 2, 3] rfl (cpC_X26_go_25 hp G M S hl hk (zr_k 0 (by decide) (by decide)) h)
    · have h := h.1 c6
      refine zv_aload_n G rfl rfl dX26_go_16 ?_
      have o16 := h.1
      have h := h.2
      refine zc_get (f := 107) (v := ar (fR u4 107 x0)) G o16 rfl q1350 (Or.inr q1351) (cV_R rfl) dX26_go_17 ?_
      refine zv_iconst (a := 0) G (by decide) dX26_go_20 ?_
      have o17 := h.1
      have h := h.2
      refine zc_aald G o17.1 (zr_k 0 (by decide) (by decide)) o17.2.1 o17.2.2 dX26_go_21 ?_
      exact zv_aret G M (Or.inl ⟨_, rfl⟩) dX26_go_22 h
  have h : wpC p d (vm4 (tg u2 v3)) [ar v3] u2 _ := h
  by_cases c19 : tg u2 v3 = 26
  · have e : vm4 (tg u2 v3) = 184 := by rw [c19]; rfl
    rw [e] at h
    exact zv_callR (as := [ar v3]) (st := []) G M (zc_eV (C := zcn 26) G q1963 q1800 q1808 (Or.inl ⟨rfl, rfl⟩) q1809 md_X30_kind (zc_rc G (zne tu2 c19 (by decide)) c19 (by decide) (by decide) rfl) rfl dX26_go_8) (S 184 _ rfl _ _ _ h (zoks_cons trivial zoks_nil)) (Or.inl ⟨rfl, rfl⟩) (zc_hk q1809 q186) (by decide) (Nat.le_of_ble_eq_true rfl) kj18 (fun _ _ h => h.elim)
  by_cases c20 : tg u2 v3 = 27
  · have e : vm4 (tg u2 v3) = 184 := by rw [c20]; rfl
    rw [e] at h
    exact zv_callR (as := [ar v3]) (st := []) G M (zc_eV (C := zcn 27) G q1963 q1800 q1807 (Or.inl ⟨rfl, rfl⟩) q1809 md_X30_kind (zc_rc G (zne tu2 c20 (by decide)) c20 (by decide) (by decide) rfl) rfl dX26_go_8) (S 184 _ rfl _ _ _ h (zoks_cons trivial zoks_nil)) (Or.inl ⟨rfl, rfl⟩) (zc_hk q1809 q186) (by decide) (Nat.le_of_ble_eq_true rfl) kj18 (fun _ _ h => h.elim)
  by_cases c21 : tg u2 v3 = 28
  · have e : vm4 (tg u2 v3) = 184 := by rw [c21]; rfl
    rw [e] at h
    exact zv_callR (as := [ar v3]) (st := []) G M (zc_eV (C := zcn 28) G q1963 q1800 q1806 (Or.inl ⟨rfl, rfl⟩) q1809 md_X30_kind (zc_rc G (zne tu2 c21 (by decide)) c21 (by decide) (by decide) rfl) rfl dX26_go_8) (S 184 _ rfl _ _ _ h (zoks_cons trivial zoks_nil)) (Or.inl ⟨rfl, rfl⟩) (zc_hk q1809 q186) (by decide) (Nat.le_of_ble_eq_true rfl) kj18 (fun _ _ h => h.elim)
  by_cases c22 : tg u2 v3 = 29
  · have e : vm4 (tg u2 v3) = 184 := by rw [c22]; rfl
    rw [e] at h
    exact zv_callR (as := [ar v3]) (st := []) G M (zc_eV (C := zcn 29) G q1963 q1800 q1805 (Or.inl ⟨rfl, rfl⟩) q1809 md_X30_kind (zc_rc G (zne tu2 c22 (by decide)) c22 (by decide) (by decide) rfl) rfl dX26_go_8) (S 184 _ rfl _ _ _ h (zoks_cons trivial zoks_nil)) (Or.inl ⟨rfl, rfl⟩) (zc_hk q1809 q186) (by decide) (Nat.le_of_ble_eq_true rfl) kj18 (fun _ _ h => h.elim)
  by_cases c23 : tg u2 v3 = 30
  · have e : vm4 (tg u2 v3) = 200 := by rw [c23]; rfl
    rw [e] at h
    exact zv_callR (as := [ar v3]) (st := []) G M (zc_eU (C := zcn 30) G q1963 q1801 (zc_declC G q1800 q1809) ⟨by decide, by decide⟩ q1802 q1803 md_X30_kind (zc_rc G (zne tu2 c23 (by decide)) c23 (by decide) (by decide) rfl) rfl dX26_go_8) (S 200 _ rfl _ _ _ h (zoks_cons trivial zoks_nil)) (Or.inl ⟨rfl, rfl⟩) (zc_hk q1804 q191) (by decide) (Nat.le_of_ble_eq_true rfl) kj18 (fun _ _ h => h.elim)
  have e : vm4 (tg u2 v3) = 9999 := by unfold vm4; rw [if_neg c19, if_neg c20, if_neg c21, if_neg c22, if_neg c23]
  rw [e] at h
  exact (wpC_none h).elim
set_option maxHeartbeats 4000000 in
set_option maxRecDepth 100000 in
theorem cpC_X27_init_0 {Γ : ZG CW} {D : CD} {d p : Nat} (hp : D.K.1 = p) (G : ZOk Γ cX27_init RX27 3 (KnC D) (ZC D)) (M : ZRm Γ (d + 1) D.lim (Option.none : Option Jvm.ClassFile.FieldType) "<init>" []) (S : SdC d D p Γ.l) (hl : Γ.l.stackTraces = false) (hk : 0 ≤ d) {x0 : Nat} {x1 : Int} {x2 : Nat} {w : CW} (rx1 : zr x1) (h : pC_X27_init_0 p (wpC p d) (fun w => Γ.Q (.inl none) w) x0 x1 x2 w) : ZV Γ w 0 [(0, ar x0), (1, ai x1), (2, ar x2)] [] := by
  refine zc_wk G hp (fun hw tw => ?_)
  refine zv_aload_n G rfl rfl dX27_init_0 ?_
  refine zv_iload_n G rfl rfl dX27_init_1 ?_
  refine zv_aload_n G rfl rfl dX27_init_2 ?_
  have o3 := h.1
  have h := h.2
  refine zv_callV (as := [ar x0, ai x1, ar x2]) (st := []) G M (zc_eI G rfl q1486 q1456 q1457 md_X25_init o3 rfl dX27_init_3) (S 169 _ rfl _ _ _ h (zoks_cons trivial (zoks_cons rx1 (zoks_cons trivial zoks_nil)))) (Or.inl ⟨rfl, rfl⟩) (zc_hk q1457 q181) (by decide) (Nat.le_of_ble_eq_true rfl) (fun u1 h => ?_) (fun _ _ h => h.elim)
  refine zc_wk G hp (fun hu1 tu1 => ?_)
  exact zv_vret G M dX27_init_6 h
set_option maxHeartbeats 4000000 in
set_option maxRecDepth 100000 in
theorem cpC_X27_what_0 {Γ : ZG CW} {D : CD} {d p : Nat} (hp : D.K.1 = p) (G : ZOk Γ cX27_what RX27 1 (KnC D) (ZC D)) (M : ZRm Γ (d + 1) D.lim (Option.some Jvm.ClassFile.FieldType.int) "what" []) (S : SdC d D p Γ.l) (hl : Γ.l.stackTraces = false) (hk : 0 ≤ d) {w : CW} (h : pC_X27_what_0 p (wpC p d) (fun v w => Γ.Q (.inl (some (ai v))) w) w) : ZV Γ w 0 [] [] := by
  refine zc_wk G hp (fun hw tw => ?_)
  refine zv_iconst (a := 4) G (by decide) dX27_what_0 ?_
  exact zv_iret (ty := .int) (zr_k 4 (by decide) (by decide)) G M rfl dX27_what_1 h
set_option maxHeartbeats 4000000 in
set_option maxRecDepth 100000 in
theorem cpC_X27_go_0 {Γ : ZG CW} {D : CD} {d p : Nat} (hp : D.K.1 = p) (G : ZOk Γ cX27_go RX27 2 (KnC D) (ZC D)) (M : ZRm Γ (d + 1) D.lim (Option.some (Jvm.ClassFile.FieldType.object "LetterPost$Node")) "go" []) (S : SdC d D p Γ.l) (hl : Γ.l.stackTraces = false) (hk : 0 ≤ d) {x0 : Nat} {x1 : Nat} {w : CW} (h : pC_X27_go_0 p (wpC p d) (fun v w => Γ.Q (.inl (some (ar v))) w) x0 x1 w) : ZV Γ w 0 [(0, ar x0), (1, ar x1)] [] := by
  refine zc_wk G hp (fun hw tw => ?_)
  refine zv_aload_n G rfl rfl dX27_go_0 ?_
  have o1 := h.1
  have h := h.2
  refine zc_get (f := 107) (v := ar (fR w 107 x0)) G o1 rfl q1348 (Or.inr q1349) (cV_R rfl) dX27_go_1 ?_
  refine zv_aload_n G rfl rfl dX27_go_4 ?_
  have o2 := h.1
  have h := h.2
  refine zc_get (f := 109) (v := ar (fR w 109 x0)) G o2 rfl q1468 (Or.inr q1469) (cV_R rfl) dX27_go_5 ?_
  refine zv_aload_n G rfl rfl dX27_go_8 ?_
  have o14 := h.1
  have h := h.2
  refine zv_callR (as := [ar (fR w 109 x0), ar x1]) (st := [ar (fR w 107 x0)]) G M (zc_eV (C := zcn 15) G q1970 q1902 q1903 (Or.inl ⟨rfl, rfl⟩) q1904 md_X17_of (zc_rc G (zne tw o14 (by decide)) o14 (by decide) (by decide) rfl) rfl dX27_go_9) (S 131 _ rfl _ _ _ h (zoks_cons trivial (zoks_cons trivial zoks_nil))) (Or.inl ⟨rfl, rfl⟩) (zc_hk q1904 q173) (by decide) (Nat.le_of_ble_eq_true rfl) (fun v4 u3 h => ?_) (fun _ _ h => h.elim)
  refine zc_wk G hp (fun hu3 tu3 => ?_)
  have kj8 : ∀ (v6 : Int) (u5 : CW), zr v6 → (
      ((111 ≤ tg u5 (fR w 107 x0) ∧ tg u5 (fR w 107 x0) ≤ 119) ∧ 0 ≤ v6 ∧ v6 < ln u5 (fR w 107 x0)) ∧
      (fun v w => Γ.Q (.inl (some (ar v))) w) (aR u5 (fR w 107 x0) v6) u5) → ZV Γ u5 15 [(0, ar x0), (1, ar x1)] [ai v6, ar (fR w 107 x0)] := by
    intro v6 u5 rv6 h
    refine zc_wk G hp (fun hu5 tu5 => ?_)
    have o7 := h.1
    have h := h.2
    refine zc_aald G o7.1 rv6 o7.2.1 o7.2.2 dX27_go_15 ?_
    exact zv_aret G M (Or.inl ⟨_, rfl⟩) dX27_go_16 h
  have h : wpC p d (vm6 (tg u3 v4)) [ar v4] u3 _ := h
  by_cases c9 : tg u3 v4 = 26
  · have e : vm6 (tg u3 v4) = 188 := by rw [c9]; rfl
    rw [e] at h
    exact zv_callI (as := [ar v4]) (st := [ar (fR w 107 x0)]) G M (zc_eU (C := zcn 26) G q1971 q1835 (zc_declC G q1834 q1847) ⟨by decide, by decide⟩ q1846 q1844 md_X30_told (zc_rc G (zne tu3 c9 (by decide)) c9 (by decide) (by decide) rfl) rfl dX27_go_12) (S 188 _ rfl _ _ _ h (zoks_cons trivial zoks_nil)) (Or.inl ⟨rfl, rfl⟩) (zc_hk q1845 q187) (by decide) (Nat.le_of_ble_eq_true rfl) kj8 (fun _ _ h => h.elim)
  by_cases c10 : tg u3 v4 = 27
  · have e : vm6 (tg u3 v4) = 188 := by rw [c10]; rfl
    rw [e] at h
    exact zv_callI (as := [ar v4]) (st := [ar (fR w 107 x0)]) G M (zc_eU (C := zcn 27) G q1971 q1835 (zc_declC G q1834 q1847) ⟨by decide, by decide⟩ q1843 q1844 md_X30_told (zc_rc G (zne tu3 c10 (by decide)) c10 (by decide) (by decide) rfl) rfl dX27_go_12) (S 188 _ rfl _ _ _ h (zoks_cons trivial zoks_nil)) (Or.inl ⟨rfl, rfl⟩) (zc_hk q1845 q187) (by decide) (Nat.le_of_ble_eq_true rfl) kj8 (fun _ _ h => h.elim)
  by_cases c11 : tg u3 v4 = 28
  · have e : vm6 (tg u3 v4) = 194 := by rw [c11]; rfl
    rw [e] at h
    exact zv_callI (as := [ar v4]) (st := [ar (fR w 107 x0)]) G M (zc_eU (C := zcn 28) G q1971 q1835 (zc_declC G q1834 q1847) ⟨by decide, by decide⟩ q1840 q1841 md_X30_told (zc_rc G (zne tu3 c11 (by decide)) c11 (by decide) (by decide) rfl) rfl dX27_go_12) (S 194 _ rfl _ _ _ h (zoks_cons trivial zoks_nil)) (Or.inl ⟨rfl, rfl⟩) (zc_hk q1842 q189) (by decide) (Nat.le_of_ble_eq_true rfl) kj8 (fun _ _ h => h.elim)
  by_cases c12 : tg u3 v4 = 29
  · have e : vm6 (tg u3 v4) = 185 := by rw [c12]; rfl
    rw [e] at h
    exact zv_callI (as := [ar v4]) (st := [ar (fR w 107 x0)]) G M (zc_eV (C := zcn 29) G q1971 q1834 q1839 (Or.inl ⟨rfl, rfl⟩) q1847 md_X30_told (zc_rc G (zne tu3 c12 (by decide)) c12 (by decide) (by decide) rfl) rfl dX27_go_12) (S 185 _ rfl _ _ _ h (zoks_cons trivial zoks_nil)) (Or.inl ⟨rfl, rfl⟩) (zc_hk q1847 q186) (by decide) (Nat.le_of_ble_eq_true rfl) kj8 (fun _ _ h => h.elim)
  by_cases c13 : tg u3 v4 = 30
  · have e : vm6 (tg u3 v4) = 202 := by rw [c13]; rfl
    rw [e] at h
    exact zv_callI (as := [ar v4]) (st := [ar (fR w 107 x0)]) G M (zc_eU (C := zcn 30) G q1971 q1835 (zc_declC G q1834 q1847) ⟨by decide, by decide⟩ q1836 q1837 md_X30_told (zc_rc G (zne tu3 c13 (by decide)) c13 (by decide) (by decide) rfl) rfl dX27_go_12) (S 202 _ rfl _ _ _ h (zoks_cons trivial zoks_nil)) (Or.inl ⟨rfl, rfl⟩) (zc_hk q1838 q191) (by decide) (Nat.le_of_ble_eq_true rfl) kj8 (fun _ _ h => h.elim)
  have e : vm6 (tg u3 v4) = 9999 := by unfold vm6; rw [if_neg c9, if_neg c10, if_neg c11, if_neg c12, if_neg c13]
  rw [e] at h
  exact (wpC_none h).elim
set_option maxHeartbeats 4000000 in
set_option maxRecDepth 100000 in
theorem cpC_X28_init_0 {Γ : ZG CW} {D : CD} {d p : Nat} (hp : D.K.1 = p) (G : ZOk Γ cX28_init RX28 4 (KnC D) (ZC D)) (M : ZRm Γ (d + 1) D.lim (Option.none : Option Jvm.ClassFile.FieldType) "<init>" []) (S : SdC d D p Γ.l) (hl : Γ.l.stackTraces = false) (hk : 0 ≤ d) {x0 : Nat} {x1 : Int} {x2 : Nat} {x3 : Nat} {w : CW} (rx1 : zr x1) (h : pC_X28_init_0 p (wpC p d) (fun w => Γ.Q (.inl none) w) x0 x1 x2 x3 w) : ZV Γ w 0 [(0, ar x0), (1, ai x1), (2, ar x2), (3, ar x3)] [] := by
  refine zc_wk G hp (fun hw tw => ?_)
  refine zv_aload_n G rfl rfl dX28_init_0 ?_
  refine zv_iload_n G rfl rfl dX28_init_1 ?_
  refine zv_aload_n G rfl rfl dX28_init_2 ?_
  have o5 := h.1
  have h := h.2
  refine zv_callV (as := [ar x0, ai x1, ar x2]) (st := []) G M (zc_eI G rfl q1504 q1456 q1457 md_X25_init o5 rfl dX28_init_3) (S 169 _ rfl _ _ _ h (zoks_cons trivial (zoks_cons rx1 (zoks_cons trivial zoks_nil)))) (Or.inl ⟨rfl, rfl⟩) (zc_hk q1457 q181) (by decide) (Nat.le_of_ble_eq_true rfl) (fun u1 h => ?_) (fun _ _ h => h.elim)
  refine zc_wk G hp (fun hu1 tu1 => ?_)
  refine zv_aload_n G rfl rfl dX28_init_6 ?_
  refine zv_aload_n G rfl rfl dX28_init_7 ?_
  have o4 := h.1
  have h := h.2
  refine zc_putR (f := 111) G M o4 rfl q1505 (Or.inl rfl) (Or.inr ⟨rfl, rfl, rfl⟩) (zfty_111) (Or.inr ⟨_, rfl⟩) rfl dX28_init_8 (fun u3 eu3 => ?_)
  have h := h u3 eu3
  refine zc_wk G hp (fun hu3 tu3 => ?_)
  exact zv_vret G M dX28_init_11 h
set_option maxHeartbeats 4000000 in
set_option maxRecDepth 100000 in
theorem cpC_X28_what_0 {Γ : ZG CW} {D : CD} {d p : Nat} (hp : D.K.1 = p) (G : ZOk Γ cX28_what RX28 1 (KnC D) (ZC D)) (M : ZRm Γ (d + 1) D.lim (Option.some Jvm.ClassFile.FieldType.int) "what" []) (S : SdC d D p Γ.l) (hl : Γ.l.stackTraces = false) (hk : 0 ≤ d) {w : CW} (h : pC_X28_what_0 p (wpC p d) (fun v w => Γ.Q (.inl (some (ai v))) w) w) : ZV Γ w 0 [] [] := by
  refine zc_wk G hp (fun hw tw => ?_)
  refine zv_iconst (a := 5) G (by decide) dX28_what_0 ?_
  exact zv_iret (ty := .int) (zr_k 5 (by decide) (by decide)) G M rfl dX28_what_1 h
set_option maxHeartbeats 4000000 in
set_option maxRecDepth 100000 in
theorem cpC_X28_go_46 {Γ : ZG CW} {D : CD} {d p : Nat} (hp : D.K.1 = p) (G : ZOk Γ cX28_go RX28 5 (KnC D) (ZC D)) (M : ZRm Γ (d + 1) D.lim (Option.some (Jvm.ClassFile.FieldType.object "LetterPost$Node")) "go" []) (S : SdC d D p Γ.l) (hl : Γ.l.stackTraces = false) (hk : 0 ≤ d) {x0 : Nat} {x4 : Int} {w : CW} (rx4 : zr x4) (h : pC_X28_go_46 p (wpC p d) (fun v w => Γ.Q (.inl (some (ar v))) w) x0 x4 w) : ZV Γ w 46 [(0, ar x0), (4, ai x4)] [] := by
  refine zc_wk G hp (fun hw tw => ?_)
  refine zv_aload_n G rfl rfl dX28_go_46 ?_
  have o11 := h.1
  have h := h.2
  refine zc_get (f := 107) (v := ar (fR w 107 x0)) G o11 rfl q1354 (Or.inr q1355) (cV_R rfl) dX28_go_47 ?_
  refine zv_iload G rfl dX28_go_50 ?_
  have o12 := h.1
  have h := h.2
  refine zc_aald G o12.1 rx4 o12.2.1 o12.2.2 dX28_go_52 ?_
  exact zv_aret G M (Or.inl ⟨_, rfl⟩) dX28_go_53 h
set_option maxHeartbeats 4000000 in
set_option maxRecDepth 100000 in
theorem cpC_X28_go_18 {Γ : ZG CW} {D : CD} {d p : Nat} (hp : D.K.1 = p) (G : ZOk Γ cX28_go RX28 5 (KnC D) (ZC D)) (M : ZRm Γ (d + 1) D.lim (Option.some (Jvm.ClassFile.FieldType.object "LetterPost$Node")) "go" []) (S : SdC d D p Γ.l) (hl : Γ.l.stackTraces = false) (hk : 0 ≤ d) {x0 : Nat} {x2 : Int} {x4 : Int} {w : CW} (rx2 : zrl x2) (rx4 : zr x4) (h : pC_X28_go_18 p (wpC p d) (fun v w => Γ.Q (.inl (some (ar v))) w) x0 x2 x4 w) : ZV Γ w 18 [(0, ar x0), (2, al x2), (4, ai x4)] [] := by
  obtain ⟨I18, eI18⟩ : ∃ I : Int → CW → Prop, I = (fun x4 w => zr x4 → ZV Γ w 18 [(0, ar x0), (2, al x2), (4, ai x4)] []) := ⟨_, rfl⟩
  have hI18 : ∀ (x4 : Int) (w : CW), I18 x4 w → zr x4 → ZV Γ w 18 [(0, ar x0), (2, al x2), (4, ai x4)] [] := by subst eI18; exact fun _ _ z => z
  have hJ18 : ∀ (x4 : Int) (w : CW), (zr x4 → ZV Γ w 18 [(0, ar x0), (2, al x2), (4, ai x4)] []) → I18 x4 w := by subst eI18; exact fun _ _ z => z
  refine hI18 x4 w (h I18 (fun x4 w h => hJ18 x4 w (fun rx4 => ?_))) rx4
  refine zc_wk G hp (fun hw tw => ?_)
  refine zv_iload G rfl dX28_go_18 ?_
  refine zv_aload_n G rfl rfl dX28_go_20 ?_
  have o7 := h.1
  have h := h.2
  refine zc_get (f := 111) (v := ar (fR w 111 x0)) G o7 rfl q1505 (Or.inl rfl) (cV_R rfl) dX28_go_21 ?_
  have o8 := h.1
  have h := h.2
  refine zc_alen G o8 dX28_go_24 ?_
  have o9 := h.1
  have h := h.2
  have kt13 : ¬ (((ln w (fR w 111 x0) : Nat) : Int) ≤ x4) ∧ (¬ ((aW w (fR w 111 x0) x4) = x2)) → ZV Γ w 40 [(0, ar x0), (2, al x2), (4, ai x4)] [] := by
    intro c15
    have h := h.1 c15
    refine zv_iincN G rfl (by decide) dX28_go_40 (fun x4_10 ex4_10 => ?_)
    have h := h x4_10 ex4_10
    have rx4_10 : zr x4_10 := by rw [ex4_10]; exact w32_r _
    refine zv_goto (tgt := 18) G (by decide) dX28_go_43 ?_
    exact zv_pick [0, 2, 4] rfl (hI18 _ _ h rx4_10)
  have kf14 : ¬ (¬ (((ln w (fR w 111 x0) : Nat) : Int) ≤ x4) ∧ (¬ ((aW w (fR w 111 x0) x4) = x2))) → ZV Γ w 46 [(0, ar x0), (2, al x2), (4, ai x4)] [] := by
    intro c15
    have h := h.2 c15
    exact zv_pick [0, 4] rfl (cpC_X28_go_46 hp G M S hl hk rx4 h)
  refine zv_icmp_ge (tgt := 46) G rx4 (zc_lnr hw _) (by decide) dX28_go_25 (fun c16 => ?_) (fun c16 => ?_)
  · exact kf14 (fun q => q.1 c16)
  · refine zv_aload_n G rfl rfl dX28_go_28 ?_
    refine zc_get (f := 111) (v := ar (fR w 111 x0)) G (o9 c16).1 rfl q1505 (Or.inl rfl) (cV_R rfl) dX28_go_29 ?_
    refine zv_iload G rfl dX28_go_32 ?_
    refine zc_laldN G (o9 c16).2.1 rx4 (o9 c16).2.2.1 (o9 c16).2.2.2 dX28_go_34 ?_
    refine zv_lload_n G rfl rfl dX28_go_35 ?_
    refine zv_lcmp G (aW_r hw _ _) rx2 dX28_go_36 ?_
    refine zv_lif_eq (tgt := 46) G (by decide) dX28_go_37 (fun c17 => ?_) (fun c17 => ?_)
    · exact kf14 (fun q => (fun q => q c17) q.2)
    · exact kt13 ⟨c16, c17⟩
set_option maxHeartbeats 4000000 in
set_option maxRecDepth 100000 in
theorem cpC_X28_go_0 {Γ : ZG CW} {D : CD} {d p : Nat} (hp : D.K.1 = p) (G : ZOk Γ cX28_go RX28 5 (KnC D) (ZC D)) (M : ZRm Γ (d + 1) D.lim (Option.some (Jvm.ClassFile.FieldType.object "LetterPost$Node")) "go" []) (S : SdC d D p Γ.l) (hl : Γ.l.stackTraces = false) (hk : 0 ≤ d) {x0 : Nat} {x1 : Nat} {w : CW} (h : pC_X28_go_0 p (wpC p d) (fun v w => Γ.Q (.inl (some (ar v))) w) x0 x1 w) : ZV Γ w 0 [(0, ar x0), (1, ar x1)] [] := by
  refine zc_wk G hp (fun hw tw => ?_)
  refine zv_aload_n G rfl rfl dX28_go_0 ?_
  have o1 := h.1
  have h := h.2
  refine zc_get (f := 109) (v := ar (fR w 109 x0)) G o1 rfl q1464 (Or.inr q1465) (cV_R rfl) dX28_go_1 ?_
  refine zv_aload_n G rfl rfl dX28_go_4 ?_
  have o18 := h.1
  have h := h.2
  refine zv_callR (as := [ar (fR w 109 x0), ar x1]) (st := []) G M (zc_eV (C := zcn 15) G q1966 q1902 q1903 (Or.inl ⟨rfl, rfl⟩) q1904 md_X17_of (zc_rc G (zne tw o18 (by decide)) o18 (by decide) (by decide) rfl) rfl dX28_go_5) (S 131 _ rfl _ _ _ h (zoks_cons trivial (zoks_cons trivial zoks_nil))) (Or.inl ⟨rfl, rfl⟩) (zc_hk q1904 q173) (by decide) (Nat.le_of_ble_eq_true rfl) (fun v3 u2 h => ?_) (fun _ _ h => h.elim)
  refine zc_wk G hp (fun hu2 tu2 => ?_)
  have o4 := h.1
  have h := h.2
  refine zc_cast G q1967 o4 dX28_go_8 ?_
  have o5 := h.1
  have h := h.2
  refine zc_get (f := 116) (v := al (fI u2 116 v3)) G o5 rfl q1748 (Or.inl rfl) (cV_L rfl) dX28_go_11 ?_
  refine zv_lstore_nN G rfl (by decide) dX28_go_14 (fun x2_6 ex2_6 => ?_)
  have h := h x2_6 ex2_6
  have rx2_6 : zrl x2_6 := by rw [ex2_6]; exact (hu2.l 116 _ (by decide))
  refine zv_iconst (a := 0) G (by decide) dX28_go_15 ?_
  refine zv_istore G (by decide) rfl dX28_go_16 ?_
  exact zv_pick [0, 2, 4] rfl (cpC_X28_go_18 hp G M S hl hk rx2_6 (zr_k 0 (by decide) (by decide)) h)
set_option maxHeartbeats 4000000 in
set_option maxRecDepth 100000 in
theorem cpC_X29_init_0 {Γ : ZG CW} {D : CD} {d p : Nat} (hp : D.K.1 = p) (G : ZOk Γ cX29_init RX29 4 (KnC D) (ZC D)) (M : ZRm Γ (d + 1) D.lim (Option.none : Option Jvm.ClassFile.FieldType) "<init>" []) (S : SdC d D p Γ.l) (hl : Γ.l.stackTraces = false) (hk : 0 ≤ d) {x0 : Nat} {x1 : Int} {x2 : Nat} {x3 : Nat} {w : CW} (rx1 : zr x1) (h : pC_X29_init_0 p (wpC p d) (fun w => Γ.Q (.inl none) w) x0 x1 x2 x3 w) : ZV Γ w 0 [(0, ar x0), (1, ai x1), (2, ar x2), (3, ar x3)] [] := by
  refine zc_wk G hp (fun hw tw => ?_)
  refine zv_aload_n G rfl rfl dX29_init_0 ?_
  refine zv_iload_n G rfl rfl dX29_init_1 ?_
  refine zv_aload_n G rfl rfl dX29_init_2 ?_
  have o5 := h.1
  have h := h.2
  refine zv_callV (as := [ar x0, ai x1, ar x2]) (st := []) G M (zc_eI G rfl q1526 q1456 q1457 md_X25_init o5 rfl dX29_init_3) (S 169 _ rfl _ _ _ h (zoks_cons trivial (zoks_cons rx1 (zoks_cons trivial zoks_nil)))) (Or.inl ⟨rfl, rfl⟩) (zc_hk q1457 q181) (by decide) (Nat.le_of_ble_eq_true rfl) (fun u1 h => ?_) (fun _ _ h => h.elim)
  refine zc_wk G hp (fun hu1 tu1 => ?_)
  refine zv_aload_n G rfl rfl dX29_init_6 ?_
  refine zv_aload_n G rfl rfl dX29_init_7 ?_
  have o4 := h.1
  have h := h.2
  refine zc_putR (f := 112) G M o4 rfl q1527 (Or.inl rfl) (Or.inr ⟨rfl, rfl, rfl⟩) (zfty_112) (Or.inr ⟨_, rfl⟩) rfl dX29_init_8 (fun u3 eu3 => ?_)
  have h := h u3 eu3
  refine zc_wk G hp (fun hu3 tu3 => ?_)
  exact zv_vret G M dX29_init_11 h
end ZCC4
