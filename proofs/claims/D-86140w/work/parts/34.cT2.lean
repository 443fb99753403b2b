/-! walks of the reference's methods, printed by tools/twin.py -/
section ZCT2
set_option maxHeartbeats 4000000 in
set_option maxRecDepth 100000 in
theorem cpT_notes_54 {Γ : ZG TW} {D : TD} {B0 d : Nat} {lim : Nat × Nat} (G : ZOk Γ cX1_notes RX1 3 (KnT D B0) (ZT D B0)) (M : ZRm Γ (d + 1) lim none "notes" []) (S : SdT d D B0 Γ.l lim) (hk : 0 ≤ d) {w : TW} (h : pT_notes_54 (wpT d) (fun w => Γ.Q (.inl none) w) w) : ZV Γ w 54 [] [] := by
  refine zt_tok G (fun hw => ?_)
  exact zv_vret G M dX1_notes_54 h
set_option maxHeartbeats 4000000 in
set_option maxRecDepth 100000 in
theorem cpT_notes_27 {Γ : ZG TW} {D : TD} {B0 d : Nat} {lim : Nat × Nat} (G : ZOk Γ cX1_notes RX1 3 (KnT D B0) (ZT D B0)) (M : ZRm Γ (d + 1) lim none "notes" []) (S : SdT d D B0 Γ.l lim) (hk : 0 ≤ d) {x1 : Int} {x2 : Int} {w : TW} (rx1 : zr x1) (rx2 : zr x2) (h : pT_notes_27 (wpT d) (fun w => Γ.Q (.inl none) w) x1 x2 w) : ZV Γ w 27 [(0, ar (D.x + 1)), (1, ai x1), (2, ai x2)] [] := by
  refine zt_tok G (fun hw => ?_)
  refine zv_iload_n G rfl rfl dX1_notes_27 ?_
  have o5 := h.1
  have h := h.2
  have kt9 : ¬ (x2 < 0) ∧ (¬ ((tA w 25 x1) = (-4))) → ZV Γ w 42 [(0, ar (D.x + 1)), (1, ai x1), (2, ai x2)] [] := by
    intro c11
    have h := h.1 c11
    refine zv_aload_n G rfl rfl dX1_notes_42 ?_
    refine zt_get (k := 118) (v := ar (D.ad 118 + 1)) G (by decide) q2273 rfl dX1_notes_43 ?_
    refine zv_aload_n G rfl rfl dX1_notes_46 ?_
    refine zt_get (k := 25) (v := ar (D.ad 25 + 1)) G (by decide) q2180 rfl dX1_notes_47 ?_
    refine zv_iload_n G rfl rfl dX1_notes_50 ?_
    have o6 := h.1
    have h := h.2
    refine zt_iald (f := 25) G (by decide) rfl rx1 o6.1 o6.2 dX1_notes_51 ?_
    refine zv_iload_n G rfl rfl dX1_notes_52 ?_
    have o8 := h.1
    have h := h.2
    refine zt_iast (f := 118) G (by decide) rfl (hw.a 25 _ (by decide)) rx2 o8.1 o8.2 dX1_notes_53 (fun u7 eu7 => ?_)
    have h := h u7 eu7
    refine zt_tok G (fun hu7 => ?_)
    exact zv_pick [] rfl (cpT_notes_54 G M S hk h)
  have kf10 : ¬ (¬ (x2 < 0) ∧ (¬ ((tA w 25 x1) = (-4)))) → ZV Γ w 54 [(0, ar (D.x + 1)), (1, ai x1), (2, ai x2)] [] := by
    intro c11
    have h := h.2 c11
    exact zv_pick [] rfl (cpT_notes_54 G M S hk h)
  refine zv_if_lt (tgt := 54) G rx2 (by decide) dX1_notes_28 (fun c12 => ?_) (fun c12 => ?_)
  · exact kf10 (fun q => q.1 c12)
  · refine zv_aload_n G rfl rfl dX1_notes_31 ?_
    refine zt_get (k := 25) (v := ar (D.ad 25 + 1)) G (by decide) q2180 rfl dX1_notes_32 ?_
    refine zv_iload_n G rfl rfl dX1_notes_35 ?_
    refine zt_iald (f := 25) G (by decide) rfl rx1 (o5 c12).1 (o5 c12).2 dX1_notes_36 ?_
    refine zv_bipush (a := (-4)) G (by decide) dX1_notes_37 ?_
    refine zv_icmp_eq (tgt := 54) G (hw.a 25 _ (by decide)) (zr_k (-4) (by decide) (by decide)) (by decide) dX1_notes_39 (fun c13 => ?_) (fun c13 => ?_)
    · exact kf10 (fun q => (fun q => q c13) q.2)
    · exact kt9 ⟨c12, c13⟩
set_option maxHeartbeats 4000000 in
set_option maxRecDepth 100000 in
theorem cpT_notes_0 {Γ : ZG TW} {D : TD} {B0 d : Nat} {lim : Nat × Nat} (G : ZOk Γ cX1_notes RX1 3 (KnT D B0) (ZT D B0)) (M : ZRm Γ (d + 1) lim none "notes" []) (S : SdT d D B0 Γ.l lim) (hk : 0 ≤ d) {x1 : Int} {x2 : Int} {w : TW} (rx1 : zr x1) (rx2 : zr x2) (h : pT_notes_0 (wpT d) (fun w => Γ.Q (.inl none) w) x1 x2 w) : ZV Γ w 0 [(0, ar (D.x + 1)), (1, ai x1), (2, ai x2)] [] := by
  refine zt_tok G (fun hw => ?_)
  refine zv_iload_n G rfl rfl dX1_notes_0 ?_
  have o1 := h.1
  have h := h.2
  have kt14 : ¬ (x2 < 0) ∧ (¬ ((tA w 24 x1) = (-4))) → ZV Γ w 15 [(0, ar (D.x + 1)), (1, ai x1), (2, ai x2)] [] := by
    intro c16
    have h := h.1 c16
    refine zv_aload_n G rfl rfl dX1_notes_15 ?_
    refine zt_get (k := 118) (v := ar (D.ad 118 + 1)) G (by decide) q2273 rfl dX1_notes_16 ?_
    refine zv_aload_n G rfl rfl dX1_notes_19 ?_
    refine zt_get (k := 24) (v := ar (D.ad 24 + 1)) G (by decide) q2179 rfl dX1_notes_20 ?_
    refine zv_iload_n G rfl rfl dX1_notes_23 ?_
    have o2 := h.1
    have h := h.2
    refine zt_iald (f := 24) G (by decide) rfl rx1 o2.1 o2.2 dX1_notes_24 ?_
    refine zv_iload_n G rfl rfl dX1_notes_25 ?_
    have o4 := h.1
    have h := h.2
    refine zt_iast (f := 118) G (by decide) rfl (hw.a 24 _ (by decide)) rx2 o4.1 o4.2 dX1_notes_26 (fun u3 eu3 => ?_)
    have h := h u3 eu3
    refine zt_tok G (fun hu3 => ?_)
    exact zv_pick [0, 1, 2] rfl (cpT_notes_27 G M S hk rx1 rx2 h)
  have kf15 : ¬ (¬ (x2 < 0) ∧ (¬ ((tA w 24 x1) = (-4)))) → ZV Γ w 27 [(0, ar (D.x + 1)), (1, ai x1), (2, ai x2)] [] := by
    intro c16
    have h := h.2 c16
    exact zv_pick [0, 1, 2] rfl (cpT_notes_27 G M S hk rx1 rx2 h)
  refine zv_if_lt (tgt := 27) G rx2 (by decide) dX1_notes_1 (fun c17 => ?_) (fun c17 => ?_)
  · exact kf15 (fun q => q.1 c17)
  · refine zv_aload_n G rfl rfl dX1_notes_4 ?_
    refine zt_get (k := 24) (v := ar (D.ad 24 + 1)) G (by decide) q2179 rfl dX1_notes_5 ?_
    refine zv_iload_n G rfl rfl dX1_notes_8 ?_
    refine zt_iald (f := 24) G (by decide) rfl rx1 (o1 c17).1 (o1 c17).2 dX1_notes_9 ?_
    refine zv_bipush (a := (-4)) G (by decide) dX1_notes_10 ?_
    refine zv_icmp_eq (tgt := 27) G (hw.a 24 _ (by decide)) (zr_k (-4) (by decide) (by decide)) (by decide) dX1_notes_12 (fun c18 => ?_) (fun c18 => ?_)
    · exact kf15 (fun q => (fun q => q c18) q.2)
    · exact kt14 ⟨c17, c18⟩
set_option maxHeartbeats 4000000 in
set_option maxRecDepth 100000 in
theorem cpT_nextPattern_96 {Γ : ZG TW} {D : TD} {B0 d : Nat} {lim : Nat × Nat} (G : ZOk Γ cX1_nextPattern RX1 4 (KnT D B0) (ZT D B0)) (M : ZRm Γ (d + 1) lim (some .int) "nextPattern" []) (S : SdT d D B0 Γ.l lim) (hk : 0 ≤ d) {x1 : Int} {x2 : Int} {w : TW} (rx1 : zr x1) (rx2 : zr x2) (h : pT_nextPattern_96 (wpT d) (fun v w => Γ.Q (.inl (some (ai v))) w) x1 x2 w) : ZV Γ w 96 [(0, ar (D.x + 1)), (1, ai x1), (2, ai x2)] [] := by
  refine zt_tok G (fun hw => ?_)
  refine zv_aload_n G rfl rfl dX1_nextPattern_96 ?_
  refine zt_get (k := 73) (v := ar (D.ad 73 + 1)) G (by decide) q2228 rfl dX1_nextPattern_97 ?_
  refine zv_aload_n G rfl rfl dX1_nextPattern_100 ?_
  refine zt_get (k := 71) (v := ai (tI w 71)) G (by decide) q2226 rfl dX1_nextPattern_101 ?_
  refine zv_iload_n G rfl rfl dX1_nextPattern_104 ?_
  have o9 := h.1
  have h := h.2
  refine zt_iast (f := 73) G (by decide) rfl (hw.i 71 (by decide)) rx2 o9.1 o9.2 dX1_nextPattern_105 (fun u8 eu8 => ?_)
  have h := h u8 eu8
  refine zt_tok G (fun hu8 => ?_)
  refine zv_iload_n G rfl rfl dX1_nextPattern_106 ?_
  exact zv_iret (ty := .int) rx1 G M rfl dX1_nextPattern_107 h
set_option maxHeartbeats 4000000 in
set_option maxRecDepth 100000 in
theorem cpT_nextPattern_91 {Γ : ZG TW} {D : TD} {B0 d : Nat} {lim : Nat × Nat} (G : ZOk Γ cX1_nextPattern RX1 4 (KnT D B0) (ZT D B0)) (M : ZRm Γ (d + 1) lim (some .int) "nextPattern" []) (S : SdT d D B0 Γ.l lim) (hk : 0 ≤ d) {I30 : Int → Int → TW → Prop} {x2 : Int} {x3 : Int} {w : TW} (hI30 : ∀ (x1 : Int) (x2 : Int) (w : TW), I30 x1 x2 w → zr x1 → zr x2 → ZV Γ w 30 [(0, ar (D.x + 1)), (1, ai x1), (2, ai x2)] []) (rx2 : zr x2) (rx3 : zr x3) (h : pT_nextPattern_91 (wpT d) (fun v w => Γ.Q (.inl (some (ai v))) w) I30 x2 x3 w) : ZV Γ w 91 [(0, ar (D.x + 1)), (2, ai x2), (3, ai x3)] [] := by
  refine zt_tok G (fun hw => ?_)
  refine zv_iload_n G rfl rfl dX1_nextPattern_91 ?_
  refine zv_istore_n G rfl (by decide) rfl dX1_nextPattern_92 ?_
  refine zv_goto (tgt := 30) G (by decide) dX1_nextPattern_93 ?_
  exact zv_pick [0, 1, 2] rfl (hI30 _ _ _ h rx3 rx2)
set_option maxHeartbeats 4000000 in
set_option maxRecDepth 100000 in
theorem cpT_nextPattern_62 {Γ : ZG TW} {D : TD} {B0 d : Nat} {lim : Nat × Nat} (G : ZOk Γ cX1_nextPattern RX1 4 (KnT D B0) (ZT D B0)) (M : ZRm Γ (d + 1) lim (some .int) "nextPattern" []) (S : SdT d D B0 Γ.l lim) (hk : 0 ≤ d) {I30 : Int → Int → TW → Prop} {x2 : Int} {x3 : Int} {w : TW} (hI30 : ∀ (x1 : Int) (x2 : Int) (w : TW), I30 x1 x2 w → zr x1 → zr x2 → ZV Γ w 30 [(0, ar (D.x + 1)), (1, ai x1), (2, ai x2)] []) (rx2 : zr x2) (rx3 : zr x3) (h : pT_nextPattern_62 (wpT d) (fun v w => Γ.Q (.inl (some (ai v))) w) I30 x2 x3 w) : ZV Γ w 62 [(0, ar (D.x + 1)), (2, ai x2), (3, ai x3)] [] := by
  refine h (fun x2 x3 w => zr x2 → zr x3 → ZV Γ w 62 [(0, ar (D.x + 1)), (2, ai x2), (3, ai x3)] []) ?_ rx2 rx3
  clear h
  intro x2 x3 w h rx2 rx3
  have hI62 : ∀ (x2 : Int) (x3 : Int) (w : TW), (fun x2 x3 w => zr x2 → zr x3 → ZV Γ w 62 [(0, ar (D.x + 1)), (2, ai x2), (3, ai x3)] []) x2 x3 w → zr x2 → zr x3 → ZV Γ w 62 [(0, ar (D.x + 1)), (2, ai x2), (3, ai x3)] [] := fun _ _ _ z => z
  refine zt_tok G (fun hw => ?_)
  refine zv_iload_n G rfl rfl dX1_nextPattern_62 ?_
  refine zv_aload_n G rfl rfl dX1_nextPattern_63 ?_
  refine zt_get (k := 26) (v := ar (D.ad 26 + 1)) G (by decide) q2181 rfl dX1_nextPattern_64 ?_
  refine zv_iload_n G rfl rfl dX1_nextPattern_67 ?_
  have o14 := h.1
  have h := h.2
  refine zt_iald (f := 26) G (by decide) rfl rx3 o14.1 o14.2 dX1_nextPattern_68 ?_
  refine zv_icmp_lt (tgt := 91) G rx2 (hw.a 26 _ (by decide)) (by decide) dX1_nextPattern_69 (fun c15 => ?_) (fun c15 => ?_)
  · have h := h.1 c15
    exact zv_pick [0, 2, 3] rfl (cpT_nextPattern_91 G M S hk hI30 rx2 rx3 h)
  · have h := h.2 c15
    refine zv_iload_n G rfl rfl dX1_nextPattern_72 ?_
    refine zv_aload_n G rfl rfl dX1_nextPattern_73 ?_
    refine zt_get (k := 26) (v := ar (D.ad 26 + 1)) G (by decide) q2181 rfl dX1_nextPattern_74 ?_
    refine zv_iload_n G rfl rfl dX1_nextPattern_77 ?_
    have o16 := h.1
    have h := h.2
    refine zt_iald (f := 26) G (by decide) rfl rx3 o16.1 o16.2 dX1_nextPattern_78 ?_
    refine zv_isub G dX1_nextPattern_79 ?_
    refine zv_istore_nN G rfl (by decide) dX1_nextPattern_80 (fun x2_17 ex2_17 => ?_)
    have h := h x2_17 ex2_17
    have rx2_17 : zr x2_17 := by rw [ex2_17]; exact (w32_r _)
    refine zv_aload_n G rfl rfl dX1_nextPattern_81 ?_
    refine zt_get (k := 23) (v := ar (D.ad 23 + 1)) G (by decide) q2178 rfl dX1_nextPattern_82 ?_
    refine zv_iload_n G rfl rfl dX1_nextPattern_85 ?_
    have o18 := h.1
    have h := h.2
    refine zt_iald (f := 23) G (by decide) rfl rx3 o18.1 o18.2 dX1_nextPattern_86 ?_
    refine zv_istore_nN G rfl (by decide) dX1_nextPattern_87 (fun x3_19 ex3_19 => ?_)
    have h := h x3_19 ex3_19
    have rx3_19 : zr x3_19 := by rw [ex3_19]; exact (hw.a 23 _ (by decide))
    refine zv_goto (tgt := 62) G (by decide) dX1_nextPattern_88 ?_
    exact zv_pick [0, 2, 3] rfl (hI62 _ _ _ h rx2_17 rx3_19)
set_option maxHeartbeats 4000000 in
set_option maxRecDepth 100000 in
theorem cpT_nextPattern_30 {Γ : ZG TW} {D : TD} {B0 d : Nat} {lim : Nat × Nat} (G : ZOk Γ cX1_nextPattern RX1 4 (KnT D B0) (ZT D B0)) (M : ZRm Γ (d + 1) lim (some .int) "nextPattern" []) (S : SdT d D B0 Γ.l lim) (hk : 0 ≤ d) {x1 : Int} {x2 : Int} {w : TW} (rx1 : zr x1) (rx2 : zr x2) (h : pT_nextPattern_30 (wpT d) (fun v w => Γ.Q (.inl (some (ai v))) w) x1 x2 w) : ZV Γ w 30 [(0, ar (D.x + 1)), (1, ai x1), (2, ai x2)] [] := by
  refine h (fun x1 x2 w => zr x1 → zr x2 → ZV Γ w 30 [(0, ar (D.x + 1)), (1, ai x1), (2, ai x2)] []) ?_ rx1 rx2
  clear h
  intro x1 x2 w h rx1 rx2
  have hI30 : ∀ (x1 : Int) (x2 : Int) (w : TW), (fun x1 x2 w => zr x1 → zr x2 → ZV Γ w 30 [(0, ar (D.x + 1)), (1, ai x1), (2, ai x2)] []) x1 x2 w → zr x1 → zr x2 → ZV Γ w 30 [(0, ar (D.x + 1)), (1, ai x1), (2, ai x2)] [] := fun _ _ _ z => z
  refine zt_tok G (fun hw => ?_)
  refine zv_aload_n G rfl rfl dX1_nextPattern_30 ?_
  refine zt_get (k := 17) (v := ar (D.ad 17 + 1)) G (by decide) q2172 rfl dX1_nextPattern_31 ?_
  refine zv_iload_n G rfl rfl dX1_nextPattern_34 ?_
  have o6 := h.1
  have h := h.2
  refine zt_iald (f := 17) G (by decide) rfl rx1 o6.1 o6.2 dX1_nextPattern_35 ?_
  refine zv_bipush (a := 6) G (by decide) dX1_nextPattern_36 ?_
  refine zv_icmp_ne (tgt := 96) G (hw.a 17 _ (by decide)) (zr_k 6 (by decide) (by decide)) (by decide) dX1_nextPattern_38 (fun c7 => ?_) (fun c7 => ?_)
  · have h := h.2 c7
    exact zv_pick [0, 1, 2] rfl (cpT_nextPattern_96 G M S hk rx1 rx2 h)
  · have h := h.1 c7
    refine zv_aload_n G rfl rfl dX1_nextPattern_41 ?_
    refine zv_iload_n G rfl rfl dX1_nextPattern_42 ?_
    refine zv_aload_n G rfl rfl dX1_nextPattern_43 ?_
    refine zt_get (k := 75) (v := ar (D.ad 75 + 1)) G (by decide) q2230 rfl dX1_nextPattern_44 ?_
    refine zv_aload_n G rfl rfl dX1_nextPattern_47 ?_
    refine zt_get (k := 71) (v := ai (tI w 71)) G (by decide) q2226 rfl dX1_nextPattern_48 ?_
    have o10 := h.1
    have h := h.2
    refine zt_iald (f := 75) G (by decide) rfl (hw.i 71 (by decide)) o10.1 o10.2 dX1_nextPattern_51 ?_
    refine zt_callV (as := [ai x1, ai (tA w 75 (tI w 71))]) G M (S 51 _ rfl _ _ _ h (zoks_cons rx1 (zoks_cons (hw.a 75 _ (by decide)) zoks_nil))) q2770 q2772 qs112 q2773 md_notes rfl (by decide) (Nat.le_of_ble_eq_true rfl) dX1_nextPattern_52 (fun u11 h => ?_)
    refine zt_tok G (fun hu11 => ?_)
    refine zv_aload_n G rfl rfl dX1_nextPattern_55 ?_
    refine zt_get (k := 22) (v := ar (D.ad 22 + 1)) G (by decide) q2177 rfl dX1_nextPattern_56 ?_
    refine zv_iload_n G rfl rfl dX1_nextPattern_59 ?_
    have o12 := h.1
    have h := h.2
    refine zt_iald (f := 22) G (by decide) rfl rx1 o12.1 o12.2 dX1_nextPattern_60 ?_
    refine zv_istore_nN G rfl (by decide) dX1_nextPattern_61 (fun x3_13 ex3_13 => ?_)
    have h := h x3_13 ex3_13
    have rx3_13 : zr x3_13 := by rw [ex3_13]; exact (hu11.a 22 _ (by decide))
    exact zv_pick [0, 2, 3] rfl (cpT_nextPattern_62 G M S hk hI30 rx2 rx3_13 h)
set_option maxHeartbeats 4000000 in
set_option maxRecDepth 100000 in
theorem cpT_nextPattern_0 {Γ : ZG TW} {D : TD} {B0 d : Nat} {lim : Nat × Nat} (G : ZOk Γ cX1_nextPattern RX1 4 (KnT D B0) (ZT D B0)) (M : ZRm Γ (d + 1) lim (some .int) "nextPattern" []) (S : SdT d D B0 Γ.l lim) (hk : 0 ≤ d) {w : TW} (h : pT_nextPattern_0 (wpT d) (fun v w => Γ.Q (.inl (some (ai v))) w) w) : ZV Γ w 0 [(0, ar (D.x + 1))] [] := by
  refine zt_tok G (fun hw => ?_)
  refine zv_aload_n G rfl rfl dX1_nextPattern_0 ?_
  refine zv_dup G rfl dX1_nextPattern_1 ?_
  refine zt_get (k := 71) (v := ai (tI w 71)) G (by decide) q2226 rfl dX1_nextPattern_2 ?_
  refine zv_iconst (a := 1) G (by decide) dX1_nextPattern_5 ?_
  refine zv_isub G dX1_nextPattern_6 ?_
  refine zt_putI (k := 71) G (by decide) q2226 rfl (tyX1_ok 71 (by decide)) rfl (w32_r _) dX1_nextPattern_7 (fun u1 eu1 => ?_)
  have h := h u1 eu1
  refine zt_tok G (fun hu1 => ?_)
  refine zv_aload_n G rfl rfl dX1_nextPattern_10 ?_
  refine zt_get (k := 72) (v := ar (D.ad 72 + 1)) G (by decide) q2227 rfl dX1_nextPattern_11 ?_
  refine zv_aload_n G rfl rfl dX1_nextPattern_14 ?_
  refine zt_get (k := 71) (v := ai (tI u1 71)) G (by decide) q2226 rfl dX1_nextPattern_15 ?_
  have o2 := h.1
  have h := h.2
  refine zt_iald (f := 72) G (by decide) rfl (hu1.i 71 (by decide)) o2.1 o2.2 dX1_nextPattern_18 ?_
  refine zv_istore_nN G rfl (by decide) dX1_nextPattern_19 (fun x1_3 ex1_3 => ?_)
  have h := h x1_3 ex1_3
  have rx1_3 : zr x1_3 := by rw [ex1_3]; exact (hu1.a 72 _ (by decide))
  refine zv_aload_n G rfl rfl dX1_nextPattern_20 ?_
  refine zt_get (k := 73) (v := ar (D.ad 73 + 1)) G (by decide) q2228 rfl dX1_nextPattern_21 ?_
  refine zv_aload_n G rfl rfl dX1_nextPattern_24 ?_
  refine zt_get (k := 71) (v := ai (tI u1 71)) G (by decide) q2226 rfl dX1_nextPattern_25 ?_
  have o4 := h.1
  have h := h.2
  refine zt_iald (f := 73) G (by decide) rfl (hu1.i 71 (by decide)) o4.1 o4.2 dX1_nextPattern_28 ?_
  refine zv_istore_nN G rfl (by decide) dX1_nextPattern_29 (fun x2_5 ex2_5 => ?_)
  have h := h x2_5 ex2_5
  have rx2_5 : zr x2_5 := by rw [ex2_5]; exact (hu1.a 73 _ (by decide))
  exact zv_pick [0, 1, 2] rfl (cpT_nextPattern_30 G M S hk rx1_3 rx2_5 h)
set_option maxHeartbeats 4000000 in
set_option maxRecDepth 100000 in
theorem cpT_layRow_177 {Γ : ZG TW} {D : TD} {B0 d : Nat} {lim : Nat × Nat} (G : ZOk Γ cX1_layRow RX1 5 (KnT D B0) (ZT D B0)) (M : ZRm Γ (d + 1) lim none "layRow" []) (S : SdT d D B0 Γ.l lim) (hk : 0 ≤ d) {w : TW} (h : pT_layRow_177 (wpT d) (fun w => Γ.Q (.inl none) w) w) : ZV Γ w 177 [(0, ar (D.x + 1))] [] := by
  refine zt_tok G (fun hw => ?_)
  refine zv_aload_n G rfl rfl dX1_layRow_177 ?_
  refine zv_dup G rfl dX1_layRow_178 ?_
  refine zt_get (k := 61) (v := ai (tI w 61)) G (by decide) q2216 rfl dX1_layRow_179 ?_
  refine zv_iconst (a := 1) G (by decide) dX1_layRow_182 ?_
  refine zv_iadd G dX1_layRow_183 ?_
  refine zt_putI (k := 61) G (by decide) q2216 rfl (tyX1_ok 61 (by decide)) rfl (w32_r _) dX1_layRow_184 (fun u11 eu11 => ?_)
  have h := h u11 eu11
  refine zt_tok G (fun hu11 => ?_)
  refine zv_aload_n G rfl rfl dX1_layRow_187 ?_
  refine zt_get (k := 64) (v := ar (D.ad 64 + 1)) G (by decide) q2219 rfl dX1_layRow_188 ?_
  refine zv_aload_n G rfl rfl dX1_layRow_191 ?_
  refine zt_get (k := 61) (v := ai (tI u11 61)) G (by decide) q2216 rfl dX1_layRow_192 ?_
  refine zv_aload_n G rfl rfl dX1_layRow_195 ?_
  refine zt_get (k := 65) (v := ai (tI u11 65)) G (by decide) q2220 rfl dX1_layRow_196 ?_
  have o13 := h.1
  have h := h.2
  refine zt_iast (f := 64) G (by decide) rfl (hu11.i 61 (by decide)) (hu11.i 65 (by decide)) o13.1 o13.2 dX1_layRow_199 (fun u12 eu12 => ?_)
  have h := h u12 eu12
  refine zt_tok G (fun hu12 => ?_)
  exact zv_vret G M dX1_layRow_200 h
set_option maxHeartbeats 4000000 in
set_option maxRecDepth 100000 in
theorem cpT_layRow_174 {Γ : ZG TW} {D : TD} {B0 d : Nat} {lim : Nat × Nat} (G : ZOk Γ cX1_layRow RX1 5 (KnT D B0) (ZT D B0)) (M : ZRm Γ (d + 1) lim none "layRow" []) (S : SdT d D B0 Γ.l lim) (hk : 0 ≤ d) {I52 : TW → Prop} {w : TW} (hI52 : ∀ (w : TW), I52 w → ZV Γ w 52 [(0, ar (D.x + 1))] []) (h : pT_layRow_174 (wpT d) (fun w => Γ.Q (.inl none) w) I52 w) : ZV Γ w 174 [(0, ar (D.x + 1))] [] := by
  refine zt_tok G (fun hw => ?_)
  refine zv_goto (tgt := 52) G (by decide) dX1_layRow_174 ?_
  exact zv_pick [0] rfl (hI52 _ h )
set_option maxHeartbeats 4000000 in
set_option maxRecDepth 100000 in
theorem cpT_layRow_130 {Γ : ZG TW} {D : TD} {B0 d : Nat} {lim : Nat × Nat} (G : ZOk Γ cX1_layRow RX1 5 (KnT D B0) (ZT D B0)) (M : ZRm Γ (d + 1) lim none "layRow" []) (S : SdT d D B0 Γ.l lim) (hk : 0 ≤ d) {I52 : TW → Prop} {x3 : Int} {x4 : Int} {w : TW} (hI52 : ∀ (w : TW), I52 w → ZV Γ w 52 [(0, ar (D.x + 1))] []) (rx3 : zr x3) (rx4 : zr x4) (h : pT_layRow_130 (wpT d) (fun w => Γ.Q (.inl none) w) I52 x3 x4 w) : ZV Γ w 130 [(0, ar (D.x + 1)), (3, ai x3), (4, ai x4)] [] := by
  refine zt_tok G (fun hw => ?_)
  refine zv_aload_n G rfl rfl dX1_layRow_130 ?_
  refine zt_get (k := 17) (v := ar (D.ad 17 + 1)) G (by decide) q2172 rfl dX1_layRow_131 ?_
  refine zv_iload_n G rfl rfl dX1_layRow_134 ?_
  have o20 := h.1
  have h := h.2
  refine zt_iald (f := 17) G (by decide) rfl rx3 o20.1 o20.2 dX1_layRow_135 ?_
  refine zv_iconst (a := 5) G (by decide) dX1_layRow_136 ?_
  have o21 := h.1
  have h := h.2
  have kt25 : ((tA w 17 x3) = 5) ∧ (¬ ((tA w 22 x3) = (-4))) → ZV Γ w 151 [(0, ar (D.x + 1)), (3, ai x3), (4, ai x4)] [] := by
    intro c27
    have h := h.1 c27
    refine zv_aload_n G rfl rfl dX1_layRow_151 ?_
    refine zv_aload_n G rfl rfl dX1_layRow_152 ?_
    refine zt_get (k := 22) (v := ar (D.ad 22 + 1)) G (by decide) q2177 rfl dX1_layRow_153 ?_
    refine zv_iload_n G rfl rfl dX1_layRow_156 ?_
    have o22 := h.1
    have h := h.2
    refine zt_iald (f := 22) G (by decide) rfl rx3 o22.1 o22.2 dX1_layRow_157 ?_
    refine zv_aload_n G rfl rfl dX1_layRow_158 ?_
    refine zt_get (k := 73) (v := ar (D.ad 73 + 1)) G (by decide) q2228 rfl dX1_layRow_159 ?_
    refine zv_aload_n G rfl rfl dX1_layRow_162 ?_
    refine zt_get (k := 71) (v := ai (tI w 71)) G (by decide) q2226 rfl dX1_layRow_163 ?_
    have o23 := h.1
    have h := h.2
    refine zt_iald (f := 73) G (by decide) rfl (hw.i 71 (by decide)) o23.1 o23.2 dX1_layRow_166 ?_
    refine zv_iload G rfl dX1_layRow_167 ?_
    refine zv_bipush (a := (-4)) G (by decide) dX1_layRow_169 ?_
    refine zt_callV (as := [ai (tA w 22 x3), ai (tA w 73 (tI w 71)), ai x4, ai (-4)]) G M (S 48 _ rfl _ _ _ h (zoks_cons (hw.a 22 _ (by decide)) (zoks_cons (hw.a 73 _ (by decide)) (zoks_cons rx4 (zoks_cons (zr_k (-4) (by decide) (by decide)) zoks_nil))))) q2758 q2760 qs109 q2761 md_waitAll rfl (by decide) (Nat.le_of_ble_eq_true rfl) dX1_layRow_171 (fun u24 h => ?_)
    refine zt_tok G (fun hu24 => ?_)
    exact zv_pick [0] rfl (cpT_layRow_174 G M S hk hI52 h)
  have kf26 : ¬ (((tA w 17 x3) = 5) ∧ (¬ ((tA w 22 x3) = (-4)))) → ZV Γ w 174 [(0, ar (D.x + 1)), (3, ai x3), (4, ai x4)] [] := by
    intro c27
    have h := h.2 c27
    exact zv_pick [0] rfl (cpT_layRow_174 G M S hk hI52 h)
  refine zv_icmp_ne (tgt := 174) G (hw.a 17 _ (by decide)) (zr_k 5 (by decide) (by decide)) (by decide) dX1_layRow_137 (fun c28 => ?_) (fun c28 => ?_)
  · exact kf26 (fun q => c28 q.1)
  · refine zv_aload_n G rfl rfl dX1_layRow_140 ?_
    refine zt_get (k := 22) (v := ar (D.ad 22 + 1)) G (by decide) q2177 rfl dX1_layRow_141 ?_
    refine zv_iload_n G rfl rfl dX1_layRow_144 ?_
    refine zt_iald (f := 22) G (by decide) rfl rx3 (o21 c28).1 (o21 c28).2 dX1_layRow_145 ?_
    refine zv_bipush (a := (-4)) G (by decide) dX1_layRow_146 ?_
    refine zv_icmp_eq (tgt := 174) G (hw.a 22 _ (by decide)) (zr_k (-4) (by decide) (by decide)) (by decide) dX1_layRow_148 (fun c29 => ?_) (fun c29 => ?_)
    · exact kf26 (fun q => (fun q => q c29) q.2)
    · exact kt25 ⟨c28, c29⟩
set_option maxHeartbeats 4000000 in
set_option maxRecDepth 100000 in
theorem cpT_layRow_52 {Γ : ZG TW} {D : TD} {B0 d : Nat} {lim : Nat × Nat} (G : ZOk Γ cX1_layRow RX1 5 (KnT D B0) (ZT D B0)) (M : ZRm Γ (d + 1) lim none "layRow" []) (S : SdT d D B0 Γ.l lim) (hk : 0 ≤ d) {w : TW} (h : pT_layRow_52 (wpT d) (fun w => Γ.Q (.inl none) w) w) : ZV Γ w 52 [(0, ar (D.x + 1))] [] := by
  refine h (fun w => ZV Γ w 52 [(0, ar (D.x + 1))] []) ?_ 
  clear h
  intro w h 
  have hI52 : ∀ (w : TW), (fun w => ZV Γ w 52 [(0, ar (D.x + 1))] []) w → ZV Γ w 52 [(0, ar (D.x + 1))] [] := fun _ z => z
  refine zt_tok G (fun hw => ?_)
  refine zv_aload_n G rfl rfl dX1_layRow_52 ?_
  refine zt_get (k := 71) (v := ai (tI w 71)) G (by decide) q2226 rfl dX1_layRow_53 ?_
  refine zv_if_le (tgt := 177) G (hw.i 71 (by decide)) (by decide) dX1_layRow_56 (fun c10 => ?_) (fun c10 => ?_)
  · have h := h.1 c10
    exact zv_pick [0] rfl (cpT_layRow_177 G M S hk h)
  · have h := h.2 c10
    refine zv_aload_n G rfl rfl dX1_layRow_59 ?_
    refine zt_callI (as := []) G M (S 50 _ rfl _ _ _ h zoks_nil) q2766 q2768 qs111 q2769 md_nextPattern rfl (by decide) (Nat.le_of_ble_eq_true rfl) dX1_layRow_60 (fun v15 u14 rv15 h => ?_)
    refine zt_tok G (fun hu14 => ?_)
    refine zv_istore_n G rfl (by decide) rfl dX1_layRow_63 ?_
    refine zv_aload_n G rfl rfl dX1_layRow_64 ?_
    refine zt_get (k := 74) (v := ar (D.ad 74 + 1)) G (by decide) q2229 rfl dX1_layRow_65 ?_
    refine zv_aload_n G rfl rfl dX1_layRow_68 ?_
    refine zt_get (k := 71) (v := ai (tI u14 71)) G (by decide) q2226 rfl dX1_layRow_69 ?_
    have o16 := h.1
    have h := h.2
    refine zt_iald (f := 74) G (by decide) rfl (hu14.i 71 (by decide)) o16.1 o16.2 dX1_layRow_72 ?_
    refine zv_istoreN G (by decide) dX1_layRow_73 (fun x4_17 ex4_17 => ?_)
    have h := h x4_17 ex4_17
    have rx4_17 : zr x4_17 := by rw [ex4_17]; exact (hu14.a 74 _ (by decide))
    refine zv_aload_n G rfl rfl dX1_layRow_75 ?_
    refine zt_get (k := 17) (v := ar (D.ad 17 + 1)) G (by decide) q2172 rfl dX1_layRow_76 ?_
    refine zv_iload_n G rfl rfl dX1_layRow_79 ?_
    have o18 := h.1
    have h := h.2
    refine zt_iald (f := 17) G (by decide) rfl rv15 o18.1 o18.2 dX1_layRow_80 ?_
    refine zv_if_eq (tgt := 130) G (hu14.a 17 _ (by decide)) (by decide) dX1_layRow_81 (fun c19 => ?_) (fun c19 => ?_)
    · have h := h.1 c19
      exact zv_pick [0, 3, 4] rfl (cpT_layRow_130 G M S hk hI52 rv15 rx4_17 h)
    · have h := h.2 c19
      refine zv_aload_n G rfl rfl dX1_layRow_84 ?_
      refine zt_get (k := 66) (v := ar (D.ad 66 + 1)) G (by decide) q2221 rfl dX1_layRow_85 ?_
      refine zv_aload_n G rfl rfl dX1_layRow_88 ?_
      refine zt_get (k := 65) (v := ai (tI u14 65)) G (by decide) q2220 rfl dX1_layRow_89 ?_
      refine zv_aload_n G rfl rfl dX1_layRow_92 ?_
      refine zt_get (k := 17) (v := ar (D.ad 17 + 1)) G (by decide) q2172 rfl dX1_layRow_93 ?_
      refine zv_iload_n G rfl rfl dX1_layRow_96 ?_
      have o30 := h.1
      have h := h.2
      refine zt_iald (f := 17) G (by decide) rfl rv15 o30.1 o30.2 dX1_layRow_97 ?_
      have o32 := h.1
      have h := h.2
      refine zt_iast (f := 66) G (by decide) rfl (hu14.i 65 (by decide)) (hu14.a 17 _ (by decide)) o32.1 o32.2 dX1_layRow_98 (fun u31 eu31 => ?_)
      have h := h u31 eu31
      refine zt_tok G (fun hu31 => ?_)
      refine zv_aload_n G rfl rfl dX1_layRow_99 ?_
      refine zt_get (k := 67) (v := ar (D.ad 67 + 1)) G (by decide) q2222 rfl dX1_layRow_100 ?_
      refine zv_aload_n G rfl rfl dX1_layRow_103 ?_
      refine zt_get (k := 65) (v := ai (tI u31 65)) G (by decide) q2220 rfl dX1_layRow_104 ?_
      refine zv_iload G rfl dX1_layRow_107 ?_
      have o34 := h.1
      have h := h.2
      refine zt_iast (f := 67) G (by decide) rfl (hu31.i 65 (by decide)) rx4_17 o34.1 o34.2 dX1_layRow_109 (fun u33 eu33 => ?_)
      have h := h u33 eu33
      refine zt_tok G (fun hu33 => ?_)
      refine zv_aload_n G rfl rfl dX1_layRow_110 ?_
      refine zt_get (k := 68) (v := ar (D.ad 68 + 1)) G (by decide) q2223 rfl dX1_layRow_111 ?_
      refine zv_aload_n G rfl rfl dX1_layRow_114 ?_
      refine zt_get (k := 65) (v := ai (tI u33 65)) G (by decide) q2220 rfl dX1_layRow_115 ?_
      refine zv_iload_n G rfl rfl dX1_layRow_118 ?_
      have o36 := h.1
      have h := h.2
      refine zt_iast (f := 68) G (by decide) rfl (hu33.i 65 (by decide)) rv15 o36.1 o36.2 dX1_layRow_119 (fun u35 eu35 => ?_)
      have h := h u35 eu35
      refine zt_tok G (fun hu35 => ?_)
      refine zv_aload_n G rfl rfl dX1_layRow_120 ?_
      refine zv_dup G rfl dX1_layRow_121 ?_
      refine zt_get (k := 65) (v := ai (tI u35 65)) G (by decide) q2220 rfl dX1_layRow_122 ?_
      refine zv_iconst (a := 1) G (by decide) dX1_layRow_125 ?_
      refine zv_iadd G dX1_layRow_126 ?_
      refine zt_putI (k := 65) G (by decide) q2220 rfl (tyX1_ok 65 (by decide)) rfl (w32_r _) dX1_layRow_127 (fun u37 eu37 => ?_)
      have h := h u37 eu37
      refine zt_tok G (fun hu37 => ?_)
      exact zv_pick [0, 3, 4] rfl (cpT_layRow_130 G M S hk hI52 rv15 rx4_17 h)
set_option maxHeartbeats 4000000 in
set_option maxRecDepth 100000 in
theorem cpT_layRow_0 {Γ : ZG TW} {D : TD} {B0 d : Nat} {lim : Nat × Nat} (G : ZOk Γ cX1_layRow RX1 5 (KnT D B0) (ZT D B0)) (M : ZRm Γ (d + 1) lim none "layRow" []) (S : SdT d D B0 Γ.l lim) (hk : 0 ≤ d) {x1 : Int} {x2 : Int} {w : TW} (rx1 : zr x1) (rx2 : zr x2) (h : pT_layRow_0 (wpT d) (fun w => Γ.Q (.inl none) w) x1 x2 w) : ZV Γ w 0 [(0, ar (D.x + 1)), (1, ai x1), (2, ai x2)] [] := by
  refine zt_tok G (fun hw => ?_)
  refine zv_aload_n G rfl rfl dX1_layRow_0 ?_
  refine zt_get (k := 62) (v := ar (D.ad 62 + 1)) G (by decide) q2217 rfl dX1_layRow_1 ?_
  refine zv_aload_n G rfl rfl dX1_layRow_4 ?_
  refine zt_get (k := 61) (v := ai (tI w 61)) G (by decide) q2216 rfl dX1_layRow_5 ?_
  refine zv_iload_n G rfl rfl dX1_layRow_8 ?_
  have o2 := h.1
  have h := h.2
  refine zt_iast (f := 62) G (by decide) rfl (hw.i 61 (by decide)) rx1 o2.1 o2.2 dX1_layRow_9 (fun u1 eu1 => ?_)
  have h := h u1 eu1
  refine zt_tok G (fun hu1 => ?_)
  refine zv_aload_n G rfl rfl dX1_layRow_10 ?_
  refine zt_get (k := 63) (v := ar (D.ad 63 + 1)) G (by decide) q2218 rfl dX1_layRow_11 ?_
  refine zv_aload_n G rfl rfl dX1_layRow_14 ?_
  refine zt_get (k := 61) (v := ai (tI u1 61)) G (by decide) q2216 rfl dX1_layRow_15 ?_
  refine zv_iload_n G rfl rfl dX1_layRow_18 ?_
  have o4 := h.1
  have h := h.2
  refine zt_iast (f := 63) G (by decide) rfl (hu1.i 61 (by decide)) rx2 o4.1 o4.2 dX1_layRow_19 (fun u3 eu3 => ?_)
  have h := h u3 eu3
  refine zt_tok G (fun hu3 => ?_)
  refine zv_aload_n G rfl rfl dX1_layRow_20 ?_
  refine zt_get (k := 64) (v := ar (D.ad 64 + 1)) G (by decide) q2219 rfl dX1_layRow_21 ?_
  refine zv_aload_n G rfl rfl dX1_layRow_24 ?_
  refine zt_get (k := 61) (v := ai (tI u3 61)) G (by decide) q2216 rfl dX1_layRow_25 ?_
  refine zv_aload_n G rfl rfl dX1_layRow_28 ?_
  refine zt_get (k := 65) (v := ai (tI u3 65)) G (by decide) q2220 rfl dX1_layRow_29 ?_
  have o6 := h.1
  have h := h.2
  refine zt_iast (f := 64) G (by decide) rfl (hu3.i 61 (by decide)) (hu3.i 65 (by decide)) o6.1 o6.2 dX1_layRow_32 (fun u5 eu5 => ?_)
  have h := h u5 eu5
  refine zt_tok G (fun hu5 => ?_)
  refine zv_aload_n G rfl rfl dX1_layRow_33 ?_
  refine zv_iconst (a := 0) G (by decide) dX1_layRow_34 ?_
  refine zt_putI (k := 71) G (by decide) q2226 rfl (tyX1_ok 71 (by decide)) rfl (zr_k 0 (by decide) (by decide)) dX1_layRow_35 (fun u7 eu7 => ?_)
  have h := h u7 eu7
  refine zt_tok G (fun hu7 => ?_)
  refine zv_aload_n G rfl rfl dX1_layRow_38 ?_
  refine zv_aload_n G rfl rfl dX1_layRow_39 ?_
  refine zt_get (k := 47) (v := ar (D.ad 47 + 1)) G (by decide) q2202 rfl dX1_layRow_40 ?_
  refine zv_iload_n G rfl rfl dX1_layRow_43 ?_
  have o8 := h.1
  have h := h.2
  refine zt_iald (f := 47) G (by decide) rfl rx1 o8.1 o8.2 dX1_layRow_44 ?_
  refine zv_iload_n G rfl rfl dX1_layRow_45 ?_
  refine zv_iconst (a := 0) G (by decide) dX1_layRow_46 ?_
  refine zv_bipush (a := (-4)) G (by decide) dX1_layRow_47 ?_
  refine zt_callV (as := [ai (tA u7 47 x1), ai x2, ai 0, ai (-4)]) G M (S 48 _ rfl _ _ _ h (zoks_cons (hu7.a 47 _ (by decide)) (zoks_cons rx2 (zoks_cons (zr_k 0 (by decide) (by decide)) (zoks_cons (zr_k (-4) (by decide) (by decide)) zoks_nil))))) q2758 q2760 qs109 q2761 md_waitAll rfl (by decide) (Nat.le_of_ble_eq_true rfl) dX1_layRow_49 (fun u9 h => ?_)
  refine zt_tok G (fun hu9 => ?_)
  exact zv_pick [0] rfl (cpT_layRow_52 G M S hk h)
set_option maxHeartbeats 4000000 in
set_option maxRecDepth 100000 in
theorem cpT_layRows_86 {Γ : ZG TW} {D : TD} {B0 d : Nat} {lim : Nat × Nat} (G : ZOk Γ cX1_layRows RX1 6 (KnT D B0) (ZT D B0)) (M : ZRm Γ (d + 1) lim none "layRows" []) (S : SdT d D B0 Γ.l lim) (hk : 0 ≤ d) {w : TW} (h : pT_layRows_86 (wpT d) (fun w => Γ.Q (.inl none) w) w) : ZV Γ w 86 [] [] := by
  refine zt_tok G (fun hw => ?_)
  exact zv_vret G M dX1_layRows_86 h
set_option maxHeartbeats 4000000 in
set_option maxRecDepth 100000 in
theorem cpT_layRows_66 {Γ : ZG TW} {D : TD} {B0 d : Nat} {lim : Nat × Nat} (G : ZOk Γ cX1_layRows RX1 6 (KnT D B0) (ZT D B0)) (M : ZRm Γ (d + 1) lim none "layRows" []) (S : SdT d D B0 Γ.l lim) (hk : 0 ≤ d) {I19 : Int → TW → Prop} {I40 : Int → TW → Prop} {x1 : Int} {x2 : Int} {x3 : Int} {x4 : Int} {x5 : Int} {w : TW} (hI19 : ∀ (x3 : Int) (w : TW), I19 x3 w → zr x3 → ZV Γ w 19 [(0, ar (D.x + 1)), (1, ai x1), (2, ai x2), (3, ai x3)] []) (hI40 : ∀ (x5 : Int) (w : TW), I40 x5 w → zr x5 → ZV Γ w 40 [(0, ar (D.x + 1)), (1, ai x1), (2, ai x2), (3, ai x3), (4, ai x4), (5, ai x5)] []) (rx1 : zr x1) (rx2 : zr x2) (rx3 : zr x3) (rx4 : zr x4) (rx5 : zr x5) (h : pT_layRows_66 (wpT d) (fun w => Γ.Q (.inl none) w) I19 I40 x1 x2 x3 x4 x5 w) : ZV Γ w 66 [(0, ar (D.x + 1)), (1, ai x1), (2, ai x2), (3, ai x3), (4, ai x4), (5, ai x5)] [] := by
  refine zt_tok G (fun hw => ?_)
  refine zv_aload_n G rfl rfl dX1_layRows_66 ?_
  refine zv_iload G rfl dX1_layRows_67 ?_
  refine zv_iload G rfl dX1_layRows_69 ?_
  refine zt_callV (as := [ai x4, ai x5]) G M (S 47 _ rfl _ _ _ h (zoks_cons rx4 (zoks_cons rx5 zoks_nil))) q2754 q2756 qs108 q2757 md_layRow rfl (by decide) (Nat.le_of_ble_eq_true rfl) dX1_layRows_71 (fun u9 h => ?_)
  refine zt_tok G (fun hu9 => ?_)
  refine zv_iincN G rfl (by decide) dX1_layRows_74 (fun x5_10 ex5_10 => ?_)
  have h := h x5_10 ex5_10
  have rx5_10 : zr x5_10 := by rw [ex5_10]; exact w32_r _
  refine zv_goto (tgt := 40) G (by decide) dX1_layRows_77 ?_
  exact zv_pick [0, 1, 2, 3, 4, 5] rfl (hI40 _ _ h rx5_10)
set_option maxHeartbeats 4000000 in
set_option maxRecDepth 100000 in
theorem cpT_layRows_80 {Γ : ZG TW} {D : TD} {B0 d : Nat} {lim : Nat × Nat} (G : ZOk Γ cX1_layRows RX1 6 (KnT D B0) (ZT D B0)) (M : ZRm Γ (d + 1) lim none "layRows" []) (S : SdT d D B0 Γ.l lim) (hk : 0 ≤ d) {I19 : Int → TW → Prop} {x1 : Int} {x2 : Int} {x3 : Int} {w : TW} (hI19 : ∀ (x3 : Int) (w : TW), I19 x3 w → zr x3 → ZV Γ w 19 [(0, ar (D.x + 1)), (1, ai x1), (2, ai x2), (3, ai x3)] []) (rx1 : zr x1) (rx2 : zr x2) (rx3 : zr x3) (h : pT_layRows_80 (wpT d) (fun w => Γ.Q (.inl none) w) I19 x1 x2 x3 w) : ZV Γ w 80 [(0, ar (D.x + 1)), (1, ai x1), (2, ai x2), (3, ai x3)] [] := by
  refine zt_tok G (fun hw => ?_)
  refine zv_iincN G rfl (by decide) dX1_layRows_80 (fun x3_11 ex3_11 => ?_)
  have h := h x3_11 ex3_11
  have rx3_11 : zr x3_11 := by rw [ex3_11]; exact w32_r _
  refine zv_goto (tgt := 19) G (by decide) dX1_layRows_83 ?_
  exact zv_pick [0, 1, 2, 3] rfl (hI19 _ _ h rx3_11)
set_option maxHeartbeats 4000000 in
set_option maxRecDepth 100000 in
theorem cpT_layRows_40 {Γ : ZG TW} {D : TD} {B0 d : Nat} {lim : Nat × Nat} (G : ZOk Γ cX1_layRows RX1 6 (KnT D B0) (ZT D B0)) (M : ZRm Γ (d + 1) lim none "layRows" []) (S : SdT d D B0 Γ.l lim) (hk : 0 ≤ d) {I19 : Int → TW → Prop} {x1 : Int} {x2 : Int} {x3 : Int} {x4 : Int} {x5 : Int} {w : TW} (hI19 : ∀ (x3 : Int) (w : TW), I19 x3 w → zr x3 → ZV Γ w 19 [(0, ar (D.x + 1)), (1, ai x1), (2, ai x2), (3, ai x3)] []) (rx1 : zr x1) (rx2 : zr x2) (rx3 : zr x3) (rx4 : zr x4) (rx5 : zr x5) (h : pT_layRows_40 (wpT d) (fun w => Γ.Q (.inl none) w) I19 x1 x2 x3 x4 x5 w) : ZV Γ w 40 [(0, ar (D.x + 1)), (1, ai x1), (2, ai x2), (3, ai x3), (4, ai x4), (5, ai x5)] [] := by
  refine h (fun x5 w => zr x5 → ZV Γ w 40 [(0, ar (D.x + 1)), (1, ai x1), (2, ai x2), (3, ai x3), (4, ai x4), (5, ai x5)] []) ?_ rx5
  clear h
  intro x5 w h rx5
  have hI40 : ∀ (x5 : Int) (w : TW), (fun x5 w => zr x5 → ZV Γ w 40 [(0, ar (D.x + 1)), (1, ai x1), (2, ai x2), (3, ai x3), (4, ai x4), (5, ai x5)] []) x5 w → zr x5 → ZV Γ w 40 [(0, ar (D.x + 1)), (1, ai x1), (2, ai x2), (3, ai x3), (4, ai x4), (5, ai x5)] [] := fun _ _ z => z
  refine zt_tok G (fun hw => ?_)
  refine zv_iload G rfl dX1_layRows_40 ?_
  refine zv_aload_n G rfl rfl dX1_layRows_42 ?_
  refine zt_get (k := 49) (v := ar (D.ad 49 + 1)) G (by decide) q2204 rfl dX1_layRows_43 ?_
  refine zv_iload G rfl dX1_layRows_46 ?_
  have o7 := h.1
  have h := h.2
  refine zt_iald (f := 49) G (by decide) rfl rx4 o7.1 o7.2 dX1_layRows_48 ?_
  have o8 := h.1
  have h := h.2
  have kt12 : ¬ ((tA w 49 x4) ≤ x5) ∧ ((x2 = 0) ∨ ((tA w 53 x4) = 0)) → ZV Γ w 66 [(0, ar (D.x + 1)), (1, ai x1), (2, ai x2), (3, ai x3), (4, ai x4), (5, ai x5)] [] := by
    intro c14
    have h := h.1 c14
    exact zv_pick [0, 1, 2, 3, 4, 5] rfl (cpT_layRows_66 G M S hk hI19 hI40 rx1 rx2 rx3 rx4 rx5 h)
  have kf13 : ¬ (¬ ((tA w 49 x4) ≤ x5) ∧ ((x2 = 0) ∨ ((tA w 53 x4) = 0))) → ZV Γ w 80 [(0, ar (D.x + 1)), (1, ai x1), (2, ai x2), (3, ai x3), (4, ai x4), (5, ai x5)] [] := by
    intro c14
    have h := h.2 c14
    exact zv_pick [0, 1, 2, 3] rfl (cpT_layRows_80 G M S hk hI19 rx1 rx2 rx3 h)
  refine zv_icmp_ge (tgt := 80) G rx5 (hw.a 49 _ (by decide)) (by decide) dX1_layRows_49 (fun c15 => ?_) (fun c15 => ?_)
  · exact kf13 (fun q => q.1 c15)
  · refine zv_iload_n G rfl rfl dX1_layRows_52 ?_
    refine zv_if_eq (tgt := 66) G rx2 (by decide) dX1_layRows_53 (fun c16 => ?_) (fun c16 => ?_)
    · exact kt12 ⟨c15, (Or.inl c16)⟩
    · refine zv_aload_n G rfl rfl dX1_layRows_56 ?_
      refine zt_get (k := 53) (v := ar (D.ad 53 + 1)) G (by decide) q2208 rfl dX1_layRows_57 ?_
      refine zv_iload G rfl dX1_layRows_60 ?_
      refine zt_iald (f := 53) G (by decide) rfl rx4 ((o8 c15) c16).1 ((o8 c15) c16).2 dX1_layRows_62 ?_
      refine zv_if_ne (tgt := 80) G (hw.a 53 _ (by decide)) (by decide) dX1_layRows_63 (fun c17 => ?_) (fun c17 => ?_)
      · exact kf13 (fun q => (fun q => q.elim c16 c17) q.2)
      · exact kt12 ⟨c15, (Or.inr c17)⟩
set_option maxHeartbeats 4000000 in
set_option maxRecDepth 100000 in
theorem cpT_layRows_19 {Γ : ZG TW} {D : TD} {B0 d : Nat} {lim : Nat × Nat} (G : ZOk Γ cX1_layRows RX1 6 (KnT D B0) (ZT D B0)) (M : ZRm Γ (d + 1) lim none "layRows" []) (S : SdT d D B0 Γ.l lim) (hk : 0 ≤ d) {x1 : Int} {x2 : Int} {x3 : Int} {w : TW} (rx1 : zr x1) (rx2 : zr x2) (rx3 : zr x3) (h : pT_layRows_19 (wpT d) (fun w => Γ.Q (.inl none) w) x1 x2 x3 w) : ZV Γ w 19 [(0, ar (D.x + 1)), (1, ai x1), (2, ai x2), (3, ai x3)] [] := by
  refine h (fun x3 w => zr x3 → ZV Γ w 19 [(0, ar (D.x + 1)), (1, ai x1), (2, ai x2), (3, ai x3)] []) ?_ rx3
  clear h
  intro x3 w h rx3
  have hI19 : ∀ (x3 : Int) (w : TW), (fun x3 w => zr x3 → ZV Γ w 19 [(0, ar (D.x + 1)), (1, ai x1), (2, ai x2), (3, ai x3)] []) x3 w → zr x3 → ZV Γ w 19 [(0, ar (D.x + 1)), (1, ai x1), (2, ai x2), (3, ai x3)] [] := fun _ _ z => z
  refine zt_tok G (fun hw => ?_)
  refine zv_iload_n G rfl rfl dX1_layRows_19 ?_
  refine zv_aload_n G rfl rfl dX1_layRows_20 ?_
  refine zt_get (k := 45) (v := ar (D.ad 45 + 1)) G (by decide) q2200 rfl dX1_layRows_21 ?_
  refine zv_iload_n G rfl rfl dX1_layRows_24 ?_
  have o4 := h.1
  have h := h.2
  refine zt_iald (f := 45) G (by decide) rfl rx1 o4.1 o4.2 dX1_layRows_25 ?_
  refine zv_icmp_ge (tgt := 86) G rx3 (hw.a 45 _ (by decide)) (by decide) dX1_layRows_26 (fun c5 => ?_) (fun c5 => ?_)
  · have h := h.1 c5
    exact zv_pick [] rfl (cpT_layRows_86 G M S hk h)
  · have h := h.2 c5
    refine zv_bipush (a := 16) G (by decide) dX1_layRows_29 ?_
    refine zv_iload_n G rfl rfl dX1_layRows_31 ?_
    refine zv_imul G dX1_layRows_32 ?_
    refine zv_iload_n G rfl rfl dX1_layRows_33 ?_
    refine zv_iadd G dX1_layRows_34 ?_
    refine zv_istoreN G (by decide) dX1_layRows_35 (fun x4_6 ex4_6 => ?_)
    have h := h x4_6 ex4_6
    have rx4_6 : zr x4_6 := by rw [ex4_6]; exact (w32_r _)
    refine zv_iconst (a := 0) G (by decide) dX1_layRows_37 ?_
    refine zv_istore G (by decide) rfl dX1_layRows_38 ?_
    exact zv_pick [0, 1, 2, 3, 4, 5] rfl (cpT_layRows_40 G M S hk hI19 rx1 rx2 rx3 rx4_6 (zr_k 0 (by decide) (by decide)) h)
set_option maxHeartbeats 4000000 in
set_option maxRecDepth 100000 in
theorem cpT_layRows_0 {Γ : ZG TW} {D : TD} {B0 d : Nat} {lim : Nat × Nat} (G : ZOk Γ cX1_layRows RX1 6 (KnT D B0) (ZT D B0)) (M : ZRm Γ (d + 1) lim none "layRows" []) (S : SdT d D B0 Γ.l lim) (hk : 0 ≤ d) {x1 : Int} {x2 : Int} {w : TW} (rx1 : zr x1) (rx2 : zr x2) (h : pT_layRows_0 (wpT d) (fun w => Γ.Q (.inl none) w) x1 x2 w) : ZV Γ w 0 [(0, ar (D.x + 1)), (1, ai x1), (2, ai x2)] [] := by
  refine zt_tok G (fun hw => ?_)
  refine zv_aload_n G rfl rfl dX1_layRows_0 ?_
  refine zv_iconst (a := 0) G (by decide) dX1_layRows_1 ?_
  refine zt_putI (k := 61) G (by decide) q2216 rfl (tyX1_ok 61 (by decide)) rfl (zr_k 0 (by decide) (by decide)) dX1_layRows_2 (fun u1 eu1 => ?_)
  have h := h u1 eu1
  refine zt_tok G (fun hu1 => ?_)
  refine zv_aload_n G rfl rfl dX1_layRows_5 ?_
  refine zv_iconst (a := 0) G (by decide) dX1_layRows_6 ?_
  refine zt_putI (k := 65) G (by decide) q2220 rfl (tyX1_ok 65 (by decide)) rfl (zr_k 0 (by decide) (by decide)) dX1_layRows_7 (fun u2 eu2 => ?_)
  have h := h u2 eu2
  refine zt_tok G (fun hu2 => ?_)
  refine zv_aload_n G rfl rfl dX1_layRows_10 ?_
  refine zt_get (k := 64) (v := ar (D.ad 64 + 1)) G (by decide) q2219 rfl dX1_layRows_11 ?_
  refine zv_iconst (a := 0) G (by decide) dX1_layRows_14 ?_
  refine zv_iconst (a := 0) G (by decide) dX1_layRows_15 ?_
  refine zt_iast (f := 64) G (by decide) rfl (zr_k 0 (by decide) (by decide)) (zr_k 0 (by decide) (by decide)) (by omega) (by decide) dX1_layRows_16 (fun u3 eu3 => ?_)
  have h := h u3 eu3
  refine zt_tok G (fun hu3 => ?_)
  refine zv_iconst (a := 0) G (by decide) dX1_layRows_17 ?_
  refine zv_istore_n G rfl (by decide) rfl dX1_layRows_18 ?_
  exact zv_pick [0, 1, 2, 3] rfl (cpT_layRows_19 G M S hk rx1 rx2 (zr_k 0 (by decide) (by decide)) h)
set_option maxHeartbeats 4000000 in
set_option maxRecDepth 100000 in
theorem cpT_layKnown_117 {Γ : ZG TW} {D : TD} {B0 d : Nat} {lim : Nat × Nat} (G : ZOk Γ cX1_layKnown RX1 4 (KnT D B0) (ZT D B0)) (M : ZRm Γ (d + 1) lim none "layKnown" []) (S : SdT d D B0 Γ.l lim) (hk : 0 ≤ d) {w : TW} (h : pT_layKnown_117 (wpT d) (fun w => Γ.Q (.inl none) w) w) : ZV Γ w 117 [] [] := by
  refine zt_tok G (fun hw => ?_)
  exact zv_vret G M dX1_layKnown_117 h
set_option maxHeartbeats 4000000 in
set_option maxRecDepth 100000 in
theorem cpT_layKnown_107 {Γ : ZG TW} {D : TD} {B0 d : Nat} {lim : Nat × Nat} (G : ZOk Γ cX1_layKnown RX1 4 (KnT D B0) (ZT D B0)) (M : ZRm Γ (d + 1) lim none "layKnown" []) (S : SdT d D B0 Γ.l lim) (hk : 0 ≤ d) {I29 : Int → TW → Prop} {x2 : Int} {w : TW} (hI29 : ∀ (x2 : Int) (w : TW), I29 x2 w → zr x2 → ZV Γ w 29 [(0, ar (D.x + 1)), (2, ai x2)] []) (rx2 : zr x2) (h : pT_layKnown_107 (wpT d) (fun w => Γ.Q (.inl none) w) I29 x2 w) : ZV Γ w 107 [(0, ar (D.x + 1)), (2, ai x2)] [] := by
  refine zt_tok G (fun hw => ?_)
  refine zv_aload_n G rfl rfl dX1_layKnown_107 ?_
  refine zt_get (k := 85) (v := ar (D.ad 85 + 1)) G (by decide) q2240 rfl dX1_layKnown_108 ?_
  refine zv_iload_n G rfl rfl dX1_layKnown_111 ?_
  have o15 := h.1
  have h := h.2
  refine zt_iald (f := 85) G (by decide) rfl rx2 o15.1 o15.2 dX1_layKnown_112 ?_
  refine zv_istore_nN G rfl (by decide) dX1_layKnown_113 (fun x2_16 ex2_16 => ?_)
  have h := h x2_16 ex2_16
  have rx2_16 : zr x2_16 := by rw [ex2_16]; exact (hw.a 85 _ (by decide))
  refine zv_goto (tgt := 29) G (by decide) dX1_layKnown_114 ?_
  exact zv_pick [0, 2] rfl (hI29 _ _ h rx2_16)
set_option maxHeartbeats 4000000 in
set_option maxRecDepth 100000 in
theorem cpT_layKnown_29 {Γ : ZG TW} {D : TD} {B0 d : Nat} {lim : Nat × Nat} (G : ZOk Γ cX1_layKnown RX1 4 (KnT D B0) (ZT D B0)) (M : ZRm Γ (d + 1) lim none "layKnown" []) (S : SdT d D B0 Γ.l lim) (hk : 0 ≤ d) {x2 : Int} {w : TW} (rx2 : zr x2) (h : pT_layKnown_29 (wpT d) (fun w => Γ.Q (.inl none) w) x2 w) : ZV Γ w 29 [(0, ar (D.x + 1)), (2, ai x2)] [] := by
  refine h (fun x2 w => zr x2 → ZV Γ w 29 [(0, ar (D.x + 1)), (2, ai x2)] []) ?_ rx2
  clear h
  intro x2 w h rx2
  have hI29 : ∀ (x2 : Int) (w : TW), (fun x2 w => zr x2 → ZV Γ w 29 [(0, ar (D.x + 1)), (2, ai x2)] []) x2 w → zr x2 → ZV Γ w 29 [(0, ar (D.x + 1)), (2, ai x2)] [] := fun _ _ z => z
  refine zt_tok G (fun hw => ?_)
  refine zv_aload_n G rfl rfl dX1_layKnown_29 ?_
  refine zt_get (k := 85) (v := ar (D.ad 85 + 1)) G (by decide) q2240 rfl dX1_layKnown_30 ?_
  refine zv_iload_n G rfl rfl dX1_layKnown_33 ?_
  have o3 := h.1
  have h := h.2
  refine zt_iald (f := 85) G (by decide) rfl rx2 o3.1 o3.2 dX1_layKnown_34 ?_
  refine zv_bipush (a := (-4)) G (by decide) dX1_layKnown_35 ?_
  refine zv_icmp_eq (tgt := 117) G (hw.a 85 _ (by decide)) (zr_k (-4) (by decide) (by decide)) (by decide) dX1_layKnown_37 (fun c4 => ?_) (fun c4 => ?_)
  · have h := h.1 c4
    exact zv_pick [] rfl (cpT_layKnown_117 G M S hk h)
  · have h := h.2 c4
    refine zv_aload_n G rfl rfl dX1_layKnown_40 ?_
    refine zt_get (k := 85) (v := ar (D.ad 85 + 1)) G (by decide) q2240 rfl dX1_layKnown_41 ?_
    refine zv_iload_n G rfl rfl dX1_layKnown_44 ?_
    have o5 := h.1
    have h := h.2
    refine zt_iald (f := 85) G (by decide) rfl rx2 o5.1 o5.2 dX1_layKnown_45 ?_
    refine zv_istore_nN G rfl (by decide) dX1_layKnown_46 (fun x3_6 ex3_6 => ?_)
    have h := h x3_6 ex3_6
    have rx3_6 : zr x3_6 := by rw [ex3_6]; exact (hw.a 85 _ (by decide))
    refine zv_aload_n G rfl rfl dX1_layKnown_47 ?_
    refine zt_get (k := 80) (v := ar (D.ad 80 + 1)) G (by decide) q2235 rfl dX1_layKnown_48 ?_
    refine zv_iload_n G rfl rfl dX1_layKnown_51 ?_
    have o7 := h.1
    have h := h.2
    refine zt_iald (f := 80) G (by decide) rfl rx3_6 o7.1 o7.2 dX1_layKnown_52 ?_
    refine zv_iconst (a := 2) G (by decide) dX1_layKnown_53 ?_
    refine zv_icmp_ne (tgt := 72) G (hw.a 80 _ (by decide)) (zr_k 2 (by decide) (by decide)) (by decide) dX1_layKnown_54 (fun c8 => ?_) (fun c8 => ?_)
    · have h := h.2 c8
      refine zv_aload_n G rfl rfl dX1_layKnown_72 ?_
      refine zt_get (k := 106) (v := ar (D.ad 106 + 1)) G (by decide) q2261 rfl dX1_layKnown_73 ?_
      refine zv_aload_n G rfl rfl dX1_layKnown_76 ?_
      refine zt_get (k := 105) (v := ai (tI w 105)) G (by decide) q2260 rfl dX1_layKnown_77 ?_
      refine zv_aload_n G rfl rfl dX1_layKnown_80 ?_
      refine zt_get (k := 83) (v := ar (D.ad 83 + 1)) G (by decide) q2238 rfl dX1_layKnown_81 ?_
      refine zv_iload_n G rfl rfl dX1_layKnown_84 ?_
      have o9 := h.1
      have h := h.2
      refine zt_iald (f := 83) G (by decide) rfl rx3_6 o9.1 o9.2 dX1_layKnown_85 ?_
      have o11 := h.1
      have h := h.2
      refine zt_iast (f := 106) G (by decide) rfl (hw.i 105 (by decide)) (hw.a 83 _ (by decide)) o11.1 o11.2 dX1_layKnown_86 (fun u10 eu10 => ?_)
      have h := h u10 eu10
      refine zt_tok G (fun hu10 => ?_)
      refine zv_aload_n G rfl rfl dX1_layKnown_87 ?_
      refine zt_get (k := 107) (v := ar (D.ad 107 + 1)) G (by decide) q2262 rfl dX1_layKnown_88 ?_
      refine zv_aload_n G rfl rfl dX1_layKnown_91 ?_
      refine zt_get (k := 105) (v := ai (tI u10 105)) G (by decide) q2260 rfl dX1_layKnown_92 ?_
      refine zv_iload_n G rfl rfl dX1_layKnown_95 ?_
      have o13 := h.1
      have h := h.2
      refine zt_iast (f := 107) G (by decide) rfl (hu10.i 105 (by decide)) rx2 o13.1 o13.2 dX1_layKnown_96 (fun u12 eu12 => ?_)
      have h := h u12 eu12
      refine zt_tok G (fun hu12 => ?_)
      refine zv_aload_n G rfl rfl dX1_layKnown_97 ?_
      refine zv_dup G rfl dX1_layKnown_98 ?_
      refine zt_get (k := 105) (v := ai (tI u12 105)) G (by decide) q2260 rfl dX1_layKnown_99 ?_
      refine zv_iconst (a := 1) G (by decide) dX1_layKnown_102 ?_
      refine zv_iadd G dX1_layKnown_103 ?_
      refine zt_putI (k := 105) G (by decide) q2260 rfl (tyX1_ok 105 (by decide)) rfl (w32_r _) dX1_layKnown_104 (fun u14 eu14 => ?_)
      have h := h u14 eu14
      refine zt_tok G (fun hu14 => ?_)
      exact zv_pick [0, 2] rfl (cpT_layKnown_107 G M S hk hI29 rx2 h)
    · have h := h.1 c8
      refine zv_aload_n G rfl rfl dX1_layKnown_57 ?_
      refine zt_get (k := 108) (v := ar (D.ad 108 + 1)) G (by decide) q2263 rfl dX1_layKnown_58 ?_
      refine zv_aload_n G rfl rfl dX1_layKnown_61 ?_
      refine zt_get (k := 81) (v := ar (D.ad 81 + 1)) G (by decide) q2236 rfl dX1_layKnown_62 ?_
      refine zv_iload_n G rfl rfl dX1_layKnown_65 ?_
      have o17 := h.1
      have h := h.2
      refine zt_iald (f := 81) G (by decide) rfl rx3_6 o17.1 o17.2 dX1_layKnown_66 ?_
      refine zv_iconst (a := 1) G (by decide) dX1_layKnown_67 ?_
      have o19 := h.1
      have h := h.2
      refine zt_zast (f := 108) G (by decide) rfl (hw.a 81 _ (by decide)) o19.1 o19.2 dX1_layKnown_68 (fun u18 eu18 => ?_)
      have h := h u18 eu18
      refine zt_tok G (fun hu18 => ?_)
      refine zv_goto (tgt := 107) G (by decide) dX1_layKnown_69 ?_
      exact zv_pick [0, 2] rfl (cpT_layKnown_107 G M S hk hI29 rx2 h)
set_option maxHeartbeats 4000000 in
set_option maxRecDepth 100000 in
theorem cpT_layKnown_27 {Γ : ZG TW} {D : TD} {B0 d : Nat} {lim : Nat × Nat} (G : ZOk Γ cX1_layKnown RX1 4 (KnT D B0) (ZT D B0)) (M : ZRm Γ (d + 1) lim none "layKnown" []) (S : SdT d D B0 Γ.l lim) (hk : 0 ≤ d) {x1 : Int} {w : TW} (rx1 : zr x1) (h : pT_layKnown_27 (wpT d) (fun w => Γ.Q (.inl none) w) x1 w) : ZV Γ w 27 [(0, ar (D.x + 1)), (1, ai x1)] [] := by
  refine zt_tok G (fun hw => ?_)
  refine zv_iload_n G rfl rfl dX1_layKnown_27 ?_
  refine zv_istore_n G rfl (by decide) rfl dX1_layKnown_28 ?_
  exact zv_pick [0, 2] rfl (cpT_layKnown_29 G M S hk rx1 h)
set_option maxHeartbeats 4000000 in
set_option maxRecDepth 100000 in
theorem cpT_layKnown_7 {Γ : ZG TW} {D : TD} {B0 d : Nat} {lim : Nat × Nat} (G : ZOk Γ cX1_layKnown RX1 4 (KnT D B0) (ZT D B0)) (M : ZRm Γ (d + 1) lim none "layKnown" []) (S : SdT d D B0 Γ.l lim) (hk : 0 ≤ d) {x1 : Int} {x2 : Int} {w : TW} (rx1 : zr x1) (rx2 : zr x2) (h : pT_layKnown_7 (wpT d) (fun w => Γ.Q (.inl none) w) x1 x2 w) : ZV Γ w 7 [(0, ar (D.x + 1)), (1, ai x1), (2, ai x2)] [] := by
  refine h (fun x2 w => zr x2 → ZV Γ w 7 [(0, ar (D.x + 1)), (1, ai x1), (2, ai x2)] []) ?_ rx2
  clear h
  intro x2 w h rx2
  have hI7 : ∀ (x2 : Int) (w : TW), (fun x2 w => zr x2 → ZV Γ w 7 [(0, ar (D.x + 1)), (1, ai x1), (2, ai x2)] []) x2 w → zr x2 → ZV Γ w 7 [(0, ar (D.x + 1)), (1, ai x1), (2, ai x2)] [] := fun _ _ z => z
  refine zt_tok G (fun hw => ?_)
  refine zv_iload_n G rfl rfl dX1_layKnown_7 ?_
  refine zv_sipush (a := 192) G (by decide) dX1_layKnown_8 ?_
  refine zv_icmp_ge (tgt := 27) G rx2 (zr_k 192 (by decide) (by decide)) (by decide) dX1_layKnown_11 (fun c2 => ?_) (fun c2 => ?_)
  · have h := h.1 c2
    exact zv_pick [0, 1] rfl (cpT_layKnown_27 G M S hk rx1 h)
  · have h := h.2 c2
    refine zv_aload_n G rfl rfl dX1_layKnown_14 ?_
    refine zt_get (k := 108) (v := ar (D.ad 108 + 1)) G (by decide) q2263 rfl dX1_layKnown_15 ?_
    refine zv_iload_n G rfl rfl dX1_layKnown_18 ?_
    refine zv_iconst (a := 0) G (by decide) dX1_layKnown_19 ?_
    have o21 := h.1
    have h := h.2
    refine zt_zast (f := 108) G (by decide) rfl rx2 o21.1 o21.2 dX1_layKnown_20 (fun u20 eu20 => ?_)
    have h := h u20 eu20
    refine zt_tok G (fun hu20 => ?_)
    refine zv_iincN G rfl (by decide) dX1_layKnown_21 (fun x2_22 ex2_22 => ?_)
    have h := h x2_22 ex2_22
    have rx2_22 : zr x2_22 := by rw [ex2_22]; exact w32_r _
    refine zv_goto (tgt := 7) G (by decide) dX1_layKnown_24 ?_
    exact zv_pick [0, 1, 2] rfl (hI7 _ _ h rx2_22)
set_option maxHeartbeats 4000000 in
set_option maxRecDepth 100000 in
theorem cpT_layKnown_0 {Γ : ZG TW} {D : TD} {B0 d : Nat} {lim : Nat × Nat} (G : ZOk Γ cX1_layKnown RX1 4 (KnT D B0) (ZT D B0)) (M : ZRm Γ (d + 1) lim none "layKnown" []) (S : SdT d D B0 Γ.l lim) (hk : 0 ≤ d) {x1 : Int} {w : TW} (rx1 : zr x1) (h : pT_layKnown_0 (wpT d) (fun w => Γ.Q (.inl none) w) x1 w) : ZV Γ w 0 [(0, ar (D.x + 1)), (1, ai x1)] [] := by
  refine zt_tok G (fun hw => ?_)
  refine zv_aload_n G rfl rfl dX1_layKnown_0 ?_
  refine zv_iconst (a := 0) G (by decide) dX1_layKnown_1 ?_
  refine zt_putI (k := 105) G (by decide) q2260 rfl (tyX1_ok 105 (by decide)) rfl (zr_k 0 (by decide) (by decide)) dX1_layKnown_2 (fun u1 eu1 => ?_)
  have h := h u1 eu1
  refine zt_tok G (fun hu1 => ?_)
  refine zv_iconst (a := 0) G (by decide) dX1_layKnown_5 ?_
  refine zv_istore_n G rfl (by decide) rfl dX1_layKnown_6 ?_
  exact zv_pick [0, 1, 2] rfl (cpT_layKnown_7 G M S hk rx1 (zr_k 0 (by decide) (by decide)) h)
set_option maxHeartbeats 4000000 in
set_option maxRecDepth 100000 in
theorem cpT_stands_254 {Γ : ZG TW} {D : TD} {B0 d : Nat} {lim : Nat × Nat} (G : ZOk Γ cX1_stands RX1 5 (KnT D B0) (ZT D B0)) (M : ZRm Γ (d + 1) lim (some .int) "stands" []) (S : SdT d D B0 Γ.l lim) (hk : 0 ≤ d) {x4 : Int} {w : TW} (rx4 : zr x4) (h : pT_stands_254 (wpT d) (fun v w => Γ.Q (.inl (some (ai v))) w) x4 w) : ZV Γ w 254 [(4, ai x4)] [] := by
  refine zt_tok G (fun hw => ?_)
  refine zv_iload G rfl dX1_stands_254 ?_
  have kj9 : ∀ v8 : Int, v8 = (if ¬ (x4 = 0) then 1 else 2) → ZV Γ w 264 [(4, ai x4)] (ai v8 :: []) := by
    intro v8 ev8
    have h := h v8 ev8
    have rv8 : zr v8 := by rw [ev8]; exact (zr_ite (zr_k 1 (by decide) (by decide)) (zr_k 2 (by decide) (by decide)))
    exact zv_iret (ty := .int) rv8 G M rfl dX1_stands_264 h
  refine zv_if_eq (tgt := 263) G rx4 (by decide) dX1_stands_256 (fun c10 => ?_) (fun c10 => ?_)
  · refine zv_iconst (a := 2) G (by decide) dX1_stands_263 ?_
    exact kj9 _ (if_neg (fun q => q c10)).symm
  · refine zv_iconst (a := 1) G (by decide) dX1_stands_259 ?_
    refine zv_goto (tgt := 264) G (by decide) dX1_stands_260 ?_
    exact kj9 _ (if_pos c10).symm
set_option maxHeartbeats 4000000 in
set_option maxRecDepth 100000 in
theorem cpT_stands_252 {Γ : ZG TW} {D : TD} {B0 d : Nat} {lim : Nat × Nat} (G : ZOk Γ cX1_stands RX1 5 (KnT D B0) (ZT D B0)) (M : ZRm Γ (d + 1) lim (some .int) "stands" []) (S : SdT d D B0 Γ.l lim) (hk : 0 ≤ d) {s0 : Int} {w : TW} (rs0 : zr s0) (h : pT_stands_252 (wpT d) (fun v w => Γ.Q (.inl (some (ai v))) w) s0 w) : ZV Γ w 252 [] [ai s0] := by
  refine zt_tok G (fun hw => ?_)
  refine zv_istore G (by decide) rfl dX1_stands_252 ?_
  exact zv_pick [4] rfl (cpT_stands_254 G M S hk rs0 h)
set_option maxHeartbeats 4000000 in
set_option maxRecDepth 100000 in
theorem cpT_stands_251 {Γ : ZG TW} {D : TD} {B0 d : Nat} {lim : Nat × Nat} (G : ZOk Γ cX1_stands RX1 5 (KnT D B0) (ZT D B0)) (M : ZRm Γ (d + 1) lim (some .int) "stands" []) (S : SdT d D B0 Γ.l lim) (hk : 0 ≤ d) {w : TW} (h : pT_stands_251 (wpT d) (fun v w => Γ.Q (.inl (some (ai v))) w) w) : ZV Γ w 251 [] [] := by
  refine zt_tok G (fun hw => ?_)
  refine zv_iconst (a := 0) G (by decide) dX1_stands_251 ?_
  exact zv_pick [] rfl (cpT_stands_252 G M S hk (zr_k 0 (by decide) (by decide)) h)
set_option maxHeartbeats 4000000 in
set_option maxRecDepth 100000 in
theorem cpT_stands_45 {Γ : ZG TW} {D : TD} {B0 d : Nat} {lim : Nat × Nat} (G : ZOk Γ cX1_stands RX1 5 (KnT D B0) (ZT D B0)) (M : ZRm Γ (d + 1) lim (some .int) "stands" []) (S : SdT d D B0 Γ.l lim) (hk : 0 ≤ d) {x1 : Int} {x2 : Int} {w : TW} (rx1 : zr x1) (rx2 : zr x2) (h : pT_stands_45 (wpT d) (fun v w => Γ.Q (.inl (some (ai v))) w) x1 x2 w) : ZV Γ w 45 [(0, ar (D.x + 1)), (1, ai x1), (2, ai x2)] [] := by
  refine zt_tok G (fun hw => ?_)
  refine zv_iload_n G rfl rfl dX1_stands_45 ?_
  refine zv_bipush (a := (-4)) G (by decide) dX1_stands_46 ?_
  refine zv_icmp_ne (tgt := 53) G rx2 (zr_k (-4) (by decide) (by decide)) (by decide) dX1_stands_48 (fun c2 => ?_) (fun c2 => ?_)
  · have h := h.2 c2
    refine zv_aload_n G rfl rfl dX1_stands_53 ?_
    refine zt_get (k := 68) (v := ar (D.ad 68 + 1)) G (by decide) q2223 rfl dX1_stands_54 ?_
    refine zv_iload_n G rfl rfl dX1_stands_57 ?_
    have o3 := h.1
    have h := h.2
    refine zt_iald (f := 68) G (by decide) rfl rx1 o3.1 o3.2 dX1_stands_58 ?_
    refine zv_istore_nN G rfl (by decide) dX1_stands_59 (fun x3_4 ex3_4 => ?_)
    have h := h x3_4 ex3_4
    have rx3_4 : zr x3_4 := by rw [ex3_4]; exact (hw.a 68 _ (by decide))
    refine zv_aload_n G rfl rfl dX1_stands_60 ?_
    refine zt_get (k := 66) (v := ar (D.ad 66 + 1)) G (by decide) q2221 rfl dX1_stands_61 ?_
    refine zv_iload_n G rfl rfl dX1_stands_64 ?_
    have o5 := h.1
    have h := h.2
    refine zt_iald (f := 66) G (by decide) rfl rx1 o5.1 o5.2 dX1_stands_65 ?_
    by_cases c23 : (tA w 66 x1) = 1
    · have h := h.1 c23
      refine zv_tswI (tgt := 96) G dX1_stands_66 0 (hw.a 66 _ (by decide)) (by omega) (by omega) rfl (by decide) ?_
      refine zv_aload_n G rfl rfl dX1_stands_96 ?_
      refine zt_get (k := 89) (v := ar (D.ad 89 + 1)) G (by decide) q2244 rfl dX1_stands_97 ?_
      refine zv_iload_n G rfl rfl dX1_stands_100 ?_
      have o16 := h.1
      have h := h.2
      refine zt_iald (f := 89) G (by decide) rfl rx2 o16.1 o16.2 dX1_stands_101 ?_
      refine zv_aload_n G rfl rfl dX1_stands_102 ?_
      refine zt_get (k := 19) (v := ar (D.ad 19 + 1)) G (by decide) q2174 rfl dX1_stands_103 ?_
      refine zv_iload_n G rfl rfl dX1_stands_106 ?_
      have o17 := h.1
      have h := h.2
      refine zt_iald (f := 19) G (by decide) rfl rx3_4 o17.1 o17.2 dX1_stands_107 ?_
      have o19 := h.1
      have h := h.2
      have kj20 : ∀ v18 : Int, v18 = (if ¬ ((tA w 89 x2) < (tA w 19 x3_4)) ∧ (¬ ((tA w 20 x3_4) < (tA w 90 x2))) then 1 else 0) → ZV Γ w 131 [(3, ai x3_4), (0, ar (D.x + 1)), (1, ai x1), (2, ai x2)] (ai v18 :: []) := by
        intro v18 ev18
        have h := h v18 ev18
        have rv18 : zr v18 := by rw [ev18]; exact (zr_ite (zr_k 1 (by decide) (by decide)) (zr_k 0 (by decide) (by decide)))
        have bv18 : v18 = 0 ∨ v18 = 1 := by rw [ev18]; exact (zb_ite (Or.inr rfl) (Or.inl rfl))
        refine zv_istore G (by decide) rfl dX1_stands_131 ?_
        refine zv_goto (tgt := 254) G (by decide) dX1_stands_133 ?_
        exact zv_pick [4] rfl (cpT_stands_254 G M S hk rv18 h)
      refine zv_icmp_lt (tgt := 130) G (hw.a 89 _ (by decide)) (hw.a 19 _ (by decide)) (by decide) dX1_stands_108 (fun c21 => ?_) (fun c21 => ?_)
      · refine zv_iconst (a := 0) G (by decide) dX1_stands_130 ?_
        exact kj20 _ (if_neg (fun q => q.1 c21)).symm
      · refine zv_aload_n G rfl rfl dX1_stands_111 ?_
        refine zt_get (k := 90) (v := ar (D.ad 90 + 1)) G (by decide) q2245 rfl dX1_stands_112 ?_
        refine zv_iload_n G rfl rfl dX1_stands_115 ?_
        refine zt_iald (f := 90) G (by decide) rfl rx2 (o19 c21).1.1 (o19 c21).1.2 dX1_stands_116 ?_
        refine zv_aload_n G rfl rfl dX1_stands_117 ?_
        refine zt_get (k := 20) (v := ar (D.ad 20 + 1)) G (by decide) q2175 rfl dX1_stands_118 ?_
        refine zv_iload_n G rfl rfl dX1_stands_121 ?_
        refine zt_iald (f := 20) G (by decide) rfl rx3_4 (o19 c21).2.1 (o19 c21).2.2 dX1_stands_122 ?_
        refine zv_icmp_gt (tgt := 130) G (hw.a 90 _ (by decide)) (hw.a 20 _ (by decide)) (by decide) dX1_stands_123 (fun c22 => ?_) (fun c22 => ?_)
        · refine zv_iconst (a := 0) G (by decide) dX1_stands_130 ?_
          exact kj20 _ (if_neg (fun q => (fun q => q c22) q.2)).symm
        · refine zv_iconst (a := 1) G (by decide) dX1_stands_126 ?_
          refine zv_goto (tgt := 131) G (by decide) dX1_stands_127 ?_
          exact kj20 _ (if_pos ⟨c21, c22⟩).symm
    by_cases c29 : (tA w 66 x1) = 2
    · have h := h.2.1 c29
      refine zv_tswI (tgt := 136) G dX1_stands_66 1 (hw.a 66 _ (by decide)) (by omega) (by omega) rfl (by decide) ?_
      refine zv_aload_n G rfl rfl dX1_stands_136 ?_
      refine zt_get (k := 89) (v := ar (D.ad 89 + 1)) G (by decide) q2244 rfl dX1_stands_137 ?_
      refine zv_iload_n G rfl rfl dX1_stands_140 ?_
      have o24 := h.1
      have h := h.2
      refine zt_iald (f := 89) G (by decide) rfl rx2 o24.1 o24.2 dX1_stands_141 ?_
      refine zv_aload_n G rfl rfl dX1_stands_142 ?_
      refine zt_get (k := 19) (v := ar (D.ad 19 + 1)) G (by decide) q2174 rfl dX1_stands_143 ?_
      refine zv_iload_n G rfl rfl dX1_stands_146 ?_
      have o25 := h.1
      have h := h.2
      refine zt_iald (f := 19) G (by decide) rfl rx3_4 o25.1 o25.2 dX1_stands_147 ?_
      have kj27 : ∀ v26 : Int, v26 = (if (tA w 89 x2) = (tA w 19 x3_4) then 1 else 0) → ZV Γ w 156 [(3, ai x3_4), (0, ar (D.x + 1)), (1, ai x1), (2, ai x2)] (ai v26 :: []) := by
        intro v26 ev26
        have h := h v26 ev26
        have rv26 : zr v26 := by rw [ev26]; exact (zr_ite (zr_k 1 (by decide) (by decide)) (zr_k 0 (by decide) (by decide)))
        have bv26 : v26 = 0 ∨ v26 = 1 := by rw [ev26]; exact (zb_ite (Or.inr rfl) (Or.inl rfl))
        refine zv_istore G (by decide) rfl dX1_stands_156 ?_
        refine zv_goto (tgt := 254) G (by decide) dX1_stands_158 ?_
        exact zv_pick [4] rfl (cpT_stands_254 G M S hk rv26 h)
      refine zv_icmp_ne (tgt := 155) G (hw.a 89 _ (by decide)) (hw.a 19 _ (by decide)) (by decide) dX1_stands_148 (fun c28 => ?_) (fun c28 => ?_)
      · refine zv_iconst (a := 0) G (by decide) dX1_stands_155 ?_
        exact kj27 _ (if_neg c28).symm
      · refine zv_iconst (a := 1) G (by decide) dX1_stands_151 ?_
        refine zv_goto (tgt := 156) G (by decide) dX1_stands_152 ?_
        exact kj27 _ (if_pos c28).symm
    by_cases c36 : (tA w 66 x1) = 3
    · have h := h.2.2.1 c36
      refine zv_tswI (tgt := 161) G dX1_stands_66 2 (hw.a 66 _ (by decide)) (by omega) (by omega) rfl (by decide) ?_
      refine zv_aload_n G rfl rfl dX1_stands_161 ?_
      refine zt_get (k := 92) (v := ar (D.ad 92 + 1)) G (by decide) q2247 rfl dX1_stands_162 ?_
      refine zv_iload_n G rfl rfl dX1_stands_165 ?_
      have o30 := h.1
      have h := h.2
      refine zt_zald (f := 92) G (by decide) rfl rx2 o30.1 o30.2 dX1_stands_166 ?_
      have o32 := h.1
      have h := h.2
      have kj33 : ∀ v31 : Int, v31 = (if ((tA w 92 x2) = 0) ∧ ((tA w 91 x2) = (tA w 21 x3_4)) then 1 else 0) → ZV Γ w 191 [(3, ai x3_4), (0, ar (D.x + 1)), (1, ai x1), (2, ai x2)] (ai v31 :: []) := by
        intro v31 ev31
        have h := h v31 ev31
        have rv31 : zr v31 := by rw [ev31]; exact (zr_ite (zr_k 1 (by decide) (by decide)) (zr_k 0 (by decide) (by decide)))
        have bv31 : v31 = 0 ∨ v31 = 1 := by rw [ev31]; exact (zb_ite (Or.inr rfl) (Or.inl rfl))
        refine zv_istore G (by decide) rfl dX1_stands_191 ?_
        refine zv_goto (tgt := 254) G (by decide) dX1_stands_193 ?_
        exact zv_pick [4] rfl (cpT_stands_254 G M S hk rv31 h)
      refine zv_if_ne (tgt := 190) G (hw.a 92 _ (by decide)) (by decide) dX1_stands_167 (fun c34 => ?_) (fun c34 => ?_)
      · refine zv_iconst (a := 0) G (by decide) dX1_stands_190 ?_
        exact kj33 _ (if_neg (fun q => c34 q.1)).symm
      · refine zv_aload_n G rfl rfl dX1_stands_170 ?_
        refine zt_get (k := 91) (v := ar (D.ad 91 + 1)) G (by decide) q2246 rfl dX1_stands_171 ?_
        refine zv_iload_n G rfl rfl dX1_stands_174 ?_
        refine zt_lald (f := 91) G (by decide) rfl rx2 (o32 c34).1.1 (o32 c34).1.2 dX1_stands_175 ?_
        refine zv_aload_n G rfl rfl dX1_stands_176 ?_
        refine zt_get (k := 21) (v := ar (D.ad 21 + 1)) G (by decide) q2176 rfl dX1_stands_177 ?_
        refine zv_iload_n G rfl rfl dX1_stands_180 ?_
        refine zt_lald (f := 21) G (by decide) rfl rx3_4 (o32 c34).2.1 (o32 c34).2.2 dX1_stands_181 ?_
        refine zv_lcmp G (hw.al 91 _ (by decide)) (hw.al 21 _ (by decide)) dX1_stands_182 ?_
        refine zv_lif_ne (tgt := 190) G (by decide) dX1_stands_183 (fun c35 => ?_) (fun c35 => ?_)
        · refine zv_iconst (a := 0) G (by decide) dX1_stands_190 ?_
          exact kj33 _ (if_neg (fun q => c35 q.2)).symm
        · refine zv_iconst (a := 1) G (by decide) dX1_stands_186 ?_
          refine zv_goto (tgt := 191) G (by decide) dX1_stands_187 ?_
          exact kj33 _ (if_pos ⟨c34, c35⟩).symm
    by_cases c41 : (tA w 66 x1) = 4
    · have h := h.2.2.2.1 c41
      refine zv_tswI (tgt := 196) G dX1_stands_66 3 (hw.a 66 _ (by decide)) (by omega) (by omega) rfl (by decide) ?_
      refine zv_aload_n G rfl rfl dX1_stands_196 ?_
      refine zt_get (k := 89) (v := ar (D.ad 89 + 1)) G (by decide) q2244 rfl dX1_stands_197 ?_
      refine zv_iload_n G rfl rfl dX1_stands_200 ?_
      have o37 := h.1
      have h := h.2
      refine zt_iald (f := 89) G (by decide) rfl rx2 o37.1 o37.2 dX1_stands_201 ?_
      refine zv_bipush (a := (-4)) G (by decide) dX1_stands_202 ?_
      have kj39 : ∀ v38 : Int, v38 = (if (tA w 89 x2) = (-4) then 1 else 0) → ZV Γ w 212 [(3, ai x3_4), (0, ar (D.x + 1)), (1, ai x1), (2, ai x2)] (ai v38 :: []) := by
        intro v38 ev38
        have h := h v38 ev38
        have rv38 : zr v38 := by rw [ev38]; exact (zr_ite (zr_k 1 (by decide) (by decide)) (zr_k 0 (by decide) (by decide)))
        have bv38 : v38 = 0 ∨ v38 = 1 := by rw [ev38]; exact (zb_ite (Or.inr rfl) (Or.inl rfl))
        refine zv_istore G (by decide) rfl dX1_stands_212 ?_
        refine zv_goto (tgt := 254) G (by decide) dX1_stands_214 ?_
        exact zv_pick [4] rfl (cpT_stands_254 G M S hk rv38 h)
      refine zv_icmp_ne (tgt := 211) G (hw.a 89 _ (by decide)) (zr_k (-4) (by decide) (by decide)) (by decide) dX1_stands_204 (fun c40 => ?_) (fun c40 => ?_)
      · refine zv_iconst (a := 0) G (by decide) dX1_stands_211 ?_
        exact kj39 _ (if_neg c40).symm
      · refine zv_iconst (a := 1) G (by decide) dX1_stands_207 ?_
        refine zv_goto (tgt := 212) G (by decide) dX1_stands_208 ?_
        exact kj39 _ (if_pos c40).symm
    have h := h.2.2.2.2 c23 c29 c36 c41
    refine zv_tswO (tgt := 217) G dX1_stands_66 (hw.a 66 _ (by decide)) (by omega) (by decide) ?_
    refine zv_aload_n G rfl rfl dX1_stands_217 ?_
    refine zt_get (k := 89) (v := ar (D.ad 89 + 1)) G (by decide) q2244 rfl dX1_stands_218 ?_
    refine zv_iload_n G rfl rfl dX1_stands_221 ?_
    have o6 := h.1
    have h := h.2
    refine zt_iald (f := 89) G (by decide) rfl rx2 o6.1 o6.2 dX1_stands_222 ?_
    refine zv_bipush (a := (-4)) G (by decide) dX1_stands_223 ?_
    refine zv_icmp_eq (tgt := 251) G (hw.a 89 _ (by decide)) (zr_k (-4) (by decide) (by decide)) (by decide) dX1_stands_225 (fun c7 => ?_) (fun c7 => ?_)
    · have h := h.1 c7
      exact zv_pick [] rfl (cpT_stands_251 G M S hk h)
    · have h := h.2 c7
      refine zv_aload_n G rfl rfl dX1_stands_228 ?_
      refine zv_aload_n G rfl rfl dX1_stands_229 ?_
      refine zt_get (k := 89) (v := ar (D.ad 89 + 1)) G (by decide) q2244 rfl dX1_stands_230 ?_
      refine zv_iload_n G rfl rfl dX1_stands_233 ?_
      have o11 := h.1
      have h := h.2
      refine zt_iald (f := 89) G (by decide) rfl rx2 o11.1 o11.2 dX1_stands_234 ?_
      refine zv_aload_n G rfl rfl dX1_stands_235 ?_
      refine zt_get (k := 19) (v := ar (D.ad 19 + 1)) G (by decide) q2174 rfl dX1_stands_236 ?_
      refine zv_iload_n G rfl rfl dX1_stands_239 ?_
      have o12 := h.1
      have h := h.2
      refine zt_iald (f := 19) G (by decide) rfl rx3_4 o12.1 o12.2 dX1_stands_240 ?_
      refine zt_callI (as := [ai (tA w 89 x2), ai (tA w 19 x3_4)]) G M (S 26 _ rfl _ _ _ h (zoks_cons (hw.a 89 _ (by decide)) (zoks_cons (hw.a 19 _ (by decide)) zoks_nil))) q2670 q2672 qs87 q2673 md_isOf rfl (by decide) (Nat.le_of_ble_eq_true rfl) dX1_stands_241 (fun v14 u13 rv14 h => ?_)
      refine zt_tok G (fun hu13 => ?_)
      refine zv_if_eq (tgt := 251) G rv14 (by decide) dX1_stands_244 (fun c15 => ?_) (fun c15 => ?_)
      · have h := h.1 c15
        exact zv_pick [] rfl (cpT_stands_251 G M S hk h)
      · have h := h.2 c15
        refine zv_iconst (a := 1) G (by decide) dX1_stands_247 ?_
        refine zv_goto (tgt := 252) G (by decide) dX1_stands_248 ?_
        exact zv_pick [] rfl (cpT_stands_252 G M S hk (zr_k 1 (by decide) (by decide)) h)
  · have h := h.1 c2
    refine zv_iconst (a := 0) G (by decide) dX1_stands_51 ?_
    exact zv_iret (ty := .int) (zr_k 0 (by decide) (by decide)) G M rfl dX1_stands_52 h
set_option maxHeartbeats 4000000 in
set_option maxRecDepth 100000 in
theorem cpT_stands_5 {Γ : ZG TW} {D : TD} {B0 d : Nat} {lim : Nat × Nat} (G : ZOk Γ cX1_stands RX1 5 (KnT D B0) (ZT D B0)) (M : ZRm Γ (d + 1) lim (some .int) "stands" []) (S : SdT d D B0 Γ.l lim) (hk : 0 ≤ d) {x1 : Int} {x2 : Int} {x3 : Int} {w : TW} (rx1 : zr x1) (rx2 : zr x2) (rx3 : zr x3) (h : pT_stands_5 (wpT d) (fun v w => Γ.Q (.inl (some (ai v))) w) x1 x2 x3 w) : ZV Γ w 5 [(0, ar (D.x + 1)), (1, ai x1), (2, ai x2), (3, ai x3)] [] := by
  refine h (fun x2 x3 w => zr x2 → zr x3 → ZV Γ w 5 [(0, ar (D.x + 1)), (1, ai x1), (2, ai x2), (3, ai x3)] []) ?_ rx2 rx3
  clear h
  intro x2 x3 w h rx2 rx3
  have hI5 : ∀ (x2 : Int) (x3 : Int) (w : TW), (fun x2 x3 w => zr x2 → zr x3 → ZV Γ w 5 [(0, ar (D.x + 1)), (1, ai x1), (2, ai x2), (3, ai x3)] []) x2 x3 w → zr x2 → zr x3 → ZV Γ w 5 [(0, ar (D.x + 1)), (1, ai x1), (2, ai x2), (3, ai x3)] [] := fun _ _ _ z => z
  refine zt_tok G (fun hw => ?_)
  refine zv_iload_n G rfl rfl dX1_stands_5 ?_
  refine zv_aload_n G rfl rfl dX1_stands_6 ?_
  refine zt_get (k := 105) (v := ai (tI w 105)) G (by decide) q2260 rfl dX1_stands_7 ?_
  refine zv_icmp_ge (tgt := 45) G rx3 (hw.i 105 (by decide)) (by decide) dX1_stands_10 (fun c1 => ?_) (fun c1 => ?_)
  · have h := h.1 c1
    exact zv_pick [0, 1, 2] rfl (cpT_stands_45 G M S hk rx1 rx2 h)
  · have h := h.2 c1
    refine zv_aload_n G rfl rfl dX1_stands_13 ?_
    refine zt_get (k := 106) (v := ar (D.ad 106 + 1)) G (by decide) q2261 rfl dX1_stands_14 ?_
    refine zv_iload_n G rfl rfl dX1_stands_17 ?_
    have o42 := h.1
    have h := h.2
    refine zt_iald (f := 106) G (by decide) rfl rx3 o42.1 o42.2 dX1_stands_18 ?_
    refine zv_aload_n G rfl rfl dX1_stands_19 ?_
    refine zt_get (k := 67) (v := ar (D.ad 67 + 1)) G (by decide) q2222 rfl dX1_stands_20 ?_
    refine zv_iload_n G rfl rfl dX1_stands_23 ?_
    have o43 := h.1
    have h := h.2
    refine zt_iald (f := 67) G (by decide) rfl rx1 o43.1 o43.2 dX1_stands_24 ?_
    have o45 := h.1
    have h := h.2
    have kj47 : ∀ v44 : Int, v44 = (if (tA w 106 x3) = (tA w 67 x1) then tA w 107 x3 else x2) → ZV Γ w 38 [(0, ar (D.x + 1)), (1, ai x1), (2, ai x2), (3, ai x3)] (ai v44 :: []) := by
      intro v44 ev44
      have h := h v44 ev44
      have rv44 : zr v44 := by rw [ev44]; exact (zr_ite (hw.a 107 _ (by decide)) rx2)
      refine zv_istore_n G rfl (by decide) rfl dX1_stands_38 ?_
      refine zv_iincN G rfl (by decide) dX1_stands_39 (fun x3_46 ex3_46 => ?_)
      have h := h x3_46 ex3_46
      have rx3_46 : zr x3_46 := by rw [ex3_46]; exact w32_r _
      refine zv_goto (tgt := 5) G (by decide) dX1_stands_42 ?_
      exact zv_pick [0, 1, 2, 3] rfl (hI5 _ _ _ h rv44 rx3_46)
    refine zv_icmp_ne (tgt := 37) G (hw.a 106 _ (by decide)) (hw.a 67 _ (by decide)) (by decide) dX1_stands_25 (fun c48 => ?_) (fun c48 => ?_)
    · refine zv_iload_n G rfl rfl dX1_stands_37 ?_
      exact kj47 _ (if_neg c48).symm
    · refine zv_aload_n G rfl rfl dX1_stands_28 ?_
      refine zt_get (k := 107) (v := ar (D.ad 107 + 1)) G (by decide) q2262 rfl dX1_stands_29 ?_
      refine zv_iload_n G rfl rfl dX1_stands_32 ?_
      refine zt_iald (f := 107) G (by decide) rfl rx3 (o45 c48).1 (o45 c48).2 dX1_stands_33 ?_
      refine zv_goto (tgt := 38) G (by decide) dX1_stands_34 ?_
      exact kj47 _ (if_pos c48).symm
set_option maxHeartbeats 4000000 in
set_option maxRecDepth 100000 in
theorem cpT_stands_0 {Γ : ZG TW} {D : TD} {B0 d : Nat} {lim : Nat × Nat} (G : ZOk Γ cX1_stands RX1 5 (KnT D B0) (ZT D B0)) (M : ZRm Γ (d + 1) lim (some .int) "stands" []) (S : SdT d D B0 Γ.l lim) (hk : 0 ≤ d) {x1 : Int} {w : TW} (rx1 : zr x1) (h : pT_stands_0 (wpT d) (fun v w => Γ.Q (.inl (some (ai v))) w) x1 w) : ZV Γ w 0 [(0, ar (D.x + 1)), (1, ai x1)] [] := by
  refine zt_tok G (fun hw => ?_)
  refine zv_bipush (a := (-4)) G (by decide) dX1_stands_0 ?_
  refine zv_istore_n G rfl (by decide) rfl dX1_stands_2 ?_
  refine zv_iconst (a := 0) G (by decide) dX1_stands_3 ?_
  refine zv_istore_n G rfl (by decide) rfl dX1_stands_4 ?_
  exact zv_pick [0, 1, 2, 3] rfl (cpT_stands_5 G M S hk rx1 (zr_k (-4) (by decide) (by decide)) (zr_k 0 (by decide) (by decide)) h)
set_option maxHeartbeats 4000000 in
set_option maxRecDepth 100000 in
theorem cpT_sift_140 {Γ : ZG TW} {D : TD} {B0 d : Nat} {lim : Nat × Nat} (G : ZOk Γ cX1_sift RX1 5 (KnT D B0) (ZT D B0)) (M : ZRm Γ (d + 1) lim (some .int) "sift" []) (S : SdT d D B0 Γ.l lim) (hk : 0 ≤ d) {x1 : Int} {w : TW} (rx1 : zr x1) (h : pT_sift_140 (wpT d) (fun v w => Γ.Q (.inl (some (ai v))) w) x1 w) : ZV Γ w 140 [(1, ai x1)] [] := by
  refine zt_tok G (fun hw => ?_)
  refine zv_iload_n G rfl rfl dX1_sift_140 ?_
  exact zv_iret (ty := .int) rx1 G M rfl dX1_sift_141 h
set_option maxHeartbeats 4000000 in
set_option maxRecDepth 100000 in
theorem cpT_sift_113 {Γ : ZG TW} {D : TD} {B0 d : Nat} {lim : Nat × Nat} (G : ZOk Γ cX1_sift RX1 5 (KnT D B0) (ZT D B0)) (M : ZRm Γ (d + 1) lim (some .int) "sift" []) (S : SdT d D B0 Γ.l lim) (hk : 0 ≤ d) {I5 : Int → Int → TW → Prop} {x1 : Int} {x2 : Int} {w : TW} (hI5 : ∀ (x1 : Int) (x2 : Int) (w : TW), I5 x1 x2 w → zr x1 → zr x2 → ZV Γ w 5 [(0, ar (D.x + 1)), (1, ai x1), (2, ai x2)] []) (rx1 : zr x1) (rx2 : zr x2) (h : pT_sift_113 (wpT d) (fun v w => Γ.Q (.inl (some (ai v))) w) I5 x1 x2 w) : ZV Γ w 113 [(0, ar (D.x + 1)), (1, ai x1), (2, ai x2)] [] := by
  refine zt_tok G (fun hw => ?_)
  refine zv_iload_n G rfl rfl dX1_sift_113 ?_
  refine zv_bipush (a := (-4)) G (by decide) dX1_sift_114 ?_
  have o25 := h.1
  have h := h.2
  have kj27 : ∀ v24 : Int, v24 = (if (x1 = (-4)) ∧ (¬ ((tA w 70 x2) = 0)) then x2 else x1) → ZV Γ w 133 [(0, ar (D.x + 1)), (1, ai x1), (2, ai x2)] (ai v24 :: []) := by
    intro v24 ev24
    have h := h v24 ev24
    have rv24 : zr v24 := by rw [ev24]; exact (zr_ite rx2 rx1)
    refine zv_istore_n G rfl (by decide) rfl dX1_sift_133 ?_
    refine zv_iincN G rfl (by decide) dX1_sift_134 (fun x2_26 ex2_26 => ?_)
    have h := h x2_26 ex2_26
    have rx2_26 : zr x2_26 := by rw [ex2_26]; exact w32_r _
    refine zv_goto (tgt := 5) G (by decide) dX1_sift_137 ?_
    exact zv_pick [0, 1, 2] rfl (hI5 _ _ _ h rv24 rx2_26)
  refine zv_icmp_ne (tgt := 132) G rx1 (zr_k (-4) (by decide) (by decide)) (by decide) dX1_sift_116 (fun c28 => ?_) (fun c28 => ?_)
  · refine zv_iload_n G rfl rfl dX1_sift_132 ?_
    exact kj27 _ (if_neg (fun q => c28 q.1)).symm
  · refine zv_aload_n G rfl rfl dX1_sift_119 ?_
    refine zt_get (k := 70) (v := ar (D.ad 70 + 1)) G (by decide) q2225 rfl dX1_sift_120 ?_
    refine zv_iload_n G rfl rfl dX1_sift_123 ?_
    refine zt_zald (f := 70) G (by decide) rfl rx2 (o25 c28).1 (o25 c28).2 dX1_sift_124 ?_
    refine zv_if_eq (tgt := 132) G (hw.a 70 _ (by decide)) (by decide) dX1_sift_125 (fun c29 => ?_) (fun c29 => ?_)
    · refine zv_iload_n G rfl rfl dX1_sift_132 ?_
      exact kj27 _ (if_neg (fun q => (fun q => q c29) q.2)).symm
    · refine zv_iload_n G rfl rfl dX1_sift_128 ?_
      refine zv_goto (tgt := 133) G (by decide) dX1_sift_129 ?_
      exact kj27 _ (if_pos ⟨c28, c29⟩).symm
set_option maxHeartbeats 4000000 in
set_option maxRecDepth 100000 in
theorem cpT_sift_45 {Γ : ZG TW} {D : TD} {B0 d : Nat} {lim : Nat × Nat} (G : ZOk Γ cX1_sift RX1 5 (KnT D B0) (ZT D B0)) (M : ZRm Γ (d + 1) lim (some .int) "sift" []) (S : SdT d D B0 Γ.l lim) (hk : 0 ≤ d) {I5 : Int → Int → TW → Prop} {x1 : Int} {x2 : Int} {x3 : Int} {w : TW} (hI5 : ∀ (x1 : Int) (x2 : Int) (w : TW), I5 x1 x2 w → zr x1 → zr x2 → ZV Γ w 5 [(0, ar (D.x + 1)), (1, ai x1), (2, ai x2)] []) (rx1 : zr x1) (rx2 : zr x2) (rx3 : zr x3) (h : pT_sift_45 (wpT d) (fun v w => Γ.Q (.inl (some (ai v))) w) I5 x1 x2 x3 w) : ZV Γ w 45 [(0, ar (D.x + 1)), (1, ai x1), (2, ai x2), (3, ai x3)] [] := by
  refine h (fun x3 w => zr x3 → ZV Γ w 45 [(0, ar (D.x + 1)), (1, ai x1), (2, ai x2), (3, ai x3)] []) ?_ rx3
  clear h
  intro x3 w h rx3
  have hI45 : ∀ (x3 : Int) (w : TW), (fun x3 w => zr x3 → ZV Γ w 45 [(0, ar (D.x + 1)), (1, ai x1), (2, ai x2), (3, ai x3)] []) x3 w → zr x3 → ZV Γ w 45 [(0, ar (D.x + 1)), (1, ai x1), (2, ai x2), (3, ai x3)] [] := fun _ _ z => z
  refine zt_tok G (fun hw => ?_)
  refine zv_iload_n G rfl rfl dX1_sift_45 ?_
  refine zv_aload_n G rfl rfl dX1_sift_46 ?_
  refine zt_get (k := 64) (v := ar (D.ad 64 + 1)) G (by decide) q2219 rfl dX1_sift_47 ?_
  refine zv_iload_n G rfl rfl dX1_sift_50 ?_
  refine zv_iconst (a := 1) G (by decide) dX1_sift_51 ?_
  refine zv_iadd G dX1_sift_52 ?_
  have o9 := h.1
  have h := h.2
  refine zt_iald (f := 64) G (by decide) rfl (w32_r _) o9.1 o9.2 dX1_sift_53 ?_
  have o10 := h.1
  have h := h.2
  have kt30 : ¬ ((tA w 64 (w32 (x2 + 1))) ≤ x3) ∧ (¬ ((tA w 70 x2) = 0)) → ZV Γ w 66 [(0, ar (D.x + 1)), (1, ai x1), (2, ai x2), (3, ai x3)] [] := by
    intro c32
    have h := h.1 c32
    refine zv_aload_n G rfl rfl dX1_sift_66 ?_
    refine zv_iload_n G rfl rfl dX1_sift_67 ?_
    refine zt_callI (as := [ai x3]) G M (S 55 _ rfl _ _ _ h (zoks_cons rx3 zoks_nil)) q2786 q2788 qs116 q2789 md_stands rfl (by decide) (Nat.le_of_ble_eq_true rfl) dX1_sift_68 (fun v12 u11 rv12 h => ?_)
    refine zt_tok G (fun hu11 => ?_)
    refine zv_istore G (by decide) rfl dX1_sift_71 ?_
    refine zv_aload_n G rfl rfl dX1_sift_73 ?_
    refine zt_get (k := 69) (v := ar (D.ad 69 + 1)) G (by decide) q2224 rfl dX1_sift_74 ?_
    refine zv_iload_n G rfl rfl dX1_sift_77 ?_
    refine zv_iload G rfl dX1_sift_78 ?_
    refine zv_iconst (a := 1) G (by decide) dX1_sift_80 ?_
    have kj22 : ∀ v13 : Int, v13 = (if v12 = 1 then 1 else 0) → ZV Γ u11 89 [(4, ai v12), (0, ar (D.x + 1)), (1, ai x1), (2, ai x2), (3, ai x3)] (ai v13 :: ai x3 :: ar (D.ad 69 + 1) :: []) := by
      intro v13 ev13
      have h := h v13 ev13
      have rv13 : zr v13 := by rw [ev13]; exact (zr_ite (zr_k 1 (by decide) (by decide)) (zr_k 0 (by decide) (by decide)))
      have bv13 : v13 = 0 ∨ v13 = 1 := by rw [ev13]; exact (zb_ite (Or.inr rfl) (Or.inl rfl))
      have o15 := h.1
      have h := h.2
      refine zt_zast (f := 69) G (by decide) rfl rx3 o15.1 o15.2 dX1_sift_89 (fun u14 eu14 => ?_)
      have h := h u14 eu14
      refine zt_tok G (fun hu14 => ?_)
      refine zv_aload_n G rfl rfl dX1_sift_90 ?_
      refine zt_get (k := 70) (v := ar (D.ad 70 + 1)) G (by decide) q2225 rfl dX1_sift_91 ?_
      refine zv_iload_n G rfl rfl dX1_sift_94 ?_
      refine zv_iload G rfl dX1_sift_95 ?_
      refine zv_iconst (a := 2) G (by decide) dX1_sift_97 ?_
      have kj20 : ∀ v16 : Int, v16 = (if ¬ (v12 = 2) then 1 else 0) → ZV Γ u14 106 [(4, ai v12), (0, ar (D.x + 1)), (1, ai x1), (2, ai x2), (3, ai x3)] (ai v16 :: ai x2 :: ar (D.ad 70 + 1) :: []) := by
        intro v16 ev16
        have h := h v16 ev16
        have rv16 : zr v16 := by rw [ev16]; exact (zr_ite (zr_k 1 (by decide) (by decide)) (zr_k 0 (by decide) (by decide)))
        have bv16 : v16 = 0 ∨ v16 = 1 := by rw [ev16]; exact (zb_ite (Or.inr rfl) (Or.inl rfl))
        have o18 := h.1
        have h := h.2
        refine zt_zast (f := 70) G (by decide) rfl rx2 o18.1 o18.2 dX1_sift_106 (fun u17 eu17 => ?_)
        have h := h u17 eu17
        refine zt_tok G (fun hu17 => ?_)
        refine zv_iincN G rfl (by decide) dX1_sift_107 (fun x3_19 ex3_19 => ?_)
        have h := h x3_19 ex3_19
        have rx3_19 : zr x3_19 := by rw [ex3_19]; exact w32_r _
        refine zv_goto (tgt := 45) G (by decide) dX1_sift_110 ?_
        exact zv_pick [0, 1, 2, 3] rfl (hI45 _ _ h rx3_19)
      refine zv_icmp_eq (tgt := 105) G rv12 (zr_k 2 (by decide) (by decide)) (by decide) dX1_sift_98 (fun c21 => ?_) (fun c21 => ?_)
      · refine zv_iconst (a := 0) G (by decide) dX1_sift_105 ?_
        exact kj20 _ (if_neg (fun q => q c21)).symm
      · refine zv_iconst (a := 1) G (by decide) dX1_sift_101 ?_
        refine zv_goto (tgt := 106) G (by decide) dX1_sift_102 ?_
        exact kj20 _ (if_pos c21).symm
    refine zv_icmp_ne (tgt := 88) G rv12 (zr_k 1 (by decide) (by decide)) (by decide) dX1_sift_81 (fun c23 => ?_) (fun c23 => ?_)
    · refine zv_iconst (a := 0) G (by decide) dX1_sift_88 ?_
      exact kj22 _ (if_neg c23).symm
    · refine zv_iconst (a := 1) G (by decide) dX1_sift_84 ?_
      refine zv_goto (tgt := 89) G (by decide) dX1_sift_85 ?_
      exact kj22 _ (if_pos c23).symm
  have kf31 : ¬ (¬ ((tA w 64 (w32 (x2 + 1))) ≤ x3) ∧ (¬ ((tA w 70 x2) = 0))) → ZV Γ w 113 [(0, ar (D.x + 1)), (1, ai x1), (2, ai x2), (3, ai x3)] [] := by
    intro c32
    have h := h.2 c32
    exact zv_pick [0, 1, 2] rfl (cpT_sift_113 G M S hk hI5 rx1 rx2 h)
  refine zv_icmp_ge (tgt := 113) G rx3 (hw.a 64 _ (by decide)) (by decide) dX1_sift_54 (fun c33 => ?_) (fun c33 => ?_)
  · exact kf31 (fun q => q.1 c33)
  · refine zv_aload_n G rfl rfl dX1_sift_57 ?_
    refine zt_get (k := 70) (v := ar (D.ad 70 + 1)) G (by decide) q2225 rfl dX1_sift_58 ?_
    refine zv_iload_n G rfl rfl dX1_sift_61 ?_
    refine zt_zald (f := 70) G (by decide) rfl rx2 (o10 c33).1 (o10 c33).2 dX1_sift_62 ?_
    refine zv_if_eq (tgt := 113) G (hw.a 70 _ (by decide)) (by decide) dX1_sift_63 (fun c34 => ?_) (fun c34 => ?_)
    · exact kf31 (fun q => (fun q => q c34) q.2)
    · exact kt30 ⟨c33, c34⟩
set_option maxHeartbeats 4000000 in
set_option maxRecDepth 100000 in
theorem cpT_sift_5 {Γ : ZG TW} {D : TD} {B0 d : Nat} {lim : Nat × Nat} (G : ZOk Γ cX1_sift RX1 5 (KnT D B0) (ZT D B0)) (M : ZRm Γ (d + 1) lim (some .int) "sift" []) (S : SdT d D B0 Γ.l lim) (hk : 0 ≤ d) {x1 : Int} {x2 : Int} {w : TW} (rx1 : zr x1) (rx2 : zr x2) (h : pT_sift_5 (wpT d) (fun v w => Γ.Q (.inl (some (ai v))) w) x1 x2 w) : ZV Γ w 5 [(0, ar (D.x + 1)), (1, ai x1), (2, ai x2)] [] := by
  refine h (fun x1 x2 w => zr x1 → zr x2 → ZV Γ w 5 [(0, ar (D.x + 1)), (1, ai x1), (2, ai x2)] []) ?_ rx1 rx2
  clear h
  intro x1 x2 w h rx1 rx2
  have hI5 : ∀ (x1 : Int) (x2 : Int) (w : TW), (fun x1 x2 w => zr x1 → zr x2 → ZV Γ w 5 [(0, ar (D.x + 1)), (1, ai x1), (2, ai x2)] []) x1 x2 w → zr x1 → zr x2 → ZV Γ w 5 [(0, ar (D.x + 1)), (1, ai x1), (2, ai x2)] [] := fun _ _ _ z => z
  refine zt_tok G (fun hw => ?_)
  refine zv_iload_n G rfl rfl dX1_sift_5 ?_
  refine zv_aload_n G rfl rfl dX1_sift_6 ?_
  refine zt_get (k := 61) (v := ai (tI w 61)) G (by decide) q2216 rfl dX1_sift_7 ?_
  refine zv_icmp_ge (tgt := 140) G rx2 (hw.i 61 (by decide)) (by decide) dX1_sift_10 (fun c1 => ?_) (fun c1 => ?_)
  · have h := h.1 c1
    exact zv_pick [1] rfl (cpT_sift_140 G M S hk rx1 h)
  · have h := h.2 c1
    refine zv_aload_n G rfl rfl dX1_sift_13 ?_
    refine zt_get (k := 70) (v := ar (D.ad 70 + 1)) G (by decide) q2225 rfl dX1_sift_14 ?_
    refine zv_iload_n G rfl rfl dX1_sift_17 ?_
    refine zv_aload_n G rfl rfl dX1_sift_18 ?_
    refine zt_get (k := 108) (v := ar (D.ad 108 + 1)) G (by decide) q2263 rfl dX1_sift_19 ?_
    refine zv_aload_n G rfl rfl dX1_sift_22 ?_
    refine zt_get (k := 62) (v := ar (D.ad 62 + 1)) G (by decide) q2217 rfl dX1_sift_23 ?_
    refine zv_iload_n G rfl rfl dX1_sift_26 ?_
    have o2 := h.1
    have h := h.2
    refine zt_iald (f := 62) G (by decide) rfl rx2 o2.1 o2.2 dX1_sift_27 ?_
    have o3 := h.1
    have h := h.2
    refine zt_zald (f := 108) G (by decide) rfl (hw.a 62 _ (by decide)) o3.1 o3.2 dX1_sift_28 ?_
    have kj35 : ∀ v4 : Int, v4 = (if (tA w 108 (tA w 62 x2)) = 0 then 1 else 0) → ZV Γ w 37 [(0, ar (D.x + 1)), (1, ai x1), (2, ai x2)] (ai v4 :: ai x2 :: ar (D.ad 70 + 1) :: []) := by
      intro v4 ev4
      have h := h v4 ev4
      have rv4 : zr v4 := by rw [ev4]; exact (zr_ite (zr_k 1 (by decide) (by decide)) (zr_k 0 (by decide) (by decide)))
      have bv4 : v4 = 0 ∨ v4 = 1 := by rw [ev4]; exact (zb_ite (Or.inr rfl) (Or.inl rfl))
      have o6 := h.1
      have h := h.2
      refine zt_zast (f := 70) G (by decide) rfl rx2 o6.1 o6.2 dX1_sift_37 (fun u5 eu5 => ?_)
      have h := h u5 eu5
      refine zt_tok G (fun hu5 => ?_)
      refine zv_aload_n G rfl rfl dX1_sift_38 ?_
      refine zt_get (k := 64) (v := ar (D.ad 64 + 1)) G (by decide) q2219 rfl dX1_sift_39 ?_
      refine zv_iload_n G rfl rfl dX1_sift_42 ?_
      have o7 := h.1
      have h := h.2
      refine zt_iald (f := 64) G (by decide) rfl rx2 o7.1 o7.2 dX1_sift_43 ?_
      refine zv_istore_nN G rfl (by decide) dX1_sift_44 (fun x3_8 ex3_8 => ?_)
      have h := h x3_8 ex3_8
      have rx3_8 : zr x3_8 := by rw [ex3_8]; exact (hu5.a 64 _ (by decide))
      exact zv_pick [0, 1, 2, 3] rfl (cpT_sift_45 G M S hk hI5 rx1 rx2 rx3_8 h)
    refine zv_if_ne (tgt := 36) G (hw.a 108 _ (by decide)) (by decide) dX1_sift_29 (fun c36 => ?_) (fun c36 => ?_)
    · refine zv_iconst (a := 0) G (by decide) dX1_sift_36 ?_
      exact kj35 _ (if_neg c36).symm
    · refine zv_iconst (a := 1) G (by decide) dX1_sift_32 ?_
      refine zv_goto (tgt := 37) G (by decide) dX1_sift_33 ?_
      exact kj35 _ (if_pos c36).symm
set_option maxHeartbeats 4000000 in
set_option maxRecDepth 100000 in
theorem cpT_sift_0 {Γ : ZG TW} {D : TD} {B0 d : Nat} {lim : Nat × Nat} (G : ZOk Γ cX1_sift RX1 5 (KnT D B0) (ZT D B0)) (M : ZRm Γ (d + 1) lim (some .int) "sift" []) (S : SdT d D B0 Γ.l lim) (hk : 0 ≤ d) {w : TW} (h : pT_sift_0 (wpT d) (fun v w => Γ.Q (.inl (some (ai v))) w) w) : ZV Γ w 0 [(0, ar (D.x + 1))] [] := by
  refine zt_tok G (fun hw => ?_)
  refine zv_bipush (a := (-4)) G (by decide) dX1_sift_0 ?_
  refine zv_istore_n G rfl (by decide) rfl dX1_sift_2 ?_
  refine zv_iconst (a := 0) G (by decide) dX1_sift_3 ?_
  refine zv_istore_n G rfl (by decide) rfl dX1_sift_4 ?_
  exact zv_pick [0, 1, 2] rfl (cpT_sift_5 G M S hk (zr_k (-4) (by decide) (by decide)) (zr_k 0 (by decide) (by decide)) h)
set_option maxHeartbeats 4000000 in
set_option maxRecDepth 100000 in
theorem cpT_isLeft_60 {Γ : ZG TW} {D : TD} {B0 d : Nat} {lim : Nat × Nat} (G : ZOk Γ cX1_isLeft RX1 5 (KnT D B0) (ZT D B0)) (M : ZRm Γ (d + 1) lim (some .boolean) "isLeft" []) (S : SdT d D B0 Γ.l lim) (hk : 0 ≤ d) {x3 : Int} {w : TW} (rx3 : zr x3) (h : pT_isLeft_60 (wpT d) (fun v w => Γ.Q (.inl (some (ai v))) w) x3 w) : ZV Γ w 60 [(3, ai x3)] [] := by
  refine zt_tok G (fun hw => ?_)
  refine zv_iload_n G rfl rfl dX1_isLeft_60 ?_
  exact zv_iret (ty := .boolean) rx3 G M (zn_Z h.1) dX1_isLeft_61 h.2
set_option maxHeartbeats 4000000 in
set_option maxRecDepth 100000 in
theorem cpT_isLeft_10 {Γ : ZG TW} {D : TD} {B0 d : Nat} {lim : Nat × Nat} (G : ZOk Γ cX1_isLeft RX1 5 (KnT D B0) (ZT D B0)) (M : ZRm Γ (d + 1) lim (some .boolean) "isLeft" []) (S : SdT d D B0 Γ.l lim) (hk : 0 ≤ d) {x1 : Int} {x2 : Int} {x3 : Int} {x4 : Int} {w : TW} (rx1 : zr x1) (rx2 : zr x2) (rx3 : zr x3) (rx4 : zr x4) (h : pT_isLeft_10 (wpT d) (fun v w => Γ.Q (.inl (some (ai v))) w) x1 x2 x3 x4 w) : ZV Γ w 10 [(0, ar (D.x + 1)), (1, ai x1), (2, ai x2), (3, ai x3), (4, ai x4)] [] := by
  refine h (fun x3 x4 w => zr x3 → zr x4 → ZV Γ w 10 [(0, ar (D.x + 1)), (1, ai x1), (2, ai x2), (3, ai x3), (4, ai x4)] []) ?_ rx3 rx4
  clear h
  intro x3 x4 w h rx3 rx4
  have hI10 : ∀ (x3 : Int) (x4 : Int) (w : TW), (fun x3 x4 w => zr x3 → zr x4 → ZV Γ w 10 [(0, ar (D.x + 1)), (1, ai x1), (2, ai x2), (3, ai x3), (4, ai x4)] []) x3 x4 w → zr x3 → zr x4 → ZV Γ w 10 [(0, ar (D.x + 1)), (1, ai x1), (2, ai x2), (3, ai x3), (4, ai x4)] [] := fun _ _ _ z => z
  refine zt_tok G (fun hw => ?_)
  refine zv_iload G rfl dX1_isLeft_10 ?_
  refine zv_aload_n G rfl rfl dX1_isLeft_12 ?_
  refine zt_get (k := 64) (v := ar (D.ad 64 + 1)) G (by decide) q2219 rfl dX1_isLeft_13 ?_
  refine zv_iload_n G rfl rfl dX1_isLeft_16 ?_
  refine zv_iconst (a := 1) G (by decide) dX1_isLeft_17 ?_
  refine zv_iadd G dX1_isLeft_18 ?_
  have o3 := h.1
  have h := h.2
  refine zt_iald (f := 64) G (by decide) rfl (w32_r _) o3.1 o3.2 dX1_isLeft_19 ?_
  refine zv_icmp_ge (tgt := 60) G rx4 (hw.a 64 _ (by decide)) (by decide) dX1_isLeft_20 (fun c4 => ?_) (fun c4 => ?_)
  · have h := h.1 c4
    exact zv_pick [3] rfl (cpT_isLeft_60 G M S hk rx3 h)
  · have h := h.2 c4
    refine zv_iload_n G rfl rfl dX1_isLeft_23 ?_
    have o6 := h.1
    have h := h.2
    have kj8 : ∀ v5 : Int, v5 = (if ¬ (x3 = 0) ∨ (((tA w 69 x4) = 0) ∧ ((tA w 67 x4) = x2)) then 1 else 0) → ZV Γ w 53 [(0, ar (D.x + 1)), (1, ai x1), (2, ai x2), (3, ai x3), (4, ai x4)] (ai v5 :: []) := by
      intro v5 ev5
      have h := h v5 ev5
      have rv5 : zr v5 := by rw [ev5]; exact (zr_ite (zr_k 1 (by decide) (by decide)) (zr_k 0 (by decide) (by decide)))
      have bv5 : v5 = 0 ∨ v5 = 1 := by rw [ev5]; exact (zb_ite (Or.inr rfl) (Or.inl rfl))
      refine zv_istore_n G rfl (by decide) rfl dX1_isLeft_53 ?_
      refine zv_iincN G rfl (by decide) dX1_isLeft_54 (fun x4_7 ex4_7 => ?_)
      have h := h x4_7 ex4_7
      have rx4_7 : zr x4_7 := by rw [ex4_7]; exact w32_r _
      refine zv_goto (tgt := 10) G (by decide) dX1_isLeft_57 ?_
      exact zv_pick [0, 1, 2, 3, 4] rfl (hI10 _ _ _ h rv5 rx4_7)
    refine zv_if_ne (tgt := 48) G rx3 (by decide) dX1_isLeft_24 (fun c9 => ?_) (fun c9 => ?_)
    · refine zv_iconst (a := 1) G (by decide) dX1_isLeft_48 ?_
      refine zv_goto (tgt := 53) G (by decide) dX1_isLeft_49 ?_
      exact kj8 _ (if_pos (Or.inl c9)).symm
    · refine zv_aload_n G rfl rfl dX1_isLeft_27 ?_
      refine zt_get (k := 69) (v := ar (D.ad 69 + 1)) G (by decide) q2224 rfl dX1_isLeft_28 ?_
      refine zv_iload G rfl dX1_isLeft_31 ?_
      refine zt_zald (f := 69) G (by decide) rfl rx4 (o6 c9).1.1 (o6 c9).1.2 dX1_isLeft_33 ?_
      refine zv_if_ne (tgt := 52) G (hw.a 69 _ (by decide)) (by decide) dX1_isLeft_34 (fun c10 => ?_) (fun c10 => ?_)
      · refine zv_iconst (a := 0) G (by decide) dX1_isLeft_52 ?_
        exact kj8 _ (if_neg (fun q => q.elim (fun z => z c9) (fun q => c10 q.1))).symm
      · refine zv_aload_n G rfl rfl dX1_isLeft_37 ?_
        refine zt_get (k := 67) (v := ar (D.ad 67 + 1)) G (by decide) q2222 rfl dX1_isLeft_38 ?_
        refine zv_iload G rfl dX1_isLeft_41 ?_
        refine zt_iald (f := 67) G (by decide) rfl rx4 ((o6 c9).2 c10).1 ((o6 c9).2 c10).2 dX1_isLeft_43 ?_
        refine zv_iload_n G rfl rfl dX1_isLeft_44 ?_
        refine zv_icmp_ne (tgt := 52) G (hw.a 67 _ (by decide)) rx2 (by decide) dX1_isLeft_45 (fun c11 => ?_) (fun c11 => ?_)
        · refine zv_iconst (a := 0) G (by decide) dX1_isLeft_52 ?_
          exact kj8 _ (if_neg (fun q => q.elim (fun z => z c9) (fun q => c11 q.2))).symm
        · refine zv_iconst (a := 1) G (by decide) dX1_isLeft_48 ?_
          refine zv_goto (tgt := 53) G (by decide) dX1_isLeft_49 ?_
          exact kj8 _ (if_pos (Or.inr ⟨c10, c11⟩)).symm
set_option maxHeartbeats 4000000 in
set_option maxRecDepth 100000 in
theorem cpT_isLeft_0 {Γ : ZG TW} {D : TD} {B0 d : Nat} {lim : Nat × Nat} (G : ZOk Γ cX1_isLeft RX1 5 (KnT D B0) (ZT D B0)) (M : ZRm Γ (d + 1) lim (some .boolean) "isLeft" []) (S : SdT d D B0 Γ.l lim) (hk : 0 ≤ d) {x1 : Int} {x2 : Int} {w : TW} (rx1 : zr x1) (rx2 : zr x2) (h : pT_isLeft_0 (wpT d) (fun v w => Γ.Q (.inl (some (ai v))) w) x1 x2 w) : ZV Γ w 0 [(0, ar (D.x + 1)), (1, ai x1), (2, ai x2)] [] := by
  refine zt_tok G (fun hw => ?_)
  refine zv_iconst (a := 0) G (by decide) dX1_isLeft_0 ?_
  refine zv_istore_n G rfl (by decide) rfl dX1_isLeft_1 ?_
  refine zv_aload_n G rfl rfl dX1_isLeft_2 ?_
  refine zt_get (k := 64) (v := ar (D.ad 64 + 1)) G (by decide) q2219 rfl dX1_isLeft_3 ?_
  refine zv_iload_n G rfl rfl dX1_isLeft_6 ?_
  have o1 := h.1
  have h := h.2
  refine zt_iald (f := 64) G (by decide) rfl rx1 o1.1 o1.2 dX1_isLeft_7 ?_
  refine zv_istoreN G (by decide) dX1_isLeft_8 (fun x4_2 ex4_2 => ?_)
  have h := h x4_2 ex4_2
  have rx4_2 : zr x4_2 := by rw [ex4_2]; exact (hw.a 64 _ (by decide))
  exact zv_pick [0, 1, 2, 3, 4] rfl (cpT_isLeft_10 G M S hk rx1 rx2 (zr_k 0 (by decide) (by decide)) rx4_2 h)
set_option maxHeartbeats 4000000 in
set_option maxRecDepth 100000 in
theorem cpT_oneBranch_0 {Γ : ZG TW} {D : TD} {B0 d : Nat} {lim : Nat × Nat} (G : ZOk Γ cX1_oneBranch RX1 6 (KnT D B0) (ZT D B0)) (M : ZRm Γ (d + 1) lim none "oneBranch" []) (S : SdT d D B0 Γ.l lim) (hk : 0 ≤ d) {x1 : Int} {x2 : Int} {x3 : Int} {x5 : Int} {w : TW} (rx1 : zr x1) (rx2 : zr x2) (rx3 : zrl x3) (rx5 : zr x5) (h : pT_oneBranch_0 (wpT d) (fun w => Γ.Q (.inl none) w) x1 x2 x3 x5 w) : ZV Γ w 0 [(0, ar (D.x + 1)), (1, ai x1), (2, ai x2), (3, al x3), (5, ai x5)] [] := by
  refine zt_tok G (fun hw => ?_)
  refine zv_aload_n G rfl rfl dX1_oneBranch_0 ?_
  refine zt_get (k := 100) (v := ar (D.ad 100 + 1)) G (by decide) q2255 rfl dX1_oneBranch_1 ?_
  refine zv_aload_n G rfl rfl dX1_oneBranch_4 ?_
  refine zt_get (k := 99) (v := ai (tI w 99)) G (by decide) q2254 rfl dX1_oneBranch_5 ?_
  refine zv_iload_n G rfl rfl dX1_oneBranch_8 ?_
  have o2 := h.1
  have h := h.2
  refine zt_iast (f := 100) G (by decide) rfl (hw.i 99 (by decide)) rx1 o2.1 o2.2 dX1_oneBranch_9 (fun u1 eu1 => ?_)
  have h := h u1 eu1
  refine zt_tok G (fun hu1 => ?_)
  refine zv_aload_n G rfl rfl dX1_oneBranch_10 ?_
  refine zt_get (k := 101) (v := ar (D.ad 101 + 1)) G (by decide) q2256 rfl dX1_oneBranch_11 ?_
  refine zv_aload_n G rfl rfl dX1_oneBranch_14 ?_
  refine zt_get (k := 99) (v := ai (tI u1 99)) G (by decide) q2254 rfl dX1_oneBranch_15 ?_
  refine zv_iload_n G rfl rfl dX1_oneBranch_18 ?_
  have o4 := h.1
  have h := h.2
  refine zt_iast (f := 101) G (by decide) rfl (hu1.i 99 (by decide)) rx2 o4.1 o4.2 dX1_oneBranch_19 (fun u3 eu3 => ?_)
  have h := h u3 eu3
  refine zt_tok G (fun hu3 => ?_)
  refine zv_aload_n G rfl rfl dX1_oneBranch_20 ?_
  refine zt_get (k := 102) (v := ar (D.ad 102 + 1)) G (by decide) q2257 rfl dX1_oneBranch_21 ?_
  refine zv_aload_n G rfl rfl dX1_oneBranch_24 ?_
  refine zt_get (k := 99) (v := ai (tI u3 99)) G (by decide) q2254 rfl dX1_oneBranch_25 ?_
  refine zv_lload_n G rfl rfl dX1_oneBranch_28 ?_
  have o6 := h.1
  have h := h.2
  refine zt_last (f := 102) G (by decide) rfl (hu3.i 99 (by decide)) rx3 o6.1 o6.2 dX1_oneBranch_29 (fun u5 eu5 => ?_)
  have h := h u5 eu5
  refine zt_tok G (fun hu5 => ?_)
  refine zv_aload_n G rfl rfl dX1_oneBranch_30 ?_
  refine zt_get (k := 103) (v := ar (D.ad 103 + 1)) G (by decide) q2258 rfl dX1_oneBranch_31 ?_
  refine zv_aload_n G rfl rfl dX1_oneBranch_34 ?_
  refine zt_get (k := 99) (v := ai (tI u5 99)) G (by decide) q2254 rfl dX1_oneBranch_35 ?_
  refine zv_iload G rfl dX1_oneBranch_38 ?_
  have o8 := h.1
  have h := h.2
  refine zt_zast (f := 103) G (by decide) rfl (hu5.i 99 (by decide)) o8.1 o8.2 dX1_oneBranch_40 (fun u7 eu7 => ?_)
  have h := h u7 eu7
  refine zt_tok G (fun hu7 => ?_)
  refine zv_aload_n G rfl rfl dX1_oneBranch_41 ?_
  refine zv_dup G rfl dX1_oneBranch_42 ?_
  refine zt_get (k := 99) (v := ai (tI u7 99)) G (by decide) q2254 rfl dX1_oneBranch_43 ?_
  refine zv_iconst (a := 1) G (by decide) dX1_oneBranch_46 ?_
  refine zv_iadd G dX1_oneBranch_47 ?_
  refine zt_putI (k := 99) G (by decide) q2254 rfl (tyX1_ok 99 (by decide)) rfl (w32_r _) dX1_oneBranch_48 (fun u9 eu9 => ?_)
  have h := h u9 eu9
  refine zt_tok G (fun hu9 => ?_)
  exact zv_vret G M dX1_oneBranch_51 h
set_option maxHeartbeats 4000000 in
set_option maxRecDepth 100000 in
theorem cpT_cut_102 {Γ : ZG TW} {D : TD} {B0 d : Nat} {lim : Nat × Nat} (G : ZOk Γ cX1_cut RX1 6 (KnT D B0) (ZT D B0)) (M : ZRm Γ (d + 1) lim none "cut" []) (S : SdT d D B0 Γ.l lim) (hk : 0 ≤ d) {x1 : Int} {x3 : Int} {w : TW} (rx1 : zrl x1) (rx3 : zr x3) (h : pT_cut_102 (wpT d) (fun w => Γ.Q (.inl none) w) x1 x3 w) : ZV Γ w 102 [(0, ar (D.x + 1)), (1, al x1), (3, ai x3)] [] := by
  refine zt_tok G (fun hw => ?_)
  refine zv_aload_n G rfl rfl dX1_cut_102 ?_
  refine zt_get (k := 104) (v := ar (D.ad 104 + 1)) G (by decide) q2259 rfl dX1_cut_103 ?_
  refine zv_iload_n G rfl rfl dX1_cut_106 ?_
  refine zv_lload_n G rfl rfl dX1_cut_107 ?_
  have o11 := h.1
  have h := h.2
  refine zt_last (f := 104) G (by decide) rfl rx3 rx1 o11.1 o11.2 dX1_cut_108 (fun u10 eu10 => ?_)
  have h := h u10 eu10
  refine zt_tok G (fun hu10 => ?_)
  refine zv_aload_n G rfl rfl dX1_cut_109 ?_
  refine zv_dup G rfl dX1_cut_110 ?_
  refine zt_get (k := 99) (v := ai (tI u10 99)) G (by decide) q2254 rfl dX1_cut_111 ?_
  refine zv_iconst (a := 1) G (by decide) dX1_cut_114 ?_
  refine zv_iadd G dX1_cut_115 ?_
  refine zt_putI (k := 99) G (by decide) q2254 rfl (tyX1_ok 99 (by decide)) rfl (w32_r _) dX1_cut_116 (fun u12 eu12 => ?_)
  have h := h u12 eu12
  refine zt_tok G (fun hu12 => ?_)
  exact zv_vret G M dX1_cut_119 h
set_option maxHeartbeats 4000000 in
set_option maxRecDepth 100000 in
theorem cpT_cut_65 {Γ : ZG TW} {D : TD} {B0 d : Nat} {lim : Nat × Nat} (G : ZOk Γ cX1_cut RX1 6 (KnT D B0) (ZT D B0)) (M : ZRm Γ (d + 1) lim none "cut" []) (S : SdT d D B0 Γ.l lim) (hk : 0 ≤ d) {x1 : Int} {x3 : Int} {w : TW} (rx1 : zrl x1) (rx3 : zr x3) (h : pT_cut_65 (wpT d) (fun w => Γ.Q (.inl none) w) x1 x3 w) : ZV Γ w 65 [(0, ar (D.x + 1)), (1, al x1), (3, ai x3)] [] := by
  refine h (fun x3 w => zr x3 → ZV Γ w 65 [(0, ar (D.x + 1)), (1, al x1), (3, ai x3)] []) ?_ rx3
  clear h
  intro x3 w h rx3
  have hI65 : ∀ (x3 : Int) (w : TW), (fun x3 w => zr x3 → ZV Γ w 65 [(0, ar (D.x + 1)), (1, al x1), (3, ai x3)] []) x3 w → zr x3 → ZV Γ w 65 [(0, ar (D.x + 1)), (1, al x1), (3, ai x3)] [] := fun _ _ z => z
  refine zt_tok G (fun hw => ?_)
  refine zv_iload_n G rfl rfl dX1_cut_65 ?_
  have o5 := h.1
  have h := h.2
  have kt13 : ¬ (x3 ≤ 0) ∧ (¬ ((tA w 104 (w32 (x3 - 1))) ≤ x1)) → ZV Γ w 82 [(0, ar (D.x + 1)), (1, al x1), (3, ai x3)] [] := by
    intro c15
    have h := h.1 c15
    refine zv_aload_n G rfl rfl dX1_cut_82 ?_
    refine zt_get (k := 104) (v := ar (D.ad 104 + 1)) G (by decide) q2259 rfl dX1_cut_83 ?_
    refine zv_iload_n G rfl rfl dX1_cut_86 ?_
    refine zv_aload_n G rfl rfl dX1_cut_87 ?_
    refine zt_get (k := 104) (v := ar (D.ad 104 + 1)) G (by decide) q2259 rfl dX1_cut_88 ?_
    refine zv_iload_n G rfl rfl dX1_cut_91 ?_
    refine zv_iconst (a := 1) G (by decide) dX1_cut_92 ?_
    refine zv_isub G dX1_cut_93 ?_
    have o6 := h.1
    have h := h.2
    refine zt_lald (f := 104) G (by decide) rfl (w32_r _) o6.1 o6.2 dX1_cut_94 ?_
    have o8 := h.1
    have h := h.2
    refine zt_last (f := 104) G (by decide) rfl rx3 (hw.al 104 _ (by decide)) o8.1 o8.2 dX1_cut_95 (fun u7 eu7 => ?_)
    have h := h u7 eu7
    refine zt_tok G (fun hu7 => ?_)
    refine zv_iincN G rfl (by decide) dX1_cut_96 (fun x3_9 ex3_9 => ?_)
    have h := h x3_9 ex3_9
    have rx3_9 : zr x3_9 := by rw [ex3_9]; exact w32_r _
    refine zv_goto (tgt := 65) G (by decide) dX1_cut_99 ?_
    exact zv_pick [0, 1, 3] rfl (hI65 _ _ h rx3_9)
  have kf14 : ¬ (¬ (x3 ≤ 0) ∧ (¬ ((tA w 104 (w32 (x3 - 1))) ≤ x1))) → ZV Γ w 102 [(0, ar (D.x + 1)), (1, al x1), (3, ai x3)] [] := by
    intro c15
    have h := h.2 c15
    exact zv_pick [0, 1, 3] rfl (cpT_cut_102 G M S hk rx1 rx3 h)
  refine zv_if_le (tgt := 102) G rx3 (by decide) dX1_cut_66 (fun c16 => ?_) (fun c16 => ?_)
  · exact kf14 (fun q => q.1 c16)
  · refine zv_aload_n G rfl rfl dX1_cut_69 ?_
    refine zt_get (k := 104) (v := ar (D.ad 104 + 1)) G (by decide) q2259 rfl dX1_cut_70 ?_
    refine zv_iload_n G rfl rfl dX1_cut_73 ?_
    refine zv_iconst (a := 1) G (by decide) dX1_cut_74 ?_
    refine zv_isub G dX1_cut_75 ?_
    refine zt_lald (f := 104) G (by decide) rfl (w32_r _) (o5 c16).1 (o5 c16).2 dX1_cut_76 ?_
    refine zv_lload_n G rfl rfl dX1_cut_77 ?_
    refine zv_lcmp G (hw.al 104 _ (by decide)) rx1 dX1_cut_78 ?_
    refine zv_lif_le (tgt := 102) G (by decide) dX1_cut_79 (fun c17 => ?_) (fun c17 => ?_)
    · exact kf14 (fun q => (fun q => q c17) q.2)
    · exact kt13 ⟨c16, c17⟩
set_option maxHeartbeats 4000000 in
set_option maxRecDepth 100000 in
theorem cpT_cut_59 {Γ : ZG TW} {D : TD} {B0 d : Nat} {lim : Nat × Nat} (G : ZOk Γ cX1_cut RX1 6 (KnT D B0) (ZT D B0)) (M : ZRm Γ (d + 1) lim none "cut" []) (S : SdT d D B0 Γ.l lim) (hk : 0 ≤ d) {x1 : Int} {x3 : Int} {x4 : Int} {w : TW} (rx1 : zrl x1) (rx3 : zr x3) (rx4 : zr x4) (h : pT_cut_59 (wpT d) (fun w => Γ.Q (.inl none) w) x1 x3 x4 w) : ZV Γ w 59 [(0, ar (D.x + 1)), (1, al x1), (3, ai x3), (4, ai x4)] [] := by
  refine zt_tok G (fun hw => ?_)
  refine zv_iload G rfl dX1_cut_59 ?_
  refine zv_if_ne (tgt := 65) G rx4 (by decide) dX1_cut_61 (fun c4 => ?_) (fun c4 => ?_)
  · have h := h.2 c4
    exact zv_pick [0, 1, 3] rfl (cpT_cut_65 G M S hk rx1 rx3 h)
  · have h := h.1 c4
    exact zv_vret G M dX1_cut_64 h
set_option maxHeartbeats 4000000 in
set_option maxRecDepth 100000 in
theorem cpT_cut_23 {Γ : ZG TW} {D : TD} {B0 d : Nat} {lim : Nat × Nat} (G : ZOk Γ cX1_cut RX1 6 (KnT D B0) (ZT D B0)) (M : ZRm Γ (d + 1) lim none "cut" []) (S : SdT d D B0 Γ.l lim) (hk : 0 ≤ d) {x1 : Int} {x3 : Int} {x4 : Int} {x5 : Int} {w : TW} (rx1 : zrl x1) (rx3 : zr x3) (rx4 : zr x4) (rx5 : zr x5) (h : pT_cut_23 (wpT d) (fun w => Γ.Q (.inl none) w) x1 x3 x4 x5 w) : ZV Γ w 23 [(0, ar (D.x + 1)), (1, al x1), (3, ai x3), (4, ai x4), (5, ai x5)] [] := by
  refine h (fun x4 x5 w => zr x4 → zr x5 → ZV Γ w 23 [(0, ar (D.x + 1)), (1, al x1), (3, ai x3), (4, ai x4), (5, ai x5)] []) ?_ rx4 rx5
  clear h
  intro x4 x5 w h rx4 rx5
  have hI23 : ∀ (x4 : Int) (x5 : Int) (w : TW), (fun x4 x5 w => zr x4 → zr x5 → ZV Γ w 23 [(0, ar (D.x + 1)), (1, al x1), (3, ai x3), (4, ai x4), (5, ai x5)] []) x4 x5 w → zr x4 → zr x5 → ZV Γ w 23 [(0, ar (D.x + 1)), (1, al x1), (3, ai x3), (4, ai x4), (5, ai x5)] [] := fun _ _ _ z => z
  refine zt_tok G (fun hw => ?_)
  refine zv_iload G rfl dX1_cut_23 ?_
  refine zv_iload_n G rfl rfl dX1_cut_25 ?_
  refine zv_icmp_ge (tgt := 59) G rx5 rx3 (by decide) dX1_cut_26 (fun c3 => ?_) (fun c3 => ?_)
  · have h := h.1 c3
    exact zv_pick [0, 1, 3, 4] rfl (cpT_cut_59 G M S hk rx1 rx3 rx4 h)
  · have h := h.2 c3
    refine zv_iload G rfl dX1_cut_29 ?_
    have o19 := h.1
    have h := h.2
    have kj21 : ∀ v18 : Int, v18 = (if ¬ (x4 = 0) ∧ (¬ ((tA w 104 x5) = x1)) then 1 else 0) → ZV Γ w 51 [(0, ar (D.x + 1)), (1, al x1), (3, ai x3), (4, ai x4), (5, ai x5)] (ai v18 :: []) := by
      intro v18 ev18
      have h := h v18 ev18
      have rv18 : zr v18 := by rw [ev18]; exact (zr_ite (zr_k 1 (by decide) (by decide)) (zr_k 0 (by decide) (by decide)))
      have bv18 : v18 = 0 ∨ v18 = 1 := by rw [ev18]; exact (zb_ite (Or.inr rfl) (Or.inl rfl))
      refine zv_istore G (by decide) rfl dX1_cut_51 ?_
      refine zv_iincN G rfl (by decide) dX1_cut_53 (fun x5_20 ex5_20 => ?_)
      have h := h x5_20 ex5_20
      have rx5_20 : zr x5_20 := by rw [ex5_20]; exact w32_r _
      refine zv_goto (tgt := 23) G (by decide) dX1_cut_56 ?_
      exact zv_pick [0, 1, 3, 4, 5] rfl (hI23 _ _ _ h rv18 rx5_20)
    refine zv_if_eq (tgt := 50) G rx4 (by decide) dX1_cut_31 (fun c22 => ?_) (fun c22 => ?_)
    · refine zv_iconst (a := 0) G (by decide) dX1_cut_50 ?_
      exact kj21 _ (if_neg (fun q => q.1 c22)).symm
    · refine zv_aload_n G rfl rfl dX1_cut_34 ?_
      refine zt_get (k := 104) (v := ar (D.ad 104 + 1)) G (by decide) q2259 rfl dX1_cut_35 ?_
      refine zv_iload G rfl dX1_cut_38 ?_
      refine zt_lald (f := 104) G (by decide) rfl rx5 (o19 c22).1 (o19 c22).2 dX1_cut_40 ?_
      refine zv_lload_n G rfl rfl dX1_cut_41 ?_
      refine zv_lcmp G (hw.al 104 _ (by decide)) rx1 dX1_cut_42 ?_
      refine zv_lif_eq (tgt := 50) G (by decide) dX1_cut_43 (fun c23 => ?_) (fun c23 => ?_)
      · refine zv_iconst (a := 0) G (by decide) dX1_cut_50 ?_
        exact kj21 _ (if_neg (fun q => (fun q => q c23) q.2)).symm
      · refine zv_iconst (a := 1) G (by decide) dX1_cut_46 ?_
        refine zv_goto (tgt := 51) G (by decide) dX1_cut_47 ?_
        exact kj21 _ (if_pos ⟨c22, c23⟩).symm
set_option maxHeartbeats 4000000 in
set_option maxRecDepth 100000 in
theorem cpT_cut_0 {Γ : ZG TW} {D : TD} {B0 d : Nat} {lim : Nat × Nat} (G : ZOk Γ cX1_cut RX1 6 (KnT D B0) (ZT D B0)) (M : ZRm Γ (d + 1) lim none "cut" []) (S : SdT d D B0 Γ.l lim) (hk : 0 ≤ d) {x1 : Int} {w : TW} (rx1 : zrl x1) (h : pT_cut_0 (wpT d) (fun w => Γ.Q (.inl none) w) x1 w) : ZV Γ w 0 [(0, ar (D.x + 1)), (1, al x1)] [] := by
  refine zt_tok G (fun hw => ?_)
  refine zv_aload_n G rfl rfl dX1_cut_0 ?_
  refine zt_get (k := 99) (v := ai (tI w 99)) G (by decide) q2254 rfl dX1_cut_1 ?_
  refine zv_istore_nN G rfl (by decide) dX1_cut_4 (fun x3_1 ex3_1 => ?_)
  have h := h x3_1 ex3_1
  have rx3_1 : zr x3_1 := by rw [ex3_1]; exact (hw.i 99 (by decide))
  refine zv_lload_n G rfl rfl dX1_cut_5 ?_
  refine zv_ldc2 (a := (-2147483648)) G (G.kn.2.1 _ q2810 _) (by decide) dX1_cut_6 ?_
  refine zv_lcmp G rx1 (zrl_k (-2147483648) (by decide) (by decide)) dX1_cut_9 ?_
  have kj24 : ∀ v2 : Int, v2 = (if ¬ (x1 ≤ (-2147483648)) then 1 else 0) → ZV Γ w 18 [(3, ai x3_1), (0, ar (D.x + 1)), (1, al x1)] (ai v2 :: []) := by
    intro v2 ev2
    have h := h v2 ev2
    have rv2 : zr v2 := by rw [ev2]; exact (zr_ite (zr_k 1 (by decide) (by decide)) (zr_k 0 (by decide) (by decide)))
    have bv2 : v2 = 0 ∨ v2 = 1 := by rw [ev2]; exact (zb_ite (Or.inr rfl) (Or.inl rfl))
    refine zv_istore G (by decide) rfl dX1_cut_18 ?_
    refine zv_iconst (a := 0) G (by decide) dX1_cut_20 ?_
    refine zv_istore G (by decide) rfl dX1_cut_21 ?_
    exact zv_pick [0, 1, 3, 4, 5] rfl (cpT_cut_23 G M S hk rx1 rx3_1 rv2 (zr_k 0 (by decide) (by decide)) h)
  refine zv_lif_le (tgt := 17) G (by decide) dX1_cut_10 (fun c25 => ?_) (fun c25 => ?_)
  · refine zv_iconst (a := 0) G (by decide) dX1_cut_17 ?_
    exact kj24 _ (if_neg (fun q => q c25)).symm
  · refine zv_iconst (a := 1) G (by decide) dX1_cut_13 ?_
    refine zv_goto (tgt := 18) G (by decide) dX1_cut_14 ?_
    exact kj24 _ (if_pos c25).symm
set_option maxHeartbeats 4000000 in
set_option maxRecDepth 100000 in
theorem cpT_wants_54 {Γ : ZG TW} {D : TD} {B0 d : Nat} {lim : Nat × Nat} (G : ZOk Γ cX1_wants RX1 5 (KnT D B0) (ZT D B0)) (M : ZRm Γ (d + 1) lim none "wants" []) (S : SdT d D B0 Γ.l lim) (hk : 0 ≤ d) {w : TW} (h : pT_wants_54 (wpT d) (fun w => Γ.Q (.inl none) w) w) : ZV Γ w 54 [] [] := by
  refine zt_tok G (fun hw => ?_)
  exact zv_vret G M dX1_wants_54 h
set_option maxHeartbeats 4000000 in
set_option maxRecDepth 100000 in
theorem cpT_wants_42 {Γ : ZG TW} {D : TD} {B0 d : Nat} {lim : Nat × Nat} (G : ZOk Γ cX1_wants RX1 5 (KnT D B0) (ZT D B0)) (M : ZRm Γ (d + 1) lim none "wants" []) (S : SdT d D B0 Γ.l lim) (hk : 0 ≤ d) {x1 : Int} {x3 : Int} {w : TW} (rx1 : zrl x1) (rx3 : zr x3) (h : pT_wants_42 (wpT d) (fun w => Γ.Q (.inl none) w) x1 x3 w) : ZV Γ w 42 [(0, ar (D.x + 1)), (1, al x1), (3, ai x3)] [] := by
  refine zt_tok G (fun hw => ?_)
  refine zv_iload_n G rfl rfl dX1_wants_42 ?_
  refine zv_if_ne (tgt := 54) G rx3 (by decide) dX1_wants_43 (fun c2 => ?_) (fun c2 => ?_)
  · have h := h.2 c2
    exact zv_pick [] rfl (cpT_wants_54 G M S hk h)
  · have h := h.1 c2
    refine zv_aload_n G rfl rfl dX1_wants_46 ?_
    refine zv_iconst (a := 0) G (by decide) dX1_wants_47 ?_
    refine zv_iconst (a := 0) G (by decide) dX1_wants_48 ?_
    refine zv_lload_n G rfl rfl dX1_wants_49 ?_
    refine zv_iconst (a := 0) G (by decide) dX1_wants_50 ?_
    refine zt_callV (as := [ai 0, ai 0, al x1, ai 0]) G M (S 59 _ rfl _ _ _ h (zoks_cons (zr_k 0 (by decide) (by decide)) (zoks_cons (zr_k 0 (by decide) (by decide)) (zoks_cons rx1 (zoks_cons (zr_k 0 (by decide) (by decide)) zoks_nil))))) q2802 q2804 qs120 q2805 md_oneBranch rfl (by decide) (Nat.le_of_ble_eq_true rfl) dX1_wants_51 (fun u3 h => ?_)
    refine zt_tok G (fun hu3 => ?_)
    exact zv_pick [] rfl (cpT_wants_54 G M S hk h)
set_option maxHeartbeats 4000000 in
set_option maxRecDepth 100000 in
theorem cpT_wants_5 {Γ : ZG TW} {D : TD} {B0 d : Nat} {lim : Nat × Nat} (G : ZOk Γ cX1_wants RX1 5 (KnT D B0) (ZT D B0)) (M : ZRm Γ (d + 1) lim none "wants" []) (S : SdT d D B0 Γ.l lim) (hk : 0 ≤ d) {x1 : Int} {x3 : Int} {x4 : Int} {w : TW} (rx1 : zrl x1) (rx3 : zr x3) (rx4 : zr x4) (h : pT_wants_5 (wpT d) (fun w => Γ.Q (.inl none) w) x1 x3 x4 w) : ZV Γ w 5 [(0, ar (D.x + 1)), (1, al x1), (3, ai x3), (4, ai x4)] [] := by
  refine h (fun x3 x4 w => zr x3 → zr x4 → ZV Γ w 5 [(0, ar (D.x + 1)), (1, al x1), (3, ai x3), (4, ai x4)] []) ?_ rx3 rx4
  clear h
  intro x3 x4 w h rx3 rx4
  have hI5 : ∀ (x3 : Int) (x4 : Int) (w : TW), (fun x3 x4 w => zr x3 → zr x4 → ZV Γ w 5 [(0, ar (D.x + 1)), (1, al x1), (3, ai x3), (4, ai x4)] []) x3 x4 w → zr x3 → zr x4 → ZV Γ w 5 [(0, ar (D.x + 1)), (1, al x1), (3, ai x3), (4, ai x4)] [] := fun _ _ _ z => z
  refine zt_tok G (fun hw => ?_)
  refine zv_iload G rfl dX1_wants_5 ?_
  refine zv_aload_n G rfl rfl dX1_wants_7 ?_
  refine zt_get (k := 99) (v := ai (tI w 99)) G (by decide) q2254 rfl dX1_wants_8 ?_
  refine zv_icmp_ge (tgt := 42) G rx4 (hw.i 99 (by decide)) (by decide) dX1_wants_11 (fun c1 => ?_) (fun c1 => ?_)
  · have h := h.1 c1
    exact zv_pick [0, 1, 3] rfl (cpT_wants_42 G M S hk rx1 rx3 h)
  · have h := h.2 c1
    refine zv_iload_n G rfl rfl dX1_wants_14 ?_
    have o5 := h.1
    have h := h.2
    have kj7 : ∀ v4 : Int, v4 = (if ¬ (x3 = 0) ∨ ((tA w 102 x4) = x1) then 1 else 0) → ZV Γ w 35 [(0, ar (D.x + 1)), (1, al x1), (3, ai x3), (4, ai x4)] (ai v4 :: []) := by
      intro v4 ev4
      have h := h v4 ev4
      have rv4 : zr v4 := by rw [ev4]; exact (zr_ite (zr_k 1 (by decide) (by decide)) (zr_k 0 (by decide) (by decide)))
      have bv4 : v4 = 0 ∨ v4 = 1 := by rw [ev4]; exact (zb_ite (Or.inr rfl) (Or.inl rfl))
      refine zv_istore_n G rfl (by decide) rfl dX1_wants_35 ?_
      refine zv_iincN G rfl (by decide) dX1_wants_36 (fun x4_6 ex4_6 => ?_)
      have h := h x4_6 ex4_6
      have rx4_6 : zr x4_6 := by rw [ex4_6]; exact w32_r _
      refine zv_goto (tgt := 5) G (by decide) dX1_wants_39 ?_
      exact zv_pick [0, 1, 3, 4] rfl (hI5 _ _ _ h rv4 rx4_6)
    refine zv_if_ne (tgt := 30) G rx3 (by decide) dX1_wants_15 (fun c8 => ?_) (fun c8 => ?_)
    · refine zv_iconst (a := 1) G (by decide) dX1_wants_30 ?_
      refine zv_goto (tgt := 35) G (by decide) dX1_wants_31 ?_
      exact kj7 _ (if_pos (Or.inl c8)).symm
    · refine zv_aload_n G rfl rfl dX1_wants_18 ?_
      refine zt_get (k := 102) (v := ar (D.ad 102 + 1)) G (by decide) q2257 rfl dX1_wants_19 ?_
      refine zv_iload G rfl dX1_wants_22 ?_
      refine zt_lald (f := 102) G (by decide) rfl rx4 (o5 c8).1 (o5 c8).2 dX1_wants_24 ?_
      refine zv_lload_n G rfl rfl dX1_wants_25 ?_
      refine zv_lcmp G (hw.al 102 _ (by decide)) rx1 dX1_wants_26 ?_
      refine zv_lif_ne (tgt := 34) G (by decide) dX1_wants_27 (fun c9 => ?_) (fun c9 => ?_)
      · refine zv_iconst (a := 0) G (by decide) dX1_wants_34 ?_
        exact kj7 _ (if_neg (fun q => q.elim (fun z => z c8) c9)).symm
      · refine zv_iconst (a := 1) G (by decide) dX1_wants_30 ?_
        refine zv_goto (tgt := 35) G (by decide) dX1_wants_31 ?_
        exact kj7 _ (if_pos (Or.inr c9)).symm
set_option maxHeartbeats 4000000 in
set_option maxRecDepth 100000 in
theorem cpT_wants_0 {Γ : ZG TW} {D : TD} {B0 d : Nat} {lim : Nat × Nat} (G : ZOk Γ cX1_wants RX1 5 (KnT D B0) (ZT D B0)) (M : ZRm Γ (d + 1) lim none "wants" []) (S : SdT d D B0 Γ.l lim) (hk : 0 ≤ d) {x1 : Int} {w : TW} (rx1 : zrl x1) (h : pT_wants_0 (wpT d) (fun w => Γ.Q (.inl none) w) x1 w) : ZV Γ w 0 [(0, ar (D.x + 1)), (1, al x1)] [] := by
  refine zt_tok G (fun hw => ?_)
  refine zv_iconst (a := 0) G (by decide) dX1_wants_0 ?_
  refine zv_istore_n G rfl (by decide) rfl dX1_wants_1 ?_
  refine zv_iconst (a := 0) G (by decide) dX1_wants_2 ?_
  refine zv_istore G (by decide) rfl dX1_wants_3 ?_
  exact zv_pick [0, 1, 3, 4] rfl (cpT_wants_5 G M S hk rx1 (zr_k 0 (by decide) (by decide)) (zr_k 0 (by decide) (by decide)) h)
set_option maxHeartbeats 4000000 in
set_option maxRecDepth 100000 in
theorem cpT_parts_66 {Γ : ZG TW} {D : TD} {B0 d : Nat} {lim : Nat × Nat} (G : ZOk Γ cX1_parts RX1 7 (KnT D B0) (ZT D B0)) (M : ZRm Γ (d + 1) lim none "parts" []) (S : SdT d D B0 Γ.l lim) (hk : 0 ≤ d) {w : TW} (h : pT_parts_66 (wpT d) (fun w => Γ.Q (.inl none) w) w) : ZV Γ w 66 [] [] := by
  refine zt_tok G (fun hw => ?_)
  exact zv_vret G M dX1_parts_66 h
set_option maxHeartbeats 4000000 in
set_option maxRecDepth 100000 in
theorem cpT_parts_17 {Γ : ZG TW} {D : TD} {B0 d : Nat} {lim : Nat × Nat} (G : ZOk Γ cX1_parts RX1 7 (KnT D B0) (ZT D B0)) (M : ZRm Γ (d + 1) lim none "parts" []) (S : SdT d D B0 Γ.l lim) (hk : 0 ≤ d) {x1 : Int} {x2 : Int} {x4 : Int} {w : TW} (rx1 : zr x1) (rx2 : zrl x2) (rx4 : zr x4) (h : pT_parts_17 (wpT d) (fun w => Γ.Q (.inl none) w) x1 x2 x4 w) : ZV Γ w 17 [(0, ar (D.x + 1)), (1, ai x1), (2, al x2), (4, ai x4)] [] := by
  refine h (fun x2 x4 w => zrl x2 → zr x4 → ZV Γ w 17 [(0, ar (D.x + 1)), (1, ai x1), (2, al x2), (4, ai x4)] []) ?_ rx2 rx4
  clear h
  intro x2 x4 w h rx2 rx4
  have hI17 : ∀ (x2 : Int) (x4 : Int) (w : TW), (fun x2 x4 w => zrl x2 → zr x4 → ZV Γ w 17 [(0, ar (D.x + 1)), (1, ai x1), (2, al x2), (4, ai x4)] []) x2 x4 w → zrl x2 → zr x4 → ZV Γ w 17 [(0, ar (D.x + 1)), (1, ai x1), (2, al x2), (4, ai x4)] [] := fun _ _ _ z => z
  refine zt_tok G (fun hw => ?_)
  refine zv_iload G rfl dX1_parts_17 ?_
  refine zv_iload_n G rfl rfl dX1_parts_19 ?_
  refine zv_icmp_gt (tgt := 66) G rx4 rx1 (by decide) dX1_parts_20 (fun c3 => ?_) (fun c3 => ?_)
  · have h := h.1 c3
    exact zv_pick [] rfl (cpT_parts_66 G M S hk h)
  · have h := h.2 c3
    refine zv_iload G rfl dX1_parts_23 ?_
    refine zv_iload_n G rfl rfl dX1_parts_25 ?_
    have o5 := h.1
    have h := h.2
    have kj8 : ∀ v4 : Int, v4 = (if ¬ (x1 ≤ x4) then tA w 104 x4 else 2147483648) → ZV Γ w 42 [(0, ar (D.x + 1)), (1, ai x1), (2, al x2), (4, ai x4)] (al v4 :: []) := by
      intro v4 ev4
      have h := h v4 ev4
      have rv4 : zrl v4 := by rw [ev4]; exact (zrl_ite (hw.al 104 _ (by decide)) (zrl_k 2147483648 (by decide) (by decide)))
      refine zv_lstore G (by decide) rfl dX1_parts_42 ?_
      refine zv_aload_n G rfl rfl dX1_parts_44 ?_
      refine zv_lload_n G rfl rfl dX1_parts_45 ?_
      refine zv_l2i G dX1_parts_46 ?_
      refine zv_lload G rfl dX1_parts_47 ?_
      refine zv_lconst (a := 1) G (by decide) dX1_parts_49 ?_
      refine zv_lsub G dX1_parts_50 ?_
      refine zv_l2i G dX1_parts_51 ?_
      refine zv_lconst (a := 0) G (by decide) dX1_parts_52 ?_
      refine zv_iconst (a := 0) G (by decide) dX1_parts_53 ?_
      refine zt_callV (as := [ai (w32 x2), ai (w32 (w64 (v4 - 1))), al 0, ai 0]) G M (S 59 _ rfl _ _ _ h (zoks_cons (w32_r _) (zoks_cons (w32_r _) (zoks_cons (zrl_k 0 (by decide) (by decide)) (zoks_cons (zr_k 0 (by decide) (by decide)) zoks_nil))))) q2802 q2804 qs120 q2805 md_oneBranch rfl (by decide) (Nat.le_of_ble_eq_true rfl) dX1_parts_54 (fun u6 h => ?_)
      refine zt_tok G (fun hu6 => ?_)
      refine zv_lload G rfl dX1_parts_57 ?_
      refine zv_lstore_n G rfl (by decide) rfl dX1_parts_59 ?_
      refine zv_iincN G rfl (by decide) dX1_parts_60 (fun x4_7 ex4_7 => ?_)
      have h := h x4_7 ex4_7
      have rx4_7 : zr x4_7 := by rw [ex4_7]; exact w32_r _
      refine zv_goto (tgt := 17) G (by decide) dX1_parts_63 ?_
      exact zv_pick [0, 1, 2, 4] rfl (hI17 _ _ _ h rv4 rx4_7)
    refine zv_icmp_ge (tgt := 39) G rx4 rx1 (by decide) dX1_parts_26 (fun c9 => ?_) (fun c9 => ?_)
    · refine zv_ldc2 (a := 2147483648) G (G.kn.2.1 _ q2819 _) (by decide) dX1_parts_39 ?_
      exact kj8 _ (if_neg (fun q => q c9)).symm
    · refine zv_aload_n G rfl rfl dX1_parts_29 ?_
      refine zt_get (k := 104) (v := ar (D.ad 104 + 1)) G (by decide) q2259 rfl dX1_parts_30 ?_
      refine zv_iload G rfl dX1_parts_33 ?_
      refine zt_lald (f := 104) G (by decide) rfl rx4 (o5 c9).1 (o5 c9).2 dX1_parts_35 ?_
      refine zv_goto (tgt := 42) G (by decide) dX1_parts_36 ?_
      exact kj8 _ (if_pos c9).symm
set_option maxHeartbeats 4000000 in
set_option maxRecDepth 100000 in
theorem cpT_parts_0 {Γ : ZG TW} {D : TD} {B0 d : Nat} {lim : Nat × Nat} (G : ZOk Γ cX1_parts RX1 7 (KnT D B0) (ZT D B0)) (M : ZRm Γ (d + 1) lim none "parts" []) (S : SdT d D B0 Γ.l lim) (hk : 0 ≤ d) {w : TW} (h : pT_parts_0 (wpT d) (fun w => Γ.Q (.inl none) w) w) : ZV Γ w 0 [(0, ar (D.x + 1))] [] := by
  refine zt_tok G (fun hw => ?_)
  refine zv_aload_n G rfl rfl dX1_parts_0 ?_
  refine zt_get (k := 99) (v := ai (tI w 99)) G (by decide) q2254 rfl dX1_parts_1 ?_
  refine zv_istore_nN G rfl (by decide) dX1_parts_4 (fun x1_1 ex1_1 => ?_)
  have h := h x1_1 ex1_1
  have rx1_1 : zr x1_1 := by rw [ex1_1]; exact (hw.i 99 (by decide))
  refine zv_aload_n G rfl rfl dX1_parts_5 ?_
  refine zv_iconst (a := 0) G (by decide) dX1_parts_6 ?_
  refine zt_putI (k := 99) G (by decide) q2254 rfl (tyX1_ok 99 (by decide)) rfl (zr_k 0 (by decide) (by decide)) dX1_parts_7 (fun u2 eu2 => ?_)
  have h := h u2 eu2
  refine zt_tok G (fun hu2 => ?_)
  refine zv_ldc2 (a := (-2147483648)) G (G.kn.2.1 _ q2810 _) (by decide) dX1_parts_10 ?_
  refine zv_lstore_n G rfl (by decide) rfl dX1_parts_13 ?_
  refine zv_iconst (a := 0) G (by decide) dX1_parts_14 ?_
  refine zv_istore G (by decide) rfl dX1_parts_15 ?_
  exact zv_pick [0, 1, 2, 4] rfl (cpT_parts_17 G M S hk rx1_1 (zrl_k (-2147483648) (by decide) (by decide)) (zr_k 0 (by decide) (by decide)) h)
set_option maxHeartbeats 4000000 in
set_option maxRecDepth 100000 in
theorem cpT_layBranches_235 {Γ : ZG TW} {D : TD} {B0 d : Nat} {lim : Nat × Nat} (G : ZOk Γ cX1_layBranches RX1 6 (KnT D B0) (ZT D B0)) (M : ZRm Γ (d + 1) lim none "layBranches" []) (S : SdT d D B0 Γ.l lim) (hk : 0 ≤ d) {w : TW} (h : pT_layBranches_235 (wpT d) (fun w => Γ.Q (.inl none) w) w) : ZV Γ w 235 [] [] := by
  refine zt_tok G (fun hw => ?_)
  exact zv_vret G M dX1_layBranches_235 h
set_option maxHeartbeats 4000000 in
set_option maxRecDepth 100000 in
theorem cpT_layBranches_215 {Γ : ZG TW} {D : TD} {B0 d : Nat} {lim : Nat × Nat} (G : ZOk Γ cX1_layBranches RX1 6 (KnT D B0) (ZT D B0)) (M : ZRm Γ (d + 1) lim none "layBranches" []) (S : SdT d D B0 Γ.l lim) (hk : 0 ≤ d) {x2 : Int} {w : TW} (rx2 : zr x2) (h : pT_layBranches_215 (wpT d) (fun w => Γ.Q (.inl none) w) x2 w) : ZV Γ w 215 [(0, ar (D.x + 1)), (2, ai x2)] [] := by
  refine zt_tok G (fun hw => ?_)
  refine zv_iload_n G rfl rfl dX1_layBranches_215 ?_
  refine zv_iconst (a := 2) G (by decide) dX1_layBranches_216 ?_
  refine zv_icmp_ne (tgt := 231) G rx2 (zr_k 2 (by decide) (by decide)) (by decide) dX1_layBranches_217 (fun c5 => ?_) (fun c5 => ?_)
  · have h := h.2 c5
    refine zv_aload_n G rfl rfl dX1_layBranches_231 ?_
    refine zt_callV (as := []) G M (S 62 _ rfl _ _ _ h zoks_nil) q2815 q2817 qs123 q2818 md_parts rfl (by decide) (Nat.le_of_ble_eq_true rfl) dX1_layBranches_232 (fun u6 h => ?_)
    refine zt_tok G (fun hu6 => ?_)
    exact zv_pick [] rfl (cpT_layBranches_235 G M S hk h)
  · have h := h.1 c5
    refine zv_aload_n G rfl rfl dX1_layBranches_220 ?_
    refine zv_iconst (a := 0) G (by decide) dX1_layBranches_221 ?_
    refine zv_iconst (a := 0) G (by decide) dX1_layBranches_222 ?_
    refine zv_lconst (a := 0) G (by decide) dX1_layBranches_223 ?_
    refine zv_iconst (a := 1) G (by decide) dX1_layBranches_224 ?_
    refine zt_callV (as := [ai 0, ai 0, al 0, ai 1]) G M (S 59 _ rfl _ _ _ h (zoks_cons (zr_k 0 (by decide) (by decide)) (zoks_cons (zr_k 0 (by decide) (by decide)) (zoks_cons (zrl_k 0 (by decide) (by decide)) (zoks_cons (zr_k 1 (by decide) (by decide)) zoks_nil))))) q2802 q2804 qs120 q2805 md_oneBranch rfl (by decide) (Nat.le_of_ble_eq_true rfl) dX1_layBranches_225 (fun u7 h => ?_)
    refine zt_tok G (fun hu7 => ?_)
    refine zv_goto (tgt := 235) G (by decide) dX1_layBranches_228 ?_
    exact zv_pick [] rfl (cpT_layBranches_235 G M S hk h)
set_option maxHeartbeats 4000000 in
set_option maxRecDepth 100000 in
theorem cpT_layBranches_203 {Γ : ZG TW} {D : TD} {B0 d : Nat} {lim : Nat × Nat} (G : ZOk Γ cX1_layBranches RX1 6 (KnT D B0) (ZT D B0)) (M : ZRm Γ (d + 1) lim none "layBranches" []) (S : SdT d D B0 Γ.l lim) (hk : 0 ≤ d) {I91 : Int → TW → Prop} {I107 : Int → TW → Prop} {x1 : Int} {x2 : Int} {x3 : Int} {x4 : Int} {w : TW} (hI91 : ∀ (x3 : Int) (w : TW), I91 x3 w → zr x3 → ZV Γ w 91 [(0, ar (D.x + 1)), (1, ai x1), (2, ai x2), (3, ai x3)] []) (hI107 : ∀ (x4 : Int) (w : TW), I107 x4 w → zr x4 → ZV Γ w 107 [(0, ar (D.x + 1)), (1, ai x1), (2, ai x2), (3, ai x3), (4, ai x4)] []) (rx1 : zr x1) (rx2 : zr x2) (rx3 : zr x3) (rx4 : zr x4) (h : pT_layBranches_203 (wpT d) (fun w => Γ.Q (.inl none) w) I91 I107 x1 x2 x3 x4 w) : ZV Γ w 203 [(0, ar (D.x + 1)), (1, ai x1), (2, ai x2), (3, ai x3), (4, ai x4)] [] := by
  refine zt_tok G (fun hw => ?_)
  refine zv_iincN G rfl (by decide) dX1_layBranches_203 (fun x4_19 ex4_19 => ?_)
  have h := h x4_19 ex4_19
  have rx4_19 : zr x4_19 := by rw [ex4_19]; exact w32_r _
  refine zv_goto (tgt := 107) G (by decide) dX1_layBranches_206 ?_
  exact zv_pick [0, 1, 2, 3, 4] rfl (hI107 _ _ h rx4_19)
set_option maxHeartbeats 4000000 in
set_option maxRecDepth 100000 in
theorem cpT_layBranches_209 {Γ : ZG TW} {D : TD} {B0 d : Nat} {lim : Nat × Nat} (G : ZOk Γ cX1_layBranches RX1 6 (KnT D B0) (ZT D B0)) (M : ZRm Γ (d + 1) lim none "layBranches" []) (S : SdT d D B0 Γ.l lim) (hk : 0 ≤ d) {I91 : Int → TW → Prop} {x1 : Int} {x2 : Int} {x3 : Int} {w : TW} (hI91 : ∀ (x3 : Int) (w : TW), I91 x3 w → zr x3 → ZV Γ w 91 [(0, ar (D.x + 1)), (1, ai x1), (2, ai x2), (3, ai x3)] []) (rx1 : zr x1) (rx2 : zr x2) (rx3 : zr x3) (h : pT_layBranches_209 (wpT d) (fun w => Γ.Q (.inl none) w) I91 x1 x2 x3 w) : ZV Γ w 209 [(0, ar (D.x + 1)), (1, ai x1), (2, ai x2), (3, ai x3)] [] := by
  refine zt_tok G (fun hw => ?_)
  refine zv_iincN G rfl (by decide) dX1_layBranches_209 (fun x3_29 ex3_29 => ?_)
  have h := h x3_29 ex3_29
  have rx3_29 : zr x3_29 := by rw [ex3_29]; exact w32_r _
  refine zv_goto (tgt := 91) G (by decide) dX1_layBranches_212 ?_
  exact zv_pick [0, 1, 2, 3] rfl (hI91 _ _ h rx3_29)
set_option maxHeartbeats 4000000 in
set_option maxRecDepth 100000 in
theorem cpT_layBranches_107 {Γ : ZG TW} {D : TD} {B0 d : Nat} {lim : Nat × Nat} (G : ZOk Γ cX1_layBranches RX1 6 (KnT D B0) (ZT D B0)) (M : ZRm Γ (d + 1) lim none "layBranches" []) (S : SdT d D B0 Γ.l lim) (hk : 0 ≤ d) {I91 : Int → TW → Prop} {x1 : Int} {x2 : Int} {x3 : Int} {x4 : Int} {w : TW} (hI91 : ∀ (x3 : Int) (w : TW), I91 x3 w → zr x3 → ZV Γ w 91 [(0, ar (D.x + 1)), (1, ai x1), (2, ai x2), (3, ai x3)] []) (rx1 : zr x1) (rx2 : zr x2) (rx3 : zr x3) (rx4 : zr x4) (h : pT_layBranches_107 (wpT d) (fun w => Γ.Q (.inl none) w) I91 x1 x2 x3 x4 w) : ZV Γ w 107 [(0, ar (D.x + 1)), (1, ai x1), (2, ai x2), (3, ai x3), (4, ai x4)] [] := by
  refine h (fun x4 w => zr x4 → ZV Γ w 107 [(0, ar (D.x + 1)), (1, ai x1), (2, ai x2), (3, ai x3), (4, ai x4)] []) ?_ rx4
  clear h
  intro x4 w h rx4
  have hI107 : ∀ (x4 : Int) (w : TW), (fun x4 w => zr x4 → ZV Γ w 107 [(0, ar (D.x + 1)), (1, ai x1), (2, ai x2), (3, ai x3), (4, ai x4)] []) x4 w → zr x4 → ZV Γ w 107 [(0, ar (D.x + 1)), (1, ai x1), (2, ai x2), (3, ai x3), (4, ai x4)] [] := fun _ _ z => z
  refine zt_tok G (fun hw => ?_)
  refine zv_iload G rfl dX1_layBranches_107 ?_
  refine zv_aload_n G rfl rfl dX1_layBranches_109 ?_
  refine zt_get (k := 64) (v := ar (D.ad 64 + 1)) G (by decide) q2219 rfl dX1_layBranches_110 ?_
  refine zv_iload_n G rfl rfl dX1_layBranches_113 ?_
  refine zv_iconst (a := 1) G (by decide) dX1_layBranches_114 ?_
  refine zv_iadd G dX1_layBranches_115 ?_
  have o10 := h.1
  have h := h.2
  refine zt_iald (f := 64) G (by decide) rfl (w32_r _) o10.1 o10.2 dX1_layBranches_116 ?_
  have o11 := h.1
  have h := h.2
  have kt30 : ¬ ((tA w 64 (w32 (x3 + 1))) ≤ x4) ∧ (¬ ((tA w 70 x3) = 0)) → ZV Γ w 129 [(0, ar (D.x + 1)), (1, ai x1), (2, ai x2), (3, ai x3), (4, ai x4)] [] := by
    intro c32
    have h := h.1 c32
    refine zv_aload_n G rfl rfl dX1_layBranches_129 ?_
    refine zt_get (k := 67) (v := ar (D.ad 67 + 1)) G (by decide) q2222 rfl dX1_layBranches_130 ?_
    refine zv_iload G rfl dX1_layBranches_133 ?_
    have o12 := h.1
    have h := h.2
    refine zt_iald (f := 67) G (by decide) rfl rx4 o12.1 o12.2 dX1_layBranches_135 ?_
    refine zv_iload_n G rfl rfl dX1_layBranches_136 ?_
    have o13 := h.1
    have h := h.2
    have kt24 : ((tA w 67 x4) = x1) ∧ ((tA w 69 x4) = 0) → ZV Γ w 150 [(0, ar (D.x + 1)), (1, ai x1), (2, ai x2), (3, ai x3), (4, ai x4)] [] := by
      intro c26
      have h := h.1 c26
      refine zv_aload_n G rfl rfl dX1_layBranches_150 ?_
      refine zt_get (k := 68) (v := ar (D.ad 68 + 1)) G (by decide) q2223 rfl dX1_layBranches_151 ?_
      refine zv_iload G rfl dX1_layBranches_154 ?_
      have o14 := h.1
      have h := h.2
      refine zt_iald (f := 68) G (by decide) rfl rx4 o14.1 o14.2 dX1_layBranches_156 ?_
      refine zv_istoreN G (by decide) dX1_layBranches_157 (fun x5_15 ex5_15 => ?_)
      have h := h x5_15 ex5_15
      have rx5_15 : zr x5_15 := by rw [ex5_15]; exact (hw.a 68 _ (by decide))
      refine zv_iload_n G rfl rfl dX1_layBranches_159 ?_
      refine zv_if_ne (tgt := 192) G rx2 (by decide) dX1_layBranches_160 (fun c16 => ?_) (fun c16 => ?_)
      · have h := h.2 c16
        refine zv_aload_n G rfl rfl dX1_layBranches_192 ?_
        refine zv_aload_n G rfl rfl dX1_layBranches_193 ?_
        refine zt_get (k := 21) (v := ar (D.ad 21 + 1)) G (by decide) q2176 rfl dX1_layBranches_194 ?_
        refine zv_iload G rfl dX1_layBranches_197 ?_
        have o17 := h.1
        have h := h.2
        refine zt_lald (f := 21) G (by decide) rfl rx5_15 o17.1 o17.2 dX1_layBranches_199 ?_
        refine zt_callV (as := [al (tA w 21 x5_15)]) G M (S 61 _ rfl _ _ _ h (zoks_cons (hw.al 21 _ (by decide)) zoks_nil)) q2811 q2813 qs122 q2814 md_wants rfl (by decide) (Nat.le_of_ble_eq_true rfl) dX1_layBranches_200 (fun u18 h => ?_)
        refine zt_tok G (fun hu18 => ?_)
        exact zv_pick [0, 1, 2, 3, 4] rfl (cpT_layBranches_203 G M S hk hI91 hI107 rx1 rx2 rx3 rx4 h)
      · have h := h.1 c16
        refine zv_aload_n G rfl rfl dX1_layBranches_163 ?_
        refine zv_aload_n G rfl rfl dX1_layBranches_164 ?_
        refine zt_get (k := 19) (v := ar (D.ad 19 + 1)) G (by decide) q2174 rfl dX1_layBranches_165 ?_
        refine zv_iload G rfl dX1_layBranches_168 ?_
        have o20 := h.1
        have h := h.2
        refine zt_iald (f := 19) G (by decide) rfl rx5_15 o20.1 o20.2 dX1_layBranches_170 ?_
        refine zv_i2l G (hw.a 19 _ (by decide)) dX1_layBranches_171 ?_
        refine zt_callV (as := [al (tA w 19 x5_15)]) G M (S 60 _ rfl _ _ _ h (zoks_cons (zrl_i (hw.a 19 _ (by decide))) zoks_nil)) q2806 q2808 qs121 q2809 md_cut rfl (by decide) (Nat.le_of_ble_eq_true rfl) dX1_layBranches_172 (fun u21 h => ?_)
        refine zt_tok G (fun hu21 => ?_)
        refine zv_aload_n G rfl rfl dX1_layBranches_175 ?_
        refine zv_aload_n G rfl rfl dX1_layBranches_176 ?_
        refine zt_get (k := 20) (v := ar (D.ad 20 + 1)) G (by decide) q2175 rfl dX1_layBranches_177 ?_
        refine zv_iload G rfl dX1_layBranches_180 ?_
        have o22 := h.1
        have h := h.2
        refine zt_iald (f := 20) G (by decide) rfl rx5_15 o22.1 o22.2 dX1_layBranches_182 ?_
        refine zv_i2l G (hu21.a 20 _ (by decide)) dX1_layBranches_183 ?_
        refine zv_lconst (a := 1) G (by decide) dX1_layBranches_184 ?_
        refine zv_ladd G dX1_layBranches_185 ?_
        refine zt_callV (as := [al (w64 ((tA u21 20 x5_15) + 1))]) G M (S 60 _ rfl _ _ _ h (zoks_cons (w64_r _) zoks_nil)) q2806 q2808 qs121 q2809 md_cut rfl (by decide) (Nat.le_of_ble_eq_true rfl) dX1_layBranches_186 (fun u23 h => ?_)
        refine zt_tok G (fun hu23 => ?_)
        refine zv_goto (tgt := 203) G (by decide) dX1_layBranches_189 ?_
        exact zv_pick [0, 1, 2, 3, 4] rfl (cpT_layBranches_203 G M S hk hI91 hI107 rx1 rx2 rx3 rx4 h)
    have kf25 : ¬ (((tA w 67 x4) = x1) ∧ ((tA w 69 x4) = 0)) → ZV Γ w 203 [(0, ar (D.x + 1)), (1, ai x1), (2, ai x2), (3, ai x3), (4, ai x4)] [] := by
      intro c26
      have h := h.2 c26
      exact zv_pick [0, 1, 2, 3, 4] rfl (cpT_layBranches_203 G M S hk hI91 hI107 rx1 rx2 rx3 rx4 h)
    refine zv_icmp_ne (tgt := 203) G (hw.a 67 _ (by decide)) rx1 (by decide) dX1_layBranches_137 (fun c27 => ?_) (fun c27 => ?_)
    · exact kf25 (fun q => c27 q.1)
    · refine zv_aload_n G rfl rfl dX1_layBranches_140 ?_
      refine zt_get (k := 69) (v := ar (D.ad 69 + 1)) G (by decide) q2224 rfl dX1_layBranches_141 ?_
      refine zv_iload G rfl dX1_layBranches_144 ?_
      refine zt_zald (f := 69) G (by decide) rfl rx4 (o13 c27).1 (o13 c27).2 dX1_layBranches_146 ?_
      refine zv_if_ne (tgt := 203) G (hw.a 69 _ (by decide)) (by decide) dX1_layBranches_147 (fun c28 => ?_) (fun c28 => ?_)
      · exact kf25 (fun q => c28 q.2)
      · exact kt24 ⟨c27, c28⟩
  have kf31 : ¬ (¬ ((tA w 64 (w32 (x3 + 1))) ≤ x4) ∧ (¬ ((tA w 70 x3) = 0))) → ZV Γ w 209 [(0, ar (D.x + 1)), (1, ai x1), (2, ai x2), (3, ai x3), (4, ai x4)] [] := by
    intro c32
    have h := h.2 c32
    exact zv_pick [0, 1, 2, 3] rfl (cpT_layBranches_209 G M S hk hI91 rx1 rx2 rx3 h)
  refine zv_icmp_ge (tgt := 209) G rx4 (hw.a 64 _ (by decide)) (by decide) dX1_layBranches_117 (fun c33 => ?_) (fun c33 => ?_)
  · exact kf31 (fun q => q.1 c33)
  · refine zv_aload_n G rfl rfl dX1_layBranches_120 ?_
    refine zt_get (k := 70) (v := ar (D.ad 70 + 1)) G (by decide) q2225 rfl dX1_layBranches_121 ?_
    refine zv_iload_n G rfl rfl dX1_layBranches_124 ?_
    refine zt_zald (f := 70) G (by decide) rfl rx3 (o11 c33).1 (o11 c33).2 dX1_layBranches_125 ?_
    refine zv_if_eq (tgt := 209) G (hw.a 70 _ (by decide)) (by decide) dX1_layBranches_126 (fun c34 => ?_) (fun c34 => ?_)
    · exact kf31 (fun q => (fun q => q c34) q.2)
    · exact kt30 ⟨c33, c34⟩
set_option maxHeartbeats 4000000 in
set_option maxRecDepth 100000 in
theorem cpT_layBranches_91 {Γ : ZG TW} {D : TD} {B0 d : Nat} {lim : Nat × Nat} (G : ZOk Γ cX1_layBranches RX1 6 (KnT D B0) (ZT D B0)) (M : ZRm Γ (d + 1) lim none "layBranches" []) (S : SdT d D B0 Γ.l lim) (hk : 0 ≤ d) {x1 : Int} {x2 : Int} {x3 : Int} {w : TW} (rx1 : zr x1) (rx2 : zr x2) (rx3 : zr x3) (h : pT_layBranches_91 (wpT d) (fun w => Γ.Q (.inl none) w) x1 x2 x3 w) : ZV Γ w 91 [(0, ar (D.x + 1)), (1, ai x1), (2, ai x2), (3, ai x3)] [] := by
  refine h (fun x3 w => zr x3 → ZV Γ w 91 [(0, ar (D.x + 1)), (1, ai x1), (2, ai x2), (3, ai x3)] []) ?_ rx3
  clear h
  intro x3 w h rx3
  have hI91 : ∀ (x3 : Int) (w : TW), (fun x3 w => zr x3 → ZV Γ w 91 [(0, ar (D.x + 1)), (1, ai x1), (2, ai x2), (3, ai x3)] []) x3 w → zr x3 → ZV Γ w 91 [(0, ar (D.x + 1)), (1, ai x1), (2, ai x2), (3, ai x3)] [] := fun _ _ z => z
  refine zt_tok G (fun hw => ?_)
  refine zv_iload_n G rfl rfl dX1_layBranches_91 ?_
  refine zv_aload_n G rfl rfl dX1_layBranches_92 ?_
  refine zt_get (k := 61) (v := ai (tI w 61)) G (by decide) q2216 rfl dX1_layBranches_93 ?_
  refine zv_icmp_ge (tgt := 215) G rx3 (hw.i 61 (by decide)) (by decide) dX1_layBranches_96 (fun c4 => ?_) (fun c4 => ?_)
  · have h := h.1 c4
    exact zv_pick [0, 2] rfl (cpT_layBranches_215 G M S hk rx2 h)
  · have h := h.2 c4
    refine zv_aload_n G rfl rfl dX1_layBranches_99 ?_
    refine zt_get (k := 64) (v := ar (D.ad 64 + 1)) G (by decide) q2219 rfl dX1_layBranches_100 ?_
    refine zv_iload_n G rfl rfl dX1_layBranches_103 ?_
    have o8 := h.1
    have h := h.2
    refine zt_iald (f := 64) G (by decide) rfl rx3 o8.1 o8.2 dX1_layBranches_104 ?_
    refine zv_istoreN G (by decide) dX1_layBranches_105 (fun x4_9 ex4_9 => ?_)
    have h := h x4_9 ex4_9
    have rx4_9 : zr x4_9 := by rw [ex4_9]; exact (hw.a 64 _ (by decide))
    exact zv_pick [0, 1, 2, 3, 4] rfl (cpT_layBranches_107 G M S hk hI91 rx1 rx2 rx3 rx4_9 h)
set_option maxHeartbeats 4000000 in
set_option maxRecDepth 100000 in
theorem cpT_layBranches_62 {Γ : ZG TW} {D : TD} {B0 d : Nat} {lim : Nat × Nat} (G : ZOk Γ cX1_layBranches RX1 6 (KnT D B0) (ZT D B0)) (M : ZRm Γ (d + 1) lim none "layBranches" []) (S : SdT d D B0 Γ.l lim) (hk : 0 ≤ d) {w : TW} (h : pT_layBranches_62 (wpT d) (fun w => Γ.Q (.inl none) w) w) : ZV Γ w 62 [] [] := by
  refine zt_tok G (fun hw => ?_)
  refine zv_goto (tgt := 235) G (by decide) dX1_layBranches_62 ?_
  exact zv_pick [] rfl (cpT_layBranches_235 G M S hk h)
set_option maxHeartbeats 4000000 in
set_option maxRecDepth 100000 in
theorem cpT_layBranches_56 {Γ : ZG TW} {D : TD} {B0 d : Nat} {lim : Nat × Nat} (G : ZOk Γ cX1_layBranches RX1 6 (KnT D B0) (ZT D B0)) (M : ZRm Γ (d + 1) lim none "layBranches" []) (S : SdT d D B0 Γ.l lim) (hk : 0 ≤ d) {I21 : Int → TW → Prop} {x2 : Int} {x3 : Int} {w : TW} (hI21 : ∀ (x3 : Int) (w : TW), I21 x3 w → zr x3 → ZV Γ w 21 [(0, ar (D.x + 1)), (2, ai x2), (3, ai x3)] []) (rx2 : zr x2) (rx3 : zr x3) (h : pT_layBranches_56 (wpT d) (fun w => Γ.Q (.inl none) w) I21 x2 x3 w) : ZV Γ w 56 [(0, ar (D.x + 1)), (2, ai x2), (3, ai x3)] [] := by
  refine zt_tok G (fun hw => ?_)
  refine zv_iincN G rfl (by decide) dX1_layBranches_56 (fun x3_42 ex3_42 => ?_)
  have h := h x3_42 ex3_42
  have rx3_42 : zr x3_42 := by rw [ex3_42]; exact w32_r _
  refine zv_goto (tgt := 21) G (by decide) dX1_layBranches_59 ?_
  exact zv_pick [0, 2, 3] rfl (hI21 _ _ h rx3_42)
set_option maxHeartbeats 4000000 in
set_option maxRecDepth 100000 in
theorem cpT_layBranches_21 {Γ : ZG TW} {D : TD} {B0 d : Nat} {lim : Nat × Nat} (G : ZOk Γ cX1_layBranches RX1 6 (KnT D B0) (ZT D B0)) (M : ZRm Γ (d + 1) lim none "layBranches" []) (S : SdT d D B0 Γ.l lim) (hk : 0 ≤ d) {x2 : Int} {x3 : Int} {w : TW} (rx2 : zr x2) (rx3 : zr x3) (h : pT_layBranches_21 (wpT d) (fun w => Γ.Q (.inl none) w) x2 x3 w) : ZV Γ w 21 [(0, ar (D.x + 1)), (2, ai x2), (3, ai x3)] [] := by
  refine h (fun x3 w => zr x3 → ZV Γ w 21 [(0, ar (D.x + 1)), (2, ai x2), (3, ai x3)] []) ?_ rx3
  clear h
  intro x3 w h rx3
  have hI21 : ∀ (x3 : Int) (w : TW), (fun x3 w => zr x3 → ZV Γ w 21 [(0, ar (D.x + 1)), (2, ai x2), (3, ai x3)] []) x3 w → zr x3 → ZV Γ w 21 [(0, ar (D.x + 1)), (2, ai x2), (3, ai x3)] [] := fun _ _ z => z
  refine zt_tok G (fun hw => ?_)
  refine zv_iload_n G rfl rfl dX1_layBranches_21 ?_
  refine zv_aload_n G rfl rfl dX1_layBranches_22 ?_
  refine zt_get (k := 10) (v := ai (tI w 10)) G (by decide) q2165 rfl dX1_layBranches_23 ?_
  refine zv_icmp_ge (tgt := 62) G rx3 (hw.i 10 (by decide)) (by decide) dX1_layBranches_26 (fun c38 => ?_) (fun c38 => ?_)
  · have h := h.1 c38
    exact zv_pick [] rfl (cpT_layBranches_62 G M S hk h)
  · have h := h.2 c38
    refine zv_aload_n G rfl rfl dX1_layBranches_29 ?_
    refine zv_iload_n G rfl rfl dX1_layBranches_30 ?_
    refine zt_callI (as := [ai x3]) G M (S 16 _ rfl _ _ _ h (zoks_cons rx3 zoks_nil)) q2628 q2630 qs77 q2631 md_isSealed rfl (by decide) (Nat.le_of_ble_eq_true rfl) dX1_layBranches_31 (fun v40 u39 rv40 h => ?_)
    refine zt_tok G (fun hu39 => ?_)
    refine zv_if_ne (tgt := 56) G rv40 (by decide) dX1_layBranches_34 (fun c41 => ?_) (fun c41 => ?_)
    · have h := h.2 c41
      exact zv_pick [0, 2, 3] rfl (cpT_layBranches_56 G M S hk hI21 rx2 rx3 h)
    · have h := h.1 c41
      refine zv_aload_n G rfl rfl dX1_layBranches_37 ?_
      refine zv_iload_n G rfl rfl dX1_layBranches_38 ?_
      refine zv_iload_n G rfl rfl dX1_layBranches_39 ?_
      refine zv_iconst (a := 3) G (by decide) dX1_layBranches_40 ?_
      refine zv_isub G dX1_layBranches_41 ?_
      refine zt_callI (as := [ai x3, ai (w32 (x2 - 3))]) G M (S 26 _ rfl _ _ _ h (zoks_cons rx3 (zoks_cons (w32_r _) zoks_nil))) q2670 q2672 qs87 q2673 md_isOf rfl (by decide) (Nat.le_of_ble_eq_true rfl) dX1_layBranches_42 (fun v44 u43 rv44 h => ?_)
      refine zt_tok G (fun hu43 => ?_)
      refine zv_if_eq (tgt := 56) G rv44 (by decide) dX1_layBranches_45 (fun c45 => ?_) (fun c45 => ?_)
      · have h := h.1 c45
        exact zv_pick [0, 2, 3] rfl (cpT_layBranches_56 G M S hk hI21 rx2 rx3 h)
      · have h := h.2 c45
        refine zv_aload_n G rfl rfl dX1_layBranches_48 ?_
        refine zv_iload_n G rfl rfl dX1_layBranches_49 ?_
        refine zv_iconst (a := 0) G (by decide) dX1_layBranches_50 ?_
        refine zv_lconst (a := 0) G (by decide) dX1_layBranches_51 ?_
        refine zv_iconst (a := 0) G (by decide) dX1_layBranches_52 ?_
        refine zt_callV (as := [ai x3, ai 0, al 0, ai 0]) G M (S 59 _ rfl _ _ _ h (zoks_cons rx3 (zoks_cons (zr_k 0 (by decide) (by decide)) (zoks_cons (zrl_k 0 (by decide) (by decide)) (zoks_cons (zr_k 0 (by decide) (by decide)) zoks_nil))))) q2802 q2804 qs120 q2805 md_oneBranch rfl (by decide) (Nat.le_of_ble_eq_true rfl) dX1_layBranches_53 (fun u46 h => ?_)
        refine zt_tok G (fun hu46 => ?_)
        exact zv_pick [0, 2, 3] rfl (cpT_layBranches_56 G M S hk hI21 rx2 rx3 h)
set_option maxHeartbeats 4000000 in
set_option maxRecDepth 100000 in
theorem cpT_layBranches_0 {Γ : ZG TW} {D : TD} {B0 d : Nat} {lim : Nat × Nat} (G : ZOk Γ cX1_layBranches RX1 6 (KnT D B0) (ZT D B0)) (M : ZRm Γ (d + 1) lim none "layBranches" []) (S : SdT d D B0 Γ.l lim) (hk : 0 ≤ d) {x1 : Int} {x2 : Int} {w : TW} (rx1 : zr x1) (rx2 : zr x2) (h : pT_layBranches_0 (wpT d) (fun w => Γ.Q (.inl none) w) x1 x2 w) : ZV Γ w 0 [(0, ar (D.x + 1)), (1, ai x1), (2, ai x2)] [] := by
  refine zt_tok G (fun hw => ?_)
  refine zv_aload_n G rfl rfl dX1_layBranches_0 ?_
  refine zv_iconst (a := 0) G (by decide) dX1_layBranches_1 ?_
  refine zt_putI (k := 99) G (by decide) q2254 rfl (tyX1_ok 99 (by decide)) rfl (zr_k 0 (by decide) (by decide)) dX1_layBranches_2 (fun u1 eu1 => ?_)
  have h := h u1 eu1
  refine zt_tok G (fun hu1 => ?_)
  refine zv_iload_n G rfl rfl dX1_layBranches_5 ?_
  refine zv_iconst (a := 3) G (by decide) dX1_layBranches_6 ?_
  refine zv_icmp_lt (tgt := 65) G rx2 (zr_k 3 (by decide) (by decide)) (by decide) dX1_layBranches_7 (fun c2 => ?_) (fun c2 => ?_)
  · have h := h.1 c2
    refine zv_iload_n G rfl rfl dX1_layBranches_65 ?_
    refine zv_iconst (a := 1) G (by decide) dX1_layBranches_66 ?_
    refine zv_icmp_ne (tgt := 89) G rx2 (zr_k 1 (by decide) (by decide)) (by decide) dX1_layBranches_67 (fun c3 => ?_) (fun c3 => ?_)
    · have h := h.2 c3
      refine zv_iconst (a := 0) G (by decide) dX1_layBranches_89 ?_
      refine zv_istore_n G rfl (by decide) rfl dX1_layBranches_90 ?_
      exact zv_pick [0, 1, 2, 3] rfl (cpT_layBranches_91 G M S hk rx1 rx2 (zr_k 0 (by decide) (by decide)) h)
    · have h := h.1 c3
      refine zv_aload_n G rfl rfl dX1_layBranches_70 ?_
      refine zv_iconst (a := 0) G (by decide) dX1_layBranches_71 ?_
      refine zv_iconst (a := 0) G (by decide) dX1_layBranches_72 ?_
      refine zv_lconst (a := 0) G (by decide) dX1_layBranches_73 ?_
      refine zv_iconst (a := 0) G (by decide) dX1_layBranches_74 ?_
      refine zt_callV (as := [ai 0, ai 0, al 0, ai 0]) G M (S 59 _ rfl _ _ _ h (zoks_cons (zr_k 0 (by decide) (by decide)) (zoks_cons (zr_k 0 (by decide) (by decide)) (zoks_cons (zrl_k 0 (by decide) (by decide)) (zoks_cons (zr_k 0 (by decide) (by decide)) zoks_nil))))) q2802 q2804 qs120 q2805 md_oneBranch rfl (by decide) (Nat.le_of_ble_eq_true rfl) dX1_layBranches_75 (fun u35 h => ?_)
      refine zt_tok G (fun hu35 => ?_)
      refine zv_aload_n G rfl rfl dX1_layBranches_78 ?_
      refine zv_iconst (a := 1) G (by decide) dX1_layBranches_79 ?_
      refine zv_iconst (a := 0) G (by decide) dX1_layBranches_80 ?_
      refine zv_lconst (a := 0) G (by decide) dX1_layBranches_81 ?_
      refine zv_iconst (a := 0) G (by decide) dX1_layBranches_82 ?_
      refine zt_callV (as := [ai 1, ai 0, al 0, ai 0]) G M (S 59 _ rfl _ _ _ h (zoks_cons (zr_k 1 (by decide) (by decide)) (zoks_cons (zr_k 0 (by decide) (by decide)) (zoks_cons (zrl_k 0 (by decide) (by decide)) (zoks_cons (zr_k 0 (by decide) (by decide)) zoks_nil))))) q2802 q2804 qs120 q2805 md_oneBranch rfl (by decide) (Nat.le_of_ble_eq_true rfl) dX1_layBranches_83 (fun u36 h => ?_)
      refine zt_tok G (fun hu36 => ?_)
      refine zv_goto (tgt := 235) G (by decide) dX1_layBranches_86 ?_
      exact zv_pick [] rfl (cpT_layBranches_235 G M S hk h)
  · have h := h.2 c2
    refine zv_aload_n G rfl rfl dX1_layBranches_10 ?_
    refine zv_bipush (a := (-4)) G (by decide) dX1_layBranches_11 ?_
    refine zv_iconst (a := 0) G (by decide) dX1_layBranches_13 ?_
    refine zv_lconst (a := 0) G (by decide) dX1_layBranches_14 ?_
    refine zv_iconst (a := 0) G (by decide) dX1_layBranches_15 ?_
    refine zt_callV (as := [ai (-4), ai 0, al 0, ai 0]) G M (S 59 _ rfl _ _ _ h (zoks_cons (zr_k (-4) (by decide) (by decide)) (zoks_cons (zr_k 0 (by decide) (by decide)) (zoks_cons (zrl_k 0 (by decide) (by decide)) (zoks_cons (zr_k 0 (by decide) (by decide)) zoks_nil))))) q2802 q2804 qs120 q2805 md_oneBranch rfl (by decide) (Nat.le_of_ble_eq_true rfl) dX1_layBranches_16 (fun u37 h => ?_)
    refine zt_tok G (fun hu37 => ?_)
    refine zv_iconst (a := 0) G (by decide) dX1_layBranches_19 ?_
    refine zv_istore_n G rfl (by decide) rfl dX1_layBranches_20 ?_
    exact zv_pick [0, 2, 3] rfl (cpT_layBranches_21 G M S hk rx2 (zr_k 0 (by decide) (by decide)) h)
set_option maxHeartbeats 4000000 in
set_option maxRecDepth 100000 in
theorem cpT_asksAt_294 {Γ : ZG TW} {D : TD} {B0 d : Nat} {lim : Nat × Nat} (G : ZOk Γ cX1_asksAt RX1 9 (KnT D B0) (ZT D B0)) (M : ZRm Γ (d + 1) lim (some .int) "asksAt" []) (S : SdT d D B0 Γ.l lim) (hk : 0 ≤ d) {x3 : Int} {w : TW} (rx3 : zr x3) (h : pT_asksAt_294 (wpT d) (fun v w => Γ.Q (.inl (some (ai v))) w) x3 w) : ZV Γ w 294 [(3, ai x3)] [] := by
  refine zt_tok G (fun hw => ?_)
  refine zv_iload_n G rfl rfl dX1_asksAt_294 ?_
  exact zv_iret (ty := .int) rx3 G M rfl dX1_asksAt_295 h
set_option maxHeartbeats 4000000 in
set_option maxRecDepth 100000 in
theorem cpT_asksAt_288 {Γ : ZG TW} {D : TD} {B0 d : Nat} {lim : Nat × Nat} (G : ZOk Γ cX1_asksAt RX1 9 (KnT D B0) (ZT D B0)) (M : ZRm Γ (d + 1) lim (some .int) "asksAt" []) (S : SdT d D B0 Γ.l lim) (hk : 0 ≤ d) {I14 : Int → Int → Int → TW → Prop} {x1 : Int} {x2 : Int} {x3 : Int} {x4 : Int} {x5 : Int} {w : TW} (hI14 : ∀ (x3 : Int) (x4 : Int) (x5 : Int) (w : TW), I14 x3 x4 x5 w → zr x3 → zr x4 → zr x5 → ZV Γ w 14 [(0, ar (D.x + 1)), (1, ai x1), (2, ai x2), (3, ai x3), (4, ai x4), (5, ai x5)] []) (rx1 : zr x1) (rx2 : zr x2) (rx3 : zr x3) (rx4 : zr x4) (rx5 : zr x5) (h : pT_asksAt_288 (wpT d) (fun v w => Γ.Q (.inl (some (ai v))) w) I14 x1 x2 x3 x4 x5 w) : ZV Γ w 288 [(0, ar (D.x + 1)), (1, ai x1), (2, ai x2), (3, ai x3), (4, ai x4), (5, ai x5)] [] := by
  refine zt_tok G (fun hw => ?_)
  refine zv_iincN G rfl (by decide) dX1_asksAt_288 (fun x5_27 ex5_27 => ?_)
  have h := h x5_27 ex5_27
  have rx5_27 : zr x5_27 := by rw [ex5_27]; exact w32_r _
  refine zv_goto (tgt := 14) G (by decide) dX1_asksAt_291 ?_
  exact zv_pick [0, 1, 2, 3, 4, 5] rfl (hI14 _ _ _ _ h rx3 rx4 rx5_27)
set_option maxHeartbeats 4000000 in
set_option maxRecDepth 100000 in
theorem cpT_asksAt_281 {Γ : ZG TW} {D : TD} {B0 d : Nat} {lim : Nat × Nat} (G : ZOk Γ cX1_asksAt RX1 9 (KnT D B0) (ZT D B0)) (M : ZRm Γ (d + 1) lim (some .int) "asksAt" []) (S : SdT d D B0 Γ.l lim) (hk : 0 ≤ d) {I14 : Int → Int → Int → TW → Prop} {x1 : Int} {x2 : Int} {x5 : Int} {x7 : Int} {w : TW} (hI14 : ∀ (x3 : Int) (x4 : Int) (x5 : Int) (w : TW), I14 x3 x4 x5 w → zr x3 → zr x4 → zr x5 → ZV Γ w 14 [(0, ar (D.x + 1)), (1, ai x1), (2, ai x2), (3, ai x3), (4, ai x4), (5, ai x5)] []) (rx1 : zr x1) (rx2 : zr x2) (rx5 : zr x5) (rx7 : zr x7) (h : pT_asksAt_281 (wpT d) (fun v w => Γ.Q (.inl (some (ai v))) w) I14 x1 x2 x5 x7 w) : ZV Γ w 281 [(0, ar (D.x + 1)), (1, ai x1), (2, ai x2), (5, ai x5), (7, ai x7)] [] := by
  refine zt_tok G (fun hw => ?_)
  refine zv_iload G rfl dX1_asksAt_281 ?_
  refine zv_istore_n G rfl (by decide) rfl dX1_asksAt_283 ?_
  refine zv_iload G rfl dX1_asksAt_284 ?_
  refine zv_istore G (by decide) rfl dX1_asksAt_286 ?_
  exact zv_pick [0, 1, 2, 3, 4, 5] rfl (cpT_asksAt_288 G M S hk hI14 rx1 rx2 rx5 rx7 rx5 h)
set_option maxHeartbeats 4000000 in
set_option maxRecDepth 100000 in
theorem cpT_asksAt_259 {Γ : ZG TW} {D : TD} {B0 d : Nat} {lim : Nat × Nat} (G : ZOk Γ cX1_asksAt RX1 9 (KnT D B0) (ZT D B0)) (M : ZRm Γ (d + 1) lim (some .int) "asksAt" []) (S : SdT d D B0 Γ.l lim) (hk : 0 ≤ d) {I14 : Int → Int → Int → TW → Prop} {x1 : Int} {x2 : Int} {x3 : Int} {x4 : Int} {x5 : Int} {x7 : Int} {w : TW} (hI14 : ∀ (x3 : Int) (x4 : Int) (x5 : Int) (w : TW), I14 x3 x4 x5 w → zr x3 → zr x4 → zr x5 → ZV Γ w 14 [(0, ar (D.x + 1)), (1, ai x1), (2, ai x2), (3, ai x3), (4, ai x4), (5, ai x5)] []) (rx1 : zr x1) (rx2 : zr x2) (rx3 : zr x3) (rx4 : zr x4) (rx5 : zr x5) (rx7 : zr x7) (h : pT_asksAt_259 (wpT d) (fun v w => Γ.Q (.inl (some (ai v))) w) I14 x1 x2 x3 x4 x5 x7 w) : ZV Γ w 259 [(0, ar (D.x + 1)), (1, ai x1), (2, ai x2), (3, ai x3), (4, ai x4), (5, ai x5), (7, ai x7)] [] := by
  refine zt_tok G (fun hw => ?_)
  refine zv_iload_n G rfl rfl dX1_asksAt_259 ?_
  refine zv_bipush (a := (-4)) G (by decide) dX1_asksAt_260 ?_
  have kt28 : (x3 = (-4)) ∨ ((x2 = 3) ∨ (¬ (x2 ≤ 0) ∧ (¬ (x7 ≤ x4)))) → ZV Γ w 281 [(0, ar (D.x + 1)), (1, ai x1), (2, ai x2), (3, ai x3), (4, ai x4), (5, ai x5), (7, ai x7)] [] := by
    intro c30
    have h := h.1 c30
    exact zv_pick [0, 1, 2, 5, 7] rfl (cpT_asksAt_281 G M S hk hI14 rx1 rx2 rx5 rx7 h)
  have kf29 : ¬ ((x3 = (-4)) ∨ ((x2 = 3) ∨ (¬ (x2 ≤ 0) ∧ (¬ (x7 ≤ x4))))) → ZV Γ w 288 [(0, ar (D.x + 1)), (1, ai x1), (2, ai x2), (3, ai x3), (4, ai x4), (5, ai x5), (7, ai x7)] [] := by
    intro c30
    have h := h.2 c30
    exact zv_pick [0, 1, 2, 3, 4, 5] rfl (cpT_asksAt_288 G M S hk hI14 rx1 rx2 rx3 rx4 rx5 h)
  refine zv_icmp_eq (tgt := 281) G rx3 (zr_k (-4) (by decide) (by decide)) (by decide) dX1_asksAt_262 (fun c31 => ?_) (fun c31 => ?_)
  · exact kt28 (Or.inl c31)
  · refine zv_iload_n G rfl rfl dX1_asksAt_265 ?_
    refine zv_iconst (a := 3) G (by decide) dX1_asksAt_266 ?_
    refine zv_icmp_eq (tgt := 281) G rx2 (zr_k 3 (by decide) (by decide)) (by decide) dX1_asksAt_267 (fun c32 => ?_) (fun c32 => ?_)
    · exact kt28 (Or.inr (Or.inl c32))
    · refine zv_iload_n G rfl rfl dX1_asksAt_270 ?_
      refine zv_if_le (tgt := 288) G rx2 (by decide) dX1_asksAt_271 (fun c33 => ?_) (fun c33 => ?_)
      · exact kf29 (fun q => q.elim c31 (fun q => q.elim c32 (fun q => q.1 c33)))
      · refine zv_iload G rfl dX1_asksAt_274 ?_
        refine zv_iload G rfl dX1_asksAt_276 ?_
        refine zv_icmp_le (tgt := 288) G rx7 rx4 (by decide) dX1_asksAt_278 (fun c34 => ?_) (fun c34 => ?_)
        · exact kf29 (fun q => q.elim c31 (fun q => q.elim c32 (fun q => (fun q => q c34) q.2)))
        · exact kt28 (Or.inr (Or.inr ⟨c33, c34⟩))
set_option maxHeartbeats 4000000 in
set_option maxRecDepth 100000 in
theorem cpT_asksAt_221 {Γ : ZG TW} {D : TD} {B0 d : Nat} {lim : Nat × Nat} (G : ZOk Γ cX1_asksAt RX1 9 (KnT D B0) (ZT D B0)) (M : ZRm Γ (d + 1) lim (some .int) "asksAt" []) (S : SdT d D B0 Γ.l lim) (hk : 0 ≤ d) {I14 : Int → Int → Int → TW → Prop} {x1 : Int} {x2 : Int} {x3 : Int} {x4 : Int} {x5 : Int} {x7 : Int} {w : TW} (hI14 : ∀ (x3 : Int) (x4 : Int) (x5 : Int) (w : TW), I14 x3 x4 x5 w → zr x3 → zr x4 → zr x5 → ZV Γ w 14 [(0, ar (D.x + 1)), (1, ai x1), (2, ai x2), (3, ai x3), (4, ai x4), (5, ai x5)] []) (rx1 : zr x1) (rx2 : zr x2) (rx3 : zr x3) (rx4 : zr x4) (rx5 : zr x5) (rx7 : zr x7) (h : pT_asksAt_221 (wpT d) (fun v w => Γ.Q (.inl (some (ai v))) w) I14 x1 x2 x3 x4 x5 x7 w) : ZV Γ w 221 [(0, ar (D.x + 1)), (1, ai x1), (2, ai x2), (3, ai x3), (4, ai x4), (5, ai x5), (7, ai x7)] [] := by
  refine zt_tok G (fun hw => ?_)
  refine zv_goto (tgt := 259) G (by decide) dX1_asksAt_221 ?_
  exact zv_pick [0, 1, 2, 3, 4, 5, 7] rfl (cpT_asksAt_259 G M S hk hI14 rx1 rx2 rx3 rx4 rx5 rx7 h)
set_option maxHeartbeats 4000000 in
set_option maxRecDepth 100000 in
theorem cpT_asksAt_212 {Γ : ZG TW} {D : TD} {B0 d : Nat} {lim : Nat × Nat} (G : ZOk Γ cX1_asksAt RX1 9 (KnT D B0) (ZT D B0)) (M : ZRm Γ (d + 1) lim (some .int) "asksAt" []) (S : SdT d D B0 Γ.l lim) (hk : 0 ≤ d) {I14 : Int → Int → Int → TW → Prop} {I170 : Int → Int → TW → Prop} {x1 : Int} {x2 : Int} {x3 : Int} {x4 : Int} {x5 : Int} {x8 : Int} {s0 : Int} {s1 : Int} {w : TW} (hI14 : ∀ (x3 : Int) (x4 : Int) (x5 : Int) (w : TW), I14 x3 x4 x5 w → zr x3 → zr x4 → zr x5 → ZV Γ w 14 [(0, ar (D.x + 1)), (1, ai x1), (2, ai x2), (3, ai x3), (4, ai x4), (5, ai x5)] []) (hI170 : ∀ (x7 : Int) (x8 : Int) (w : TW), I170 x7 x8 w → zr x7 → zr x8 → ZV Γ w 170 [(0, ar (D.x + 1)), (1, ai x1), (2, ai x2), (3, ai x3), (4, ai x4), (5, ai x5), (7, ai x7), (8, ai x8)] []) (rx1 : zr x1) (rx2 : zr x2) (rx3 : zr x3) (rx4 : zr x4) (rx5 : zr x5) (rx8 : zr x8) (rs0 : zr s0) (rs1 : zr s1) (h : pT_asksAt_212 (wpT d) (fun v w => Γ.Q (.inl (some (ai v))) w) I14 I170 x1 x2 x3 x4 x5 x8 s0 s1 w) : ZV Γ w 212 [(0, ar (D.x + 1)), (1, ai x1), (2, ai x2), (3, ai x3), (4, ai x4), (5, ai x5), (8, ai x8)] [ai s0, ai s1] := by
  refine zt_tok G (fun hw => ?_)
  refine zv_iadd G dX1_asksAt_212 ?_
  refine zv_istoreN G (by decide) dX1_asksAt_213 (fun x7_43 ex7_43 => ?_)
  have h := h x7_43 ex7_43
  have rx7_43 : zr x7_43 := by rw [ex7_43]; exact (w32_r _)
  refine zv_iincN G rfl (by decide) dX1_asksAt_215 (fun x8_44 ex8_44 => ?_)
  have h := h x8_44 ex8_44
  have rx8_44 : zr x8_44 := by rw [ex8_44]; exact w32_r _
  refine zv_goto (tgt := 170) G (by decide) dX1_asksAt_218 ?_
  exact zv_pick [0, 1, 2, 3, 4, 5, 7, 8] rfl (hI170 _ _ _ h rx7_43 rx8_44)
set_option maxHeartbeats 4000000 in
set_option maxRecDepth 100000 in
theorem cpT_asksAt_211 {Γ : ZG TW} {D : TD} {B0 d : Nat} {lim : Nat × Nat} (G : ZOk Γ cX1_asksAt RX1 9 (KnT D B0) (ZT D B0)) (M : ZRm Γ (d + 1) lim (some .int) "asksAt" []) (S : SdT d D B0 Γ.l lim) (hk : 0 ≤ d) {I14 : Int → Int → Int → TW → Prop} {I170 : Int → Int → TW → Prop} {x1 : Int} {x2 : Int} {x3 : Int} {x4 : Int} {x5 : Int} {x8 : Int} {s0 : Int} {w : TW} (hI14 : ∀ (x3 : Int) (x4 : Int) (x5 : Int) (w : TW), I14 x3 x4 x5 w → zr x3 → zr x4 → zr x5 → ZV Γ w 14 [(0, ar (D.x + 1)), (1, ai x1), (2, ai x2), (3, ai x3), (4, ai x4), (5, ai x5)] []) (hI170 : ∀ (x7 : Int) (x8 : Int) (w : TW), I170 x7 x8 w → zr x7 → zr x8 → ZV Γ w 170 [(0, ar (D.x + 1)), (1, ai x1), (2, ai x2), (3, ai x3), (4, ai x4), (5, ai x5), (7, ai x7), (8, ai x8)] []) (rx1 : zr x1) (rx2 : zr x2) (rx3 : zr x3) (rx4 : zr x4) (rx5 : zr x5) (rx8 : zr x8) (rs0 : zr s0) (h : pT_asksAt_211 (wpT d) (fun v w => Γ.Q (.inl (some (ai v))) w) I14 I170 x1 x2 x3 x4 x5 x8 s0 w) : ZV Γ w 211 [(0, ar (D.x + 1)), (1, ai x1), (2, ai x2), (3, ai x3), (4, ai x4), (5, ai x5), (8, ai x8)] [ai s0] := by
  refine zt_tok G (fun hw => ?_)
  refine zv_iconst (a := 0) G (by decide) dX1_asksAt_211 ?_
  exact zv_pick [0, 1, 2, 3, 4, 5, 8] rfl (cpT_asksAt_212 G M S hk hI14 hI170 rx1 rx2 rx3 rx4 rx5 rx8 (zr_k 0 (by decide) (by decide)) rs0 h)
set_option maxHeartbeats 4000000 in
set_option maxRecDepth 100000 in
theorem cpT_asksAt_170 {Γ : ZG TW} {D : TD} {B0 d : Nat} {lim : Nat × Nat} (G : ZOk Γ cX1_asksAt RX1 9 (KnT D B0) (ZT D B0)) (M : ZRm Γ (d + 1) lim (some .int) "asksAt" []) (S : SdT d D B0 Γ.l lim) (hk : 0 ≤ d) {I14 : Int → Int → Int → TW → Prop} {x1 : Int} {x2 : Int} {x3 : Int} {x4 : Int} {x5 : Int} {x7 : Int} {x8 : Int} {w : TW} (hI14 : ∀ (x3 : Int) (x4 : Int) (x5 : Int) (w : TW), I14 x3 x4 x5 w → zr x3 → zr x4 → zr x5 → ZV Γ w 14 [(0, ar (D.x + 1)), (1, ai x1), (2, ai x2), (3, ai x3), (4, ai x4), (5, ai x5)] []) (rx1 : zr x1) (rx2 : zr x2) (rx3 : zr x3) (rx4 : zr x4) (rx5 : zr x5) (rx7 : zr x7) (rx8 : zr x8) (h : pT_asksAt_170 (wpT d) (fun v w => Γ.Q (.inl (some (ai v))) w) I14 x1 x2 x3 x4 x5 x7 x8 w) : ZV Γ w 170 [(0, ar (D.x + 1)), (1, ai x1), (2, ai x2), (3, ai x3), (4, ai x4), (5, ai x5), (7, ai x7), (8, ai x8)] [] := by
  refine h (fun x7 x8 w => zr x7 → zr x8 → ZV Γ w 170 [(0, ar (D.x + 1)), (1, ai x1), (2, ai x2), (3, ai x3), (4, ai x4), (5, ai x5), (7, ai x7), (8, ai x8)] []) ?_ rx7 rx8
  clear h
  intro x7 x8 w h rx7 rx8
  have hI170 : ∀ (x7 : Int) (x8 : Int) (w : TW), (fun x7 x8 w => zr x7 → zr x8 → ZV Γ w 170 [(0, ar (D.x + 1)), (1, ai x1), (2, ai x2), (3, ai x3), (4, ai x4), (5, ai x5), (7, ai x7), (8, ai x8)] []) x7 x8 w → zr x7 → zr x8 → ZV Γ w 170 [(0, ar (D.x + 1)), (1, ai x1), (2, ai x2), (3, ai x3), (4, ai x4), (5, ai x5), (7, ai x7), (8, ai x8)] [] := fun _ _ _ z => z
  refine zt_tok G (fun hw => ?_)
  refine zv_iload G rfl dX1_asksAt_170 ?_
  refine zv_aload_n G rfl rfl dX1_asksAt_172 ?_
  refine zt_get (k := 61) (v := ai (tI w 61)) G (by decide) q2216 rfl dX1_asksAt_173 ?_
  refine zv_icmp_ge (tgt := 221) G rx8 (hw.i 61 (by decide)) (by decide) dX1_asksAt_176 (fun c40 => ?_) (fun c40 => ?_)
  · have h := h.1 c40
    exact zv_pick [0, 1, 2, 3, 4, 5, 7] rfl (cpT_asksAt_221 G M S hk hI14 rx1 rx2 rx3 rx4 rx5 rx7 h)
  · have h := h.2 c40
    refine zv_iload G rfl dX1_asksAt_179 ?_
    refine zv_aload_n G rfl rfl dX1_asksAt_181 ?_
    refine zt_get (k := 70) (v := ar (D.ad 70 + 1)) G (by decide) q2225 rfl dX1_asksAt_182 ?_
    refine zv_iload G rfl dX1_asksAt_185 ?_
    have o41 := h.1
    have h := h.2
    refine zt_zald (f := 70) G (by decide) rfl rx8 o41.1 o41.2 dX1_asksAt_187 ?_
    refine zv_if_eq (tgt := 211) G (hw.a 70 _ (by decide)) (by decide) dX1_asksAt_188 (fun c42 => ?_) (fun c42 => ?_)
    · have h := h.1 c42
      exact zv_pick [0, 1, 2, 3, 4, 5, 8] rfl (cpT_asksAt_211 G M S hk hI14 hI170 rx1 rx2 rx3 rx4 rx5 rx8 rx7 h)
    · have h := h.2 c42
      refine zv_aload_n G rfl rfl dX1_asksAt_191 ?_
      refine zv_iload G rfl dX1_asksAt_192 ?_
      refine zv_aload_n G rfl rfl dX1_asksAt_194 ?_
      refine zt_get (k := 67) (v := ar (D.ad 67 + 1)) G (by decide) q2222 rfl dX1_asksAt_195 ?_
      refine zv_iload G rfl dX1_asksAt_198 ?_
      have o45 := h.1
      have h := h.2
      refine zt_iald (f := 67) G (by decide) rfl rx5 o45.1 o45.2 dX1_asksAt_200 ?_
      refine zt_callI (as := [ai x8, ai (tA w 67 x5)]) G M (S 57 _ rfl _ _ _ h (zoks_cons rx8 (zoks_cons (hw.a 67 _ (by decide)) zoks_nil))) q2794 q2796 qs118 q2797 md_isLeft rfl (by decide) (Nat.le_of_ble_eq_true rfl) dX1_asksAt_201 (fun v47 u46 rv47 h => ?_)
      refine zt_tok G (fun hu46 => ?_)
      refine zv_if_eq (tgt := 211) G rv47 (by decide) dX1_asksAt_204 (fun c48 => ?_) (fun c48 => ?_)
      · have h := h.1 c48
        exact zv_pick [0, 1, 2, 3, 4, 5, 8] rfl (cpT_asksAt_211 G M S hk hI14 hI170 rx1 rx2 rx3 rx4 rx5 rx8 rx7 h)
      · have h := h.2 c48
        refine zv_iconst (a := 1) G (by decide) dX1_asksAt_207 ?_
        refine zv_goto (tgt := 212) G (by decide) dX1_asksAt_208 ?_
        exact zv_pick [0, 1, 2, 3, 4, 5, 8] rfl (cpT_asksAt_212 G M S hk hI14 hI170 rx1 rx2 rx3 rx4 rx5 rx8 (zr_k 1 (by decide) (by decide)) rx7 h)
set_option maxHeartbeats 4000000 in
set_option maxRecDepth 100000 in
theorem cpT_asksAt_151 {Γ : ZG TW} {D : TD} {B0 d : Nat} {lim : Nat × Nat} (G : ZOk Γ cX1_asksAt RX1 9 (KnT D B0) (ZT D B0)) (M : ZRm Γ (d + 1) lim (some .int) "asksAt" []) (S : SdT d D B0 Γ.l lim) (hk : 0 ≤ d) {I14 : Int → Int → Int → TW → Prop} {x1 : Int} {x2 : Int} {x3 : Int} {x4 : Int} {x5 : Int} {x6 : Int} {w : TW} (hI14 : ∀ (x3 : Int) (x4 : Int) (x5 : Int) (w : TW), I14 x3 x4 x5 w → zr x3 → zr x4 → zr x5 → ZV Γ w 14 [(0, ar (D.x + 1)), (1, ai x1), (2, ai x2), (3, ai x3), (4, ai x4), (5, ai x5)] []) (rx1 : zr x1) (rx2 : zr x2) (rx3 : zr x3) (rx4 : zr x4) (rx5 : zr x5) (rx6 : zr x6) (h : pT_asksAt_151 (wpT d) (fun v w => Γ.Q (.inl (some (ai v))) w) I14 x1 x2 x3 x4 x5 x6 w) : ZV Γ w 151 [(0, ar (D.x + 1)), (1, ai x1), (2, ai x2), (3, ai x3), (4, ai x4), (5, ai x5), (6, ai x6)] [] := by
  refine zt_tok G (fun hw => ?_)
  refine zv_iload G rfl dX1_asksAt_151 ?_
  refine zv_if_ne (tgt := 159) G rx6 (by decide) dX1_asksAt_153 (fun c24 => ?_) (fun c24 => ?_)
  · have h := h.2 c24
    refine zv_iconst (a := 0) G (by decide) dX1_asksAt_159 ?_
    refine zv_istore G (by decide) rfl dX1_asksAt_160 ?_
    refine zv_iload_n G rfl rfl dX1_asksAt_162 ?_
    refine zv_iconst (a := 1) G (by decide) dX1_asksAt_163 ?_
    refine zv_icmp_ne (tgt := 224) G rx2 (zr_k 1 (by decide) (by decide)) (by decide) dX1_asksAt_164 (fun c25 => ?_) (fun c25 => ?_)
    · have h := h.2 c25
      refine zv_iload_n G rfl rfl dX1_asksAt_224 ?_
      refine zv_iconst (a := 2) G (by decide) dX1_asksAt_225 ?_
      refine zv_icmp_ne (tgt := 259) G rx2 (zr_k 2 (by decide) (by decide)) (by decide) dX1_asksAt_226 (fun c26 => ?_) (fun c26 => ?_)
      · have h := h.2 c26
        exact zv_pick [0, 1, 2, 3, 4, 5, 7] rfl (cpT_asksAt_259 G M S hk hI14 rx1 rx2 rx3 rx4 rx5 (zr_k 0 (by decide) (by decide)) h)
      · have h := h.1 c26
        refine zv_aload_n G rfl rfl dX1_asksAt_229 ?_
        refine zv_aload_n G rfl rfl dX1_asksAt_230 ?_
        refine zt_get (k := 67) (v := ar (D.ad 67 + 1)) G (by decide) q2222 rfl dX1_asksAt_231 ?_
        refine zv_iload G rfl dX1_asksAt_234 ?_
        have o35 := h.1
        have h := h.2
        refine zt_iald (f := 67) G (by decide) rfl rx5 o35.1 o35.2 dX1_asksAt_236 ?_
        refine zv_aload_n G rfl rfl dX1_asksAt_237 ?_
        refine zt_get (k := 18) (v := ar (D.ad 18 + 1)) G (by decide) q2173 rfl dX1_asksAt_238 ?_
        refine zv_aload_n G rfl rfl dX1_asksAt_241 ?_
        refine zt_get (k := 68) (v := ar (D.ad 68 + 1)) G (by decide) q2223 rfl dX1_asksAt_242 ?_
        refine zv_iload G rfl dX1_asksAt_245 ?_
        have o36 := h.1
        have h := h.2
        refine zt_iald (f := 68) G (by decide) rfl rx5 o36.1 o36.2 dX1_asksAt_247 ?_
        have o37 := h.1
        have h := h.2
        refine zt_iald (f := 18) G (by decide) rfl (hw.a 68 _ (by decide)) o37.1 o37.2 dX1_asksAt_248 ?_
        refine zt_callV (as := [ai (tA w 67 x5), ai (tA w 18 (tA w 68 x5))]) G M (S 58 _ rfl _ _ _ h (zoks_cons (hw.a 67 _ (by decide)) (zoks_cons (hw.a 18 _ (by decide)) zoks_nil))) q2798 q2800 qs119 q2801 md_layBranches rfl (by decide) (Nat.le_of_ble_eq_true rfl) dX1_asksAt_249 (fun u38 h => ?_)
        refine zt_tok G (fun hu38 => ?_)
        refine zv_aload_n G rfl rfl dX1_asksAt_252 ?_
        refine zt_get (k := 99) (v := ai (tI u38 99)) G (by decide) q2254 rfl dX1_asksAt_253 ?_
        refine zv_ineg G dX1_asksAt_256 ?_
        refine zv_istoreN G (by decide) dX1_asksAt_257 (fun x7_39 ex7_39 => ?_)
        have h := h x7_39 ex7_39
        have rx7_39 : zr x7_39 := by rw [ex7_39]; exact (w32_r _)
        exact zv_pick [0, 1, 2, 3, 4, 5, 7] rfl (cpT_asksAt_259 G M S hk hI14 rx1 rx2 rx3 rx4 rx5 rx7_39 h)
    · have h := h.1 c25
      refine zv_iconst (a := 0) G (by decide) dX1_asksAt_167 ?_
      refine zv_istore G (by decide) rfl dX1_asksAt_168 ?_
      exact zv_pick [0, 1, 2, 3, 4, 5, 7, 8] rfl (cpT_asksAt_170 G M S hk hI14 rx1 rx2 rx3 rx4 rx5 (zr_k 0 (by decide) (by decide)) (zr_k 0 (by decide) (by decide)) h)
  · have h := h.1 c24
    refine zv_goto (tgt := 288) G (by decide) dX1_asksAt_156 ?_
    exact zv_pick [0, 1, 2, 3, 4, 5] rfl (cpT_asksAt_288 G M S hk hI14 rx1 rx2 rx3 rx4 rx5 h)
set_option maxHeartbeats 4000000 in
set_option maxRecDepth 100000 in
theorem cpT_asksAt_99 {Γ : ZG TW} {D : TD} {B0 d : Nat} {lim : Nat × Nat} (G : ZOk Γ cX1_asksAt RX1 9 (KnT D B0) (ZT D B0)) (M : ZRm Γ (d + 1) lim (some .int) "asksAt" []) (S : SdT d D B0 Γ.l lim) (hk : 0 ≤ d) {I14 : Int → Int → Int → TW → Prop} {x1 : Int} {x2 : Int} {x3 : Int} {x4 : Int} {x5 : Int} {x6 : Int} {x7 : Int} {w : TW} (hI14 : ∀ (x3 : Int) (x4 : Int) (x5 : Int) (w : TW), I14 x3 x4 x5 w → zr x3 → zr x4 → zr x5 → ZV Γ w 14 [(0, ar (D.x + 1)), (1, ai x1), (2, ai x2), (3, ai x3), (4, ai x4), (5, ai x5)] []) (rx1 : zr x1) (rx2 : zr x2) (rx3 : zr x3) (rx4 : zr x4) (rx5 : zr x5) (rx6 : zr x6) (rx7 : zr x7) (h : pT_asksAt_99 (wpT d) (fun v w => Γ.Q (.inl (some (ai v))) w) I14 x1 x2 x3 x4 x5 x6 x7 w) : ZV Γ w 99 [(0, ar (D.x + 1)), (1, ai x1), (2, ai x2), (3, ai x3), (4, ai x4), (5, ai x5), (6, ai x6), (7, ai x7)] [] := by
  refine h (fun x6 x7 w => zr x6 → zr x7 → ZV Γ w 99 [(0, ar (D.x + 1)), (1, ai x1), (2, ai x2), (3, ai x3), (4, ai x4), (5, ai x5), (6, ai x6), (7, ai x7)] []) ?_ rx6 rx7
  clear h
  intro x6 x7 w h rx6 rx7
  have hI99 : ∀ (x6 : Int) (x7 : Int) (w : TW), (fun x6 x7 w => zr x6 → zr x7 → ZV Γ w 99 [(0, ar (D.x + 1)), (1, ai x1), (2, ai x2), (3, ai x3), (4, ai x4), (5, ai x5), (6, ai x6), (7, ai x7)] []) x6 x7 w → zr x6 → zr x7 → ZV Γ w 99 [(0, ar (D.x + 1)), (1, ai x1), (2, ai x2), (3, ai x3), (4, ai x4), (5, ai x5), (6, ai x6), (7, ai x7)] [] := fun _ _ _ z => z
  refine zt_tok G (fun hw => ?_)
  refine zv_iload G rfl dX1_asksAt_99 ?_
  refine zv_iload G rfl dX1_asksAt_101 ?_
  have kt49 : ¬ (x5 ≤ x7) ∧ (¬ (x6 = 0)) → ZV Γ w 111 [(0, ar (D.x + 1)), (1, ai x1), (2, ai x2), (3, ai x3), (4, ai x4), (5, ai x5), (6, ai x6), (7, ai x7)] [] := by
    intro c51
    have h := h.1 c51
    refine zv_aload_n G rfl rfl dX1_asksAt_111 ?_
    refine zt_get (k := 69) (v := ar (D.ad 69 + 1)) G (by decide) q2224 rfl dX1_asksAt_112 ?_
    refine zv_iload G rfl dX1_asksAt_115 ?_
    have o17 := h.1
    have h := h.2
    refine zt_zald (f := 69) G (by decide) rfl rx7 o17.1 o17.2 dX1_asksAt_117 ?_
    have o19 := h.1
    have h := h.2
    have kj21 : ∀ v18 : Int, v18 = (if ¬ ((tA w 69 x7) = 0) ∨ (¬ ((tA w 67 x7) = (tA w 67 x5))) then 1 else 0) → ZV Γ w 143 [(0, ar (D.x + 1)), (1, ai x1), (2, ai x2), (3, ai x3), (4, ai x4), (5, ai x5), (6, ai x6), (7, ai x7)] (ai v18 :: []) := by
      intro v18 ev18
      have h := h v18 ev18
      have rv18 : zr v18 := by rw [ev18]; exact (zr_ite (zr_k 1 (by decide) (by decide)) (zr_k 0 (by decide) (by decide)))
      have bv18 : v18 = 0 ∨ v18 = 1 := by rw [ev18]; exact (zb_ite (Or.inr rfl) (Or.inl rfl))
      refine zv_istore G (by decide) rfl dX1_asksAt_143 ?_
      refine zv_iincN G rfl (by decide) dX1_asksAt_145 (fun x7_20 ex7_20 => ?_)
      have h := h x7_20 ex7_20
      have rx7_20 : zr x7_20 := by rw [ex7_20]; exact w32_r _
      refine zv_goto (tgt := 99) G (by decide) dX1_asksAt_148 ?_
      exact zv_pick [0, 1, 2, 3, 4, 5, 6, 7] rfl (hI99 _ _ _ h rv18 rx7_20)
    refine zv_if_ne (tgt := 138) G (hw.a 69 _ (by decide)) (by decide) dX1_asksAt_118 (fun c22 => ?_) (fun c22 => ?_)
    · refine zv_iconst (a := 1) G (by decide) dX1_asksAt_138 ?_
      refine zv_goto (tgt := 143) G (by decide) dX1_asksAt_139 ?_
      exact kj21 _ (if_pos (Or.inl c22)).symm
    · refine zv_aload_n G rfl rfl dX1_asksAt_121 ?_
      refine zt_get (k := 67) (v := ar (D.ad 67 + 1)) G (by decide) q2222 rfl dX1_asksAt_122 ?_
      refine zv_iload G rfl dX1_asksAt_125 ?_
      refine zt_iald (f := 67) G (by decide) rfl rx7 (o19 c22).1.1 (o19 c22).1.2 dX1_asksAt_127 ?_
      refine zv_aload_n G rfl rfl dX1_asksAt_128 ?_
      refine zt_get (k := 67) (v := ar (D.ad 67 + 1)) G (by decide) q2222 rfl dX1_asksAt_129 ?_
      refine zv_iload G rfl dX1_asksAt_132 ?_
      refine zt_iald (f := 67) G (by decide) rfl rx5 (o19 c22).2.1 (o19 c22).2.2 dX1_asksAt_134 ?_
      refine zv_icmp_eq (tgt := 142) G (hw.a 67 _ (by decide)) (hw.a 67 _ (by decide)) (by decide) dX1_asksAt_135 (fun c23 => ?_) (fun c23 => ?_)
      · refine zv_iconst (a := 0) G (by decide) dX1_asksAt_142 ?_
        exact kj21 _ (if_neg (fun q => q.elim (fun z => z c22) (fun q => q c23))).symm
      · refine zv_iconst (a := 1) G (by decide) dX1_asksAt_138 ?_
        refine zv_goto (tgt := 143) G (by decide) dX1_asksAt_139 ?_
        exact kj21 _ (if_pos (Or.inr c23)).symm
  have kf50 : ¬ (¬ (x5 ≤ x7) ∧ (¬ (x6 = 0))) → ZV Γ w 151 [(0, ar (D.x + 1)), (1, ai x1), (2, ai x2), (3, ai x3), (4, ai x4), (5, ai x5), (6, ai x6), (7, ai x7)] [] := by
    intro c51
    have h := h.2 c51
    exact zv_pick [0, 1, 2, 3, 4, 5, 6] rfl (cpT_asksAt_151 G M S hk hI14 rx1 rx2 rx3 rx4 rx5 rx6 h)
  refine zv_icmp_ge (tgt := 151) G rx7 rx5 (by decide) dX1_asksAt_103 (fun c52 => ?_) (fun c52 => ?_)
  · exact kf50 (fun q => q.1 c52)
  · refine zv_iload G rfl dX1_asksAt_106 ?_
    refine zv_if_eq (tgt := 151) G rx6 (by decide) dX1_asksAt_108 (fun c53 => ?_) (fun c53 => ?_)
    · exact kf50 (fun q => (fun q => q c53) q.2)
    · exact kt49 ⟨c52, c53⟩
set_option maxHeartbeats 4000000 in
set_option maxRecDepth 100000 in
theorem cpT_asksAt_91 {Γ : ZG TW} {D : TD} {B0 d : Nat} {lim : Nat × Nat} (G : ZOk Γ cX1_asksAt RX1 9 (KnT D B0) (ZT D B0)) (M : ZRm Γ (d + 1) lim (some .int) "asksAt" []) (S : SdT d D B0 Γ.l lim) (hk : 0 ≤ d) {I14 : Int → Int → Int → TW → Prop} {x1 : Int} {x2 : Int} {x3 : Int} {x4 : Int} {x5 : Int} {x6 : Int} {w : TW} (hI14 : ∀ (x3 : Int) (x4 : Int) (x5 : Int) (w : TW), I14 x3 x4 x5 w → zr x3 → zr x4 → zr x5 → ZV Γ w 14 [(0, ar (D.x + 1)), (1, ai x1), (2, ai x2), (3, ai x3), (4, ai x4), (5, ai x5)] []) (rx1 : zr x1) (rx2 : zr x2) (rx3 : zr x3) (rx4 : zr x4) (rx5 : zr x5) (rx6 : zr x6) (h : pT_asksAt_91 (wpT d) (fun v w => Γ.Q (.inl (some (ai v))) w) I14 x1 x2 x3 x4 x5 x6 w) : ZV Γ w 91 [(0, ar (D.x + 1)), (1, ai x1), (2, ai x2), (3, ai x3), (4, ai x4), (5, ai x5), (6, ai x6)] [] := by
  refine zt_tok G (fun hw => ?_)
  refine zv_aload_n G rfl rfl dX1_asksAt_91 ?_
  refine zt_get (k := 64) (v := ar (D.ad 64 + 1)) G (by decide) q2219 rfl dX1_asksAt_92 ?_
  refine zv_iload_n G rfl rfl dX1_asksAt_95 ?_
  have o15 := h.1
  have h := h.2
  refine zt_iald (f := 64) G (by decide) rfl rx1 o15.1 o15.2 dX1_asksAt_96 ?_
  refine zv_istoreN G (by decide) dX1_asksAt_97 (fun x7_16 ex7_16 => ?_)
  have h := h x7_16 ex7_16
  have rx7_16 : zr x7_16 := by rw [ex7_16]; exact (hw.a 64 _ (by decide))
  exact zv_pick [0, 1, 2, 3, 4, 5, 6, 7] rfl (cpT_asksAt_99 G M S hk hI14 rx1 rx2 rx3 rx4 rx5 rx6 rx7_16 h)
set_option maxHeartbeats 4000000 in
set_option maxRecDepth 100000 in
theorem cpT_asksAt_55 {Γ : ZG TW} {D : TD} {B0 d : Nat} {lim : Nat × Nat} (G : ZOk Γ cX1_asksAt RX1 9 (KnT D B0) (ZT D B0)) (M : ZRm Γ (d + 1) lim (some .int) "asksAt" []) (S : SdT d D B0 Γ.l lim) (hk : 0 ≤ d) {I14 : Int → Int → Int → TW → Prop} {x1 : Int} {x2 : Int} {x3 : Int} {x4 : Int} {x5 : Int} {x6 : Int} {x7 : Int} {w : TW} (hI14 : ∀ (x3 : Int) (x4 : Int) (x5 : Int) (w : TW), I14 x3 x4 x5 w → zr x3 → zr x4 → zr x5 → ZV Γ w 14 [(0, ar (D.x + 1)), (1, ai x1), (2, ai x2), (3, ai x3), (4, ai x4), (5, ai x5)] []) (rx1 : zr x1) (rx2 : zr x2) (rx3 : zr x3) (rx4 : zr x4) (rx5 : zr x5) (rx6 : zr x6) (rx7 : zr x7) (h : pT_asksAt_55 (wpT d) (fun v w => Γ.Q (.inl (some (ai v))) w) I14 x1 x2 x3 x4 x5 x6 x7 w) : ZV Γ w 55 [(0, ar (D.x + 1)), (1, ai x1), (2, ai x2), (3, ai x3), (4, ai x4), (5, ai x5), (6, ai x6), (7, ai x7)] [] := by
  refine h (fun x6 x7 w => zr x6 → zr x7 → ZV Γ w 55 [(0, ar (D.x + 1)), (1, ai x1), (2, ai x2), (3, ai x3), (4, ai x4), (5, ai x5), (6, ai x6), (7, ai x7)] []) ?_ rx6 rx7
  clear h
  intro x6 x7 w h rx6 rx7
  have hI55 : ∀ (x6 : Int) (x7 : Int) (w : TW), (fun x6 x7 w => zr x6 → zr x7 → ZV Γ w 55 [(0, ar (D.x + 1)), (1, ai x1), (2, ai x2), (3, ai x3), (4, ai x4), (5, ai x5), (6, ai x6), (7, ai x7)] []) x6 x7 w → zr x6 → zr x7 → ZV Γ w 55 [(0, ar (D.x + 1)), (1, ai x1), (2, ai x2), (3, ai x3), (4, ai x4), (5, ai x5), (6, ai x6), (7, ai x7)] [] := fun _ _ _ z => z
  refine zt_tok G (fun hw => ?_)
  refine zv_iload G rfl dX1_asksAt_55 ?_
  have kt54 : ¬ (x7 ≤ 0) ∧ (¬ (x6 = 0)) → ZV Γ w 65 [(0, ar (D.x + 1)), (1, ai x1), (2, ai x2), (3, ai x3), (4, ai x4), (5, ai x5), (6, ai x6), (7, ai x7)] [] := by
    intro c56
    have h := h.1 c56
    refine zv_aload_n G rfl rfl dX1_asksAt_65 ?_
    refine zv_iload_n G rfl rfl dX1_asksAt_66 ?_
    refine zv_iload G rfl dX1_asksAt_67 ?_
    refine zt_callI (as := [ai x1, ai x7]) G M (S 57 _ rfl _ _ _ h (zoks_cons rx1 (zoks_cons rx7 zoks_nil))) q2794 q2796 qs118 q2797 md_isLeft rfl (by decide) (Nat.le_of_ble_eq_true rfl) dX1_asksAt_69 (fun v10 u9 rv10 h => ?_)
    refine zt_tok G (fun hu9 => ?_)
    have kj13 : ∀ v11 : Int, v11 = (if v10 = 0 then 1 else 0) → ZV Γ u9 80 [(0, ar (D.x + 1)), (1, ai x1), (2, ai x2), (3, ai x3), (4, ai x4), (5, ai x5), (6, ai x6), (7, ai x7)] (ai v11 :: []) := by
      intro v11 ev11
      have h := h v11 ev11
      have rv11 : zr v11 := by rw [ev11]; exact (zr_ite (zr_k 1 (by decide) (by decide)) (zr_k 0 (by decide) (by decide)))
      have bv11 : v11 = 0 ∨ v11 = 1 := by rw [ev11]; exact (zb_ite (Or.inr rfl) (Or.inl rfl))
      refine zv_istore G (by decide) rfl dX1_asksAt_80 ?_
      refine zv_iload G rfl dX1_asksAt_82 ?_
      refine zv_iconst (a := 3) G (by decide) dX1_asksAt_84 ?_
      refine zv_ishr G dX1_asksAt_85 ?_
      refine zv_istoreN G (by decide) dX1_asksAt_86 (fun x7_12 ex7_12 => ?_)
      have h := h x7_12 ex7_12
      have rx7_12 : zr x7_12 := by rw [ex7_12]; exact (by first | exact i_and_r _ _ | exact i_or_r _ _ | exact i_shl_r _ _ | exact i_shr_r _ _ | exact i_ushr_r _ _ | exact i_b_r _ | exact i_c_r _ | exact i_xor_r _ _ | exact i_div_r _ _ | exact i_rem_r _ _ | exact zr_of _)
      refine zv_goto (tgt := 55) G (by decide) dX1_asksAt_88 ?_
      exact zv_pick [0, 1, 2, 3, 4, 5, 6, 7] rfl (hI55 _ _ _ h rv11 rx7_12)
    refine zv_if_ne (tgt := 79) G rv10 (by decide) dX1_asksAt_72 (fun c14 => ?_) (fun c14 => ?_)
    · refine zv_iconst (a := 0) G (by decide) dX1_asksAt_79 ?_
      exact kj13 _ (if_neg c14).symm
    · refine zv_iconst (a := 1) G (by decide) dX1_asksAt_75 ?_
      refine zv_goto (tgt := 80) G (by decide) dX1_asksAt_76 ?_
      exact kj13 _ (if_pos c14).symm
  have kf55 : ¬ (¬ (x7 ≤ 0) ∧ (¬ (x6 = 0))) → ZV Γ w 91 [(0, ar (D.x + 1)), (1, ai x1), (2, ai x2), (3, ai x3), (4, ai x4), (5, ai x5), (6, ai x6), (7, ai x7)] [] := by
    intro c56
    have h := h.2 c56
    exact zv_pick [0, 1, 2, 3, 4, 5, 6] rfl (cpT_asksAt_91 G M S hk hI14 rx1 rx2 rx3 rx4 rx5 rx6 h)
  refine zv_if_le (tgt := 91) G rx7 (by decide) dX1_asksAt_57 (fun c57 => ?_) (fun c57 => ?_)
  · exact kf55 (fun q => q.1 c57)
  · refine zv_iload G rfl dX1_asksAt_60 ?_
    refine zv_if_eq (tgt := 91) G rx6 (by decide) dX1_asksAt_62 (fun c58 => ?_) (fun c58 => ?_)
    · exact kf55 (fun q => (fun q => q c58) q.2)
    · exact kt54 ⟨c57, c58⟩
set_option maxHeartbeats 4000000 in
set_option maxRecDepth 100000 in
theorem cpT_asksAt_14 {Γ : ZG TW} {D : TD} {B0 d : Nat} {lim : Nat × Nat} (G : ZOk Γ cX1_asksAt RX1 9 (KnT D B0) (ZT D B0)) (M : ZRm Γ (d + 1) lim (some .int) "asksAt" []) (S : SdT d D B0 Γ.l lim) (hk : 0 ≤ d) {x1 : Int} {x2 : Int} {x3 : Int} {x4 : Int} {x5 : Int} {w : TW} (rx1 : zr x1) (rx2 : zr x2) (rx3 : zr x3) (rx4 : zr x4) (rx5 : zr x5) (h : pT_asksAt_14 (wpT d) (fun v w => Γ.Q (.inl (some (ai v))) w) x1 x2 x3 x4 x5 w) : ZV Γ w 14 [(0, ar (D.x + 1)), (1, ai x1), (2, ai x2), (3, ai x3), (4, ai x4), (5, ai x5)] [] := by
  refine h (fun x3 x4 x5 w => zr x3 → zr x4 → zr x5 → ZV Γ w 14 [(0, ar (D.x + 1)), (1, ai x1), (2, ai x2), (3, ai x3), (4, ai x4), (5, ai x5)] []) ?_ rx3 rx4 rx5
  clear h
  intro x3 x4 x5 w h rx3 rx4 rx5
  have hI14 : ∀ (x3 : Int) (x4 : Int) (x5 : Int) (w : TW), (fun x3 x4 x5 w => zr x3 → zr x4 → zr x5 → ZV Γ w 14 [(0, ar (D.x + 1)), (1, ai x1), (2, ai x2), (3, ai x3), (4, ai x4), (5, ai x5)] []) x3 x4 x5 w → zr x3 → zr x4 → zr x5 → ZV Γ w 14 [(0, ar (D.x + 1)), (1, ai x1), (2, ai x2), (3, ai x3), (4, ai x4), (5, ai x5)] [] := fun _ _ _ _ z => z
  refine zt_tok G (fun hw => ?_)
  refine zv_iload G rfl dX1_asksAt_14 ?_
  refine zv_aload_n G rfl rfl dX1_asksAt_16 ?_
  refine zt_get (k := 64) (v := ar (D.ad 64 + 1)) G (by decide) q2219 rfl dX1_asksAt_17 ?_
  refine zv_iload_n G rfl rfl dX1_asksAt_20 ?_
  refine zv_iconst (a := 1) G (by decide) dX1_asksAt_21 ?_
  refine zv_iadd G dX1_asksAt_22 ?_
  have o3 := h.1
  have h := h.2
  refine zt_iald (f := 64) G (by decide) rfl (w32_r _) o3.1 o3.2 dX1_asksAt_23 ?_
  refine zv_icmp_ge (tgt := 294) G rx5 (hw.a 64 _ (by decide)) (by decide) dX1_asksAt_24 (fun c4 => ?_) (fun c4 => ?_)
  · have h := h.1 c4
    exact zv_pick [3] rfl (cpT_asksAt_294 G M S hk rx3 h)
  · have h := h.2 c4
    refine zv_aload_n G rfl rfl dX1_asksAt_27 ?_
    refine zt_get (k := 69) (v := ar (D.ad 69 + 1)) G (by decide) q2224 rfl dX1_asksAt_28 ?_
    refine zv_iload G rfl dX1_asksAt_31 ?_
    have o5 := h.1
    have h := h.2
    refine zt_zald (f := 69) G (by decide) rfl rx5 o5.1 o5.2 dX1_asksAt_33 ?_
    have kj59 : ∀ v6 : Int, v6 = (if (tA w 69 x5) = 0 then 1 else 0) → ZV Γ w 42 [(0, ar (D.x + 1)), (1, ai x1), (2, ai x2), (3, ai x3), (4, ai x4), (5, ai x5)] (ai v6 :: []) := by
      intro v6 ev6
      have h := h v6 ev6
      have rv6 : zr v6 := by rw [ev6]; exact (zr_ite (zr_k 1 (by decide) (by decide)) (zr_k 0 (by decide) (by decide)))
      have bv6 : v6 = 0 ∨ v6 = 1 := by rw [ev6]; exact (zb_ite (Or.inr rfl) (Or.inl rfl))
      refine zv_istore G (by decide) rfl dX1_asksAt_42 ?_
      refine zv_aload_n G rfl rfl dX1_asksAt_44 ?_
      refine zt_get (k := 67) (v := ar (D.ad 67 + 1)) G (by decide) q2222 rfl dX1_asksAt_45 ?_
      refine zv_iload G rfl dX1_asksAt_48 ?_
      have o7 := h.1
      have h := h.2
      refine zt_iald (f := 67) G (by decide) rfl rx5 o7.1 o7.2 dX1_asksAt_50 ?_
      refine zv_iconst (a := 3) G (by decide) dX1_asksAt_51 ?_
      refine zv_ishr G dX1_asksAt_52 ?_
      refine zv_istoreN G (by decide) dX1_asksAt_53 (fun x7_8 ex7_8 => ?_)
      have h := h x7_8 ex7_8
      have rx7_8 : zr x7_8 := by rw [ex7_8]; exact (by first | exact i_and_r _ _ | exact i_or_r _ _ | exact i_shl_r _ _ | exact i_shr_r _ _ | exact i_ushr_r _ _ | exact i_b_r _ | exact i_c_r _ | exact i_xor_r _ _ | exact i_div_r _ _ | exact i_rem_r _ _ | exact zr_of _)
      exact zv_pick [0, 1, 2, 3, 4, 5, 6, 7] rfl (cpT_asksAt_55 G M S hk hI14 rx1 rx2 rx3 rx4 rx5 rv6 rx7_8 h)
    refine zv_if_ne (tgt := 41) G (hw.a 69 _ (by decide)) (by decide) dX1_asksAt_34 (fun c60 => ?_) (fun c60 => ?_)
    · refine zv_iconst (a := 0) G (by decide) dX1_asksAt_41 ?_
      exact kj59 _ (if_neg c60).symm
    · refine zv_iconst (a := 1) G (by decide) dX1_asksAt_37 ?_
      refine zv_goto (tgt := 42) G (by decide) dX1_asksAt_38 ?_
      exact kj59 _ (if_pos c60).symm
set_option maxHeartbeats 4000000 in
set_option maxRecDepth 100000 in
theorem cpT_asksAt_0 {Γ : ZG TW} {D : TD} {B0 d : Nat} {lim : Nat × Nat} (G : ZOk Γ cX1_asksAt RX1 9 (KnT D B0) (ZT D B0)) (M : ZRm Γ (d + 1) lim (some .int) "asksAt" []) (S : SdT d D B0 Γ.l lim) (hk : 0 ≤ d) {x1 : Int} {x2 : Int} {w : TW} (rx1 : zr x1) (rx2 : zr x2) (h : pT_asksAt_0 (wpT d) (fun v w => Γ.Q (.inl (some (ai v))) w) x1 x2 w) : ZV Γ w 0 [(0, ar (D.x + 1)), (1, ai x1), (2, ai x2)] [] := by
  refine zt_tok G (fun hw => ?_)
  refine zv_bipush (a := (-4)) G (by decide) dX1_asksAt_0 ?_
  refine zv_istore_n G rfl (by decide) rfl dX1_asksAt_2 ?_
  refine zv_iconst (a := 0) G (by decide) dX1_asksAt_3 ?_
  refine zv_istore G (by decide) rfl dX1_asksAt_4 ?_
  refine zv_aload_n G rfl rfl dX1_asksAt_6 ?_
  refine zt_get (k := 64) (v := ar (D.ad 64 + 1)) G (by decide) q2219 rfl dX1_asksAt_7 ?_
  refine zv_iload_n G rfl rfl dX1_asksAt_10 ?_
  have o1 := h.1
  have h := h.2
  refine zt_iald (f := 64) G (by decide) rfl rx1 o1.1 o1.2 dX1_asksAt_11 ?_
  refine zv_istoreN G (by decide) dX1_asksAt_12 (fun x5_2 ex5_2 => ?_)
  have h := h x5_2 ex5_2
  have rx5_2 : zr x5_2 := by rw [ex5_2]; exact (hw.a 64 _ (by decide))
  exact zv_pick [0, 1, 2, 3, 4, 5] rfl (cpT_asksAt_14 G M S hk rx1 rx2 (zr_k (-4) (by decide) (by decide)) (zr_k 0 (by decide) (by decide)) rx5_2 h)
set_option maxHeartbeats 4000000 in
set_option maxRecDepth 100000 in
theorem cpT_layAhead_107 {Γ : ZG TW} {D : TD} {B0 d : Nat} {lim : Nat × Nat} (G : ZOk Γ cX1_layAhead RX1 3 (KnT D B0) (ZT D B0)) (M : ZRm Γ (d + 1) lim none "layAhead" []) (S : SdT d D B0 Γ.l lim) (hk : 0 ≤ d) {w : TW} (h : pT_layAhead_107 (wpT d) (fun w => Γ.Q (.inl none) w) w) : ZV Γ w 107 [] [] := by
  refine zt_tok G (fun hw => ?_)
  exact zv_vret G M dX1_layAhead_107 h
set_option maxHeartbeats 4000000 in
set_option maxRecDepth 100000 in
theorem cpT_layAhead_7 {Γ : ZG TW} {D : TD} {B0 d : Nat} {lim : Nat × Nat} (G : ZOk Γ cX1_layAhead RX1 3 (KnT D B0) (ZT D B0)) (M : ZRm Γ (d + 1) lim none "layAhead" []) (S : SdT d D B0 Γ.l lim) (hk : 0 ≤ d) {x1 : Int} {x2 : Int} {w : TW} (rx1 : zr x1) (rx2 : zr x2) (h : pT_layAhead_7 (wpT d) (fun w => Γ.Q (.inl none) w) x1 x2 w) : ZV Γ w 7 [(0, ar (D.x + 1)), (1, ai x1), (2, ai x2)] [] := by
  refine h (fun x2 w => zr x2 → ZV Γ w 7 [(0, ar (D.x + 1)), (1, ai x1), (2, ai x2)] []) ?_ rx2
  clear h
  intro x2 w h rx2
  have hI7 : ∀ (x2 : Int) (w : TW), (fun x2 w => zr x2 → ZV Γ w 7 [(0, ar (D.x + 1)), (1, ai x1), (2, ai x2)] []) x2 w → zr x2 → ZV Γ w 7 [(0, ar (D.x + 1)), (1, ai x1), (2, ai x2)] [] := fun _ _ z => z
  refine zt_tok G (fun hw => ?_)
  refine zv_iload_n G rfl rfl dX1_layAhead_7 ?_
  have kt18 : ¬ (x2 < 0) ∧ (¬ (400 ≤ (tI w 93))) → ZV Γ w 21 [(0, ar (D.x + 1)), (1, ai x1), (2, ai x2)] [] := by
    intro c20
    have h := h.1 c20
    refine zv_aload_n G rfl rfl dX1_layAhead_21 ?_
    refine zt_get (k := 94) (v := ar (D.ad 94 + 1)) G (by decide) q2249 rfl dX1_layAhead_22 ?_
    refine zv_aload_n G rfl rfl dX1_layAhead_25 ?_
    refine zt_get (k := 93) (v := ai (tI w 93)) G (by decide) q2248 rfl dX1_layAhead_26 ?_
    refine zv_iload_n G rfl rfl dX1_layAhead_29 ?_
    have o3 := h.1
    have h := h.2
    refine zt_iast (f := 94) G (by decide) rfl (hw.i 93 (by decide)) rx1 o3.1 o3.2 dX1_layAhead_30 (fun u2 eu2 => ?_)
    have h := h u2 eu2
    refine zt_tok G (fun hu2 => ?_)
    refine zv_aload_n G rfl rfl dX1_layAhead_31 ?_
    refine zt_get (k := 95) (v := ar (D.ad 95 + 1)) G (by decide) q2250 rfl dX1_layAhead_32 ?_
    refine zv_aload_n G rfl rfl dX1_layAhead_35 ?_
    refine zt_get (k := 93) (v := ai (tI u2 93)) G (by decide) q2248 rfl dX1_layAhead_36 ?_
    refine zv_aload_n G rfl rfl dX1_layAhead_39 ?_
    refine zt_get (k := 100) (v := ar (D.ad 100 + 1)) G (by decide) q2255 rfl dX1_layAhead_40 ?_
    refine zv_iload_n G rfl rfl dX1_layAhead_43 ?_
    have o4 := h.1
    have h := h.2
    refine zt_iald (f := 100) G (by decide) rfl rx2 o4.1 o4.2 dX1_layAhead_44 ?_
    have o6 := h.1
    have h := h.2
    refine zt_iast (f := 95) G (by decide) rfl (hu2.i 93 (by decide)) (hu2.a 100 _ (by decide)) o6.1 o6.2 dX1_layAhead_45 (fun u5 eu5 => ?_)
    have h := h u5 eu5
    refine zt_tok G (fun hu5 => ?_)
    refine zv_aload_n G rfl rfl dX1_layAhead_46 ?_
    refine zt_get (k := 96) (v := ar (D.ad 96 + 1)) G (by decide) q2251 rfl dX1_layAhead_47 ?_
    refine zv_aload_n G rfl rfl dX1_layAhead_50 ?_
    refine zt_get (k := 93) (v := ai (tI u5 93)) G (by decide) q2248 rfl dX1_layAhead_51 ?_
    refine zv_aload_n G rfl rfl dX1_layAhead_54 ?_
    refine zt_get (k := 101) (v := ar (D.ad 101 + 1)) G (by decide) q2256 rfl dX1_layAhead_55 ?_
    refine zv_iload_n G rfl rfl dX1_layAhead_58 ?_
    have o7 := h.1
    have h := h.2
    refine zt_iald (f := 101) G (by decide) rfl rx2 o7.1 o7.2 dX1_layAhead_59 ?_
    have o9 := h.1
    have h := h.2
    refine zt_iast (f := 96) G (by decide) rfl (hu5.i 93 (by decide)) (hu5.a 101 _ (by decide)) o9.1 o9.2 dX1_layAhead_60 (fun u8 eu8 => ?_)
    have h := h u8 eu8
    refine zt_tok G (fun hu8 => ?_)
    refine zv_aload_n G rfl rfl dX1_layAhead_61 ?_
    refine zt_get (k := 97) (v := ar (D.ad 97 + 1)) G (by decide) q2252 rfl dX1_layAhead_62 ?_
    refine zv_aload_n G rfl rfl dX1_layAhead_65 ?_
    refine zt_get (k := 93) (v := ai (tI u8 93)) G (by decide) q2248 rfl dX1_layAhead_66 ?_
    refine zv_aload_n G rfl rfl dX1_layAhead_69 ?_
    refine zt_get (k := 102) (v := ar (D.ad 102 + 1)) G (by decide) q2257 rfl dX1_layAhead_70 ?_
    refine zv_iload_n G rfl rfl dX1_layAhead_73 ?_
    have o10 := h.1
    have h := h.2
    refine zt_lald (f := 102) G (by decide) rfl rx2 o10.1 o10.2 dX1_layAhead_74 ?_
    have o12 := h.1
    have h := h.2
    refine zt_last (f := 97) G (by decide) rfl (hu8.i 93 (by decide)) (hu8.al 102 _ (by decide)) o12.1 o12.2 dX1_layAhead_75 (fun u11 eu11 => ?_)
    have h := h u11 eu11
    refine zt_tok G (fun hu11 => ?_)
    refine zv_aload_n G rfl rfl dX1_layAhead_76 ?_
    refine zt_get (k := 98) (v := ar (D.ad 98 + 1)) G (by decide) q2253 rfl dX1_layAhead_77 ?_
    refine zv_aload_n G rfl rfl dX1_layAhead_80 ?_
    refine zt_get (k := 93) (v := ai (tI u11 93)) G (by decide) q2248 rfl dX1_layAhead_81 ?_
    refine zv_aload_n G rfl rfl dX1_layAhead_84 ?_
    refine zt_get (k := 103) (v := ar (D.ad 103 + 1)) G (by decide) q2258 rfl dX1_layAhead_85 ?_
    refine zv_iload_n G rfl rfl dX1_layAhead_88 ?_
    have o13 := h.1
    have h := h.2
    refine zt_zald (f := 103) G (by decide) rfl rx2 o13.1 o13.2 dX1_layAhead_89 ?_
    have o15 := h.1
    have h := h.2
    refine zt_zast (f := 98) G (by decide) rfl (hu11.i 93 (by decide)) o15.1 o15.2 dX1_layAhead_90 (fun u14 eu14 => ?_)
    have h := h u14 eu14
    refine zt_tok G (fun hu14 => ?_)
    refine zv_aload_n G rfl rfl dX1_layAhead_91 ?_
    refine zv_dup G rfl dX1_layAhead_92 ?_
    refine zt_get (k := 93) (v := ai (tI u14 93)) G (by decide) q2248 rfl dX1_layAhead_93 ?_
    refine zv_iconst (a := 1) G (by decide) dX1_layAhead_96 ?_
    refine zv_iadd G dX1_layAhead_97 ?_
    refine zt_putI (k := 93) G (by decide) q2248 rfl (tyX1_ok 93 (by decide)) rfl (w32_r _) dX1_layAhead_98 (fun u16 eu16 => ?_)
    have h := h u16 eu16
    refine zt_tok G (fun hu16 => ?_)
    refine zv_iincN G rfl (by decide) dX1_layAhead_101 (fun x2_17 ex2_17 => ?_)
    have h := h x2_17 ex2_17
    have rx2_17 : zr x2_17 := by rw [ex2_17]; exact w32_r _
    refine zv_goto (tgt := 7) G (by decide) dX1_layAhead_104 ?_
    exact zv_pick [0, 1, 2] rfl (hI7 _ _ h rx2_17)
  have kf19 : ¬ (¬ (x2 < 0) ∧ (¬ (400 ≤ (tI w 93)))) → ZV Γ w 107 [(0, ar (D.x + 1)), (1, ai x1), (2, ai x2)] [] := by
    intro c20
    have h := h.2 c20
    exact zv_pick [] rfl (cpT_layAhead_107 G M S hk h)
  refine zv_if_lt (tgt := 107) G rx2 (by decide) dX1_layAhead_8 (fun c21 => ?_) (fun c21 => ?_)
  · exact kf19 (fun q => q.1 c21)
  · refine zv_aload_n G rfl rfl dX1_layAhead_11 ?_
    refine zt_get (k := 93) (v := ai (tI w 93)) G (by decide) q2248 rfl dX1_layAhead_12 ?_
    refine zv_sipush (a := 400) G (by decide) dX1_layAhead_15 ?_
    refine zv_icmp_ge (tgt := 107) G (hw.i 93 (by decide)) (zr_k 400 (by decide) (by decide)) (by decide) dX1_layAhead_18 (fun c22 => ?_) (fun c22 => ?_)
    · exact kf19 (fun q => (fun q => q c22) q.2)
    · exact kt18 ⟨c21, c22⟩
set_option maxHeartbeats 4000000 in
set_option maxRecDepth 100000 in
theorem cpT_layAhead_0 {Γ : ZG TW} {D : TD} {B0 d : Nat} {lim : Nat × Nat} (G : ZOk Γ cX1_layAhead RX1 3 (KnT D B0) (ZT D B0)) (M : ZRm Γ (d + 1) lim none "layAhead" []) (S : SdT d D B0 Γ.l lim) (hk : 0 ≤ d) {x1 : Int} {w : TW} (rx1 : zr x1) (h : pT_layAhead_0 (wpT d) (fun w => Γ.Q (.inl none) w) x1 w) : ZV Γ w 0 [(0, ar (D.x + 1)), (1, ai x1)] [] := by
  refine zt_tok G (fun hw => ?_)
  refine zv_aload_n G rfl rfl dX1_layAhead_0 ?_
  refine zt_get (k := 99) (v := ai (tI w 99)) G (by decide) q2254 rfl dX1_layAhead_1 ?_
  refine zv_iconst (a := 1) G (by decide) dX1_layAhead_4 ?_
  refine zv_isub G dX1_layAhead_5 ?_
  refine zv_istore_nN G rfl (by decide) dX1_layAhead_6 (fun x2_1 ex2_1 => ?_)
  have h := h x2_1 ex2_1
  have rx2_1 : zr x2_1 := by rw [ex2_1]; exact (w32_r _)
  exact zv_pick [0, 1, 2] rfl (cpT_layAhead_7 G M S hk rx1 rx2_1 h)
set_option maxHeartbeats 4000000 in
set_option maxRecDepth 100000 in
theorem cpT_settle_162 {Γ : ZG TW} {D : TD} {B0 d : Nat} {lim : Nat × Nat} (G : ZOk Γ cX1_settle RX1 6 (KnT D B0) (ZT D B0)) (M : ZRm Γ (d + 1) lim none "settle" []) (S : SdT d D B0 Γ.l lim) (hk : 0 ≤ d) {w : TW} (h : pT_settle_162 (wpT d) (fun w => Γ.Q (.inl none) w) w) : ZV Γ w 162 [] [] := by
  refine zt_tok G (fun hw => ?_)
  exact zv_vret G M dX1_settle_162 h
set_option maxHeartbeats 4000000 in
set_option maxRecDepth 100000 in
theorem cpT_settle_0 {Γ : ZG TW} {D : TD} {B0 d : Nat} {lim : Nat × Nat} (G : ZOk Γ cX1_settle RX1 6 (KnT D B0) (ZT D B0)) (M : ZRm Γ (d + 1) lim none "settle" []) (S : SdT d D B0 Γ.l lim) (hk : 0 ≤ d) {x1 : Int} {x2 : Int} {w : TW} (rx1 : zr x1) (rx2 : zr x2) (h : pT_settle_0 (wpT d) (fun w => Γ.Q (.inl none) w) x1 x2 w) : ZV Γ w 0 [(0, ar (D.x + 1)), (1, ai x1), (2, ai x2)] [] := by
  refine zt_tok G (fun hw => ?_)
  refine zv_aload_n G rfl rfl dX1_settle_0 ?_
  refine zv_iload_n G rfl rfl dX1_settle_1 ?_
  refine zt_callV (as := [ai x1]) G M (S 53 _ rfl _ _ _ h (zoks_cons rx1 zoks_nil)) q2778 q2780 qs114 q2781 md_layKnown rfl (by decide) (Nat.le_of_ble_eq_true rfl) dX1_settle_2 (fun u1 h => ?_)
  refine zt_tok G (fun hu1 => ?_)
  refine zv_aload_n G rfl rfl dX1_settle_5 ?_
  refine zt_callI (as := []) G M (S 54 _ rfl _ _ _ h zoks_nil) q2782 q2784 qs115 q2785 md_sift rfl (by decide) (Nat.le_of_ble_eq_true rfl) dX1_settle_6 (fun v3 u2 rv3 h => ?_)
  refine zt_tok G (fun hu2 => ?_)
  refine zv_istore_n G rfl (by decide) rfl dX1_settle_9 ?_
  refine zv_aload_n G rfl rfl dX1_settle_10 ?_
  refine zt_get (k := 83) (v := ar (D.ad 83 + 1)) G (by decide) q2238 rfl dX1_settle_11 ?_
  refine zv_iload_n G rfl rfl dX1_settle_14 ?_
  refine zv_bipush (a := (-4)) G (by decide) dX1_settle_15 ?_
  have o5 := h.1
  have h := h.2
  refine zt_iast (f := 83) G (by decide) rfl rx1 (zr_k (-4) (by decide) (by decide)) o5.1 o5.2 dX1_settle_17 (fun u4 eu4 => ?_)
  have h := h u4 eu4
  refine zt_tok G (fun hu4 => ?_)
  refine zv_aload_n G rfl rfl dX1_settle_18 ?_
  refine zt_get (k := 81) (v := ar (D.ad 81 + 1)) G (by decide) q2236 rfl dX1_settle_19 ?_
  refine zv_iload_n G rfl rfl dX1_settle_22 ?_
  refine zv_bipush (a := (-4)) G (by decide) dX1_settle_23 ?_
  have o7 := h.1
  have h := h.2
  refine zt_iast (f := 81) G (by decide) rfl rx1 (zr_k (-4) (by decide) (by decide)) o7.1 o7.2 dX1_settle_25 (fun u6 eu6 => ?_)
  have h := h u6 eu6
  refine zt_tok G (fun hu6 => ?_)
  refine zv_aload_n G rfl rfl dX1_settle_26 ?_
  refine zt_get (k := 84) (v := ar (D.ad 84 + 1)) G (by decide) q2239 rfl dX1_settle_27 ?_
  refine zv_iload_n G rfl rfl dX1_settle_30 ?_
  refine zv_iconst (a := 0) G (by decide) dX1_settle_31 ?_
  have o9 := h.1
  have h := h.2
  refine zt_iast (f := 84) G (by decide) rfl rx1 (zr_k 0 (by decide) (by decide)) o9.1 o9.2 dX1_settle_32 (fun u8 eu8 => ?_)
  have h := h u8 eu8
  refine zt_tok G (fun hu8 => ?_)
  refine zv_iload_n G rfl rfl dX1_settle_33 ?_
  refine zv_bipush (a := (-4)) G (by decide) dX1_settle_34 ?_
  refine zv_icmp_ne (tgt := 47) G rv3 (zr_k (-4) (by decide) (by decide)) (by decide) dX1_settle_36 (fun c10 => ?_) (fun c10 => ?_)
  · have h := h.2 c10
    refine zv_aload_n G rfl rfl dX1_settle_47 ?_
    refine zv_iload_n G rfl rfl dX1_settle_48 ?_
    refine zv_iload_n G rfl rfl dX1_settle_49 ?_
    refine zt_callI (as := [ai v3, ai x2]) G M (S 56 _ rfl _ _ _ h (zoks_cons rv3 (zoks_cons rx2 zoks_nil))) q2790 q2792 qs117 q2793 md_asksAt rfl (by decide) (Nat.le_of_ble_eq_true rfl) dX1_settle_50 (fun v12 u11 rv12 h => ?_)
    refine zt_tok G (fun hu11 => ?_)
    refine zv_istore G (by decide) rfl dX1_settle_53 ?_
    refine zv_iload G rfl dX1_settle_55 ?_
    refine zv_bipush (a := (-4)) G (by decide) dX1_settle_57 ?_
    refine zv_icmp_ne (tgt := 163) G rv12 (zr_k (-4) (by decide) (by decide)) (by decide) dX1_settle_59 (fun c13 => ?_) (fun c13 => ?_)
    · have h := h.2 c13
      refine zv_aload_n G rfl rfl dX1_settle_163 ?_
      refine zt_get (k := 18) (v := ar (D.ad 18 + 1)) G (by decide) q2173 rfl dX1_settle_164 ?_
      refine zv_aload_n G rfl rfl dX1_settle_167 ?_
      refine zt_get (k := 68) (v := ar (D.ad 68 + 1)) G (by decide) q2223 rfl dX1_settle_168 ?_
      refine zv_iload G rfl dX1_settle_171 ?_
      have o14 := h.1
      have h := h.2
      refine zt_iald (f := 68) G (by decide) rfl rv12 o14.1 o14.2 dX1_settle_173 ?_
      have o15 := h.1
      have h := h.2
      refine zt_iald (f := 18) G (by decide) rfl (hu11.a 68 _ (by decide)) o15.1 o15.2 dX1_settle_174 ?_
      refine zv_istoreN G (by decide) dX1_settle_175 (fun x5_16 ex5_16 => ?_)
      have h := h x5_16 ex5_16
      have rx5_16 : zr x5_16 := by rw [ex5_16]; exact (hu11.a 18 _ (by decide))
      refine zv_aload_n G rfl rfl dX1_settle_177 ?_
      refine zt_get (k := 80) (v := ar (D.ad 80 + 1)) G (by decide) q2235 rfl dX1_settle_178 ?_
      refine zv_iload_n G rfl rfl dX1_settle_181 ?_
      refine zv_iload G rfl dX1_settle_182 ?_
      refine zv_iconst (a := 3) G (by decide) dX1_settle_184 ?_
      have kj28 : ∀ v17 : Int, v17 = (if x5_16 < 3 then (if x5_16 = 1 then 4 else (if x5_16 = 2 then 5 else 6)) else 3) → ZV Γ u11 214 [(5, ai x5_16), (4, ai v12), (3, ai v3), (0, ar (D.x + 1)), (1, ai x1), (2, ai x2)] (ai v17 :: ai x1 :: ar (D.ad 80 + 1) :: []) := by
        intro v17 ev17
        have h := h v17 ev17
        have rv17 : zr v17 := by rw [ev17]; exact (zr_ite (zr_ite (zr_k 4 (by decide) (by decide)) (zr_ite (zr_k 5 (by decide) (by decide)) (zr_k 6 (by decide) (by decide)))) (zr_k 3 (by decide) (by decide)))
        have o19 := h.1
        have h := h.2
        refine zt_iast (f := 80) G (by decide) rfl rx1 rv17 o19.1 o19.2 dX1_settle_214 (fun u18 eu18 => ?_)
        have h := h u18 eu18
        refine zt_tok G (fun hu18 => ?_)
        refine zv_aload_n G rfl rfl dX1_settle_215 ?_
        refine zt_get (k := 83) (v := ar (D.ad 83 + 1)) G (by decide) q2238 rfl dX1_settle_216 ?_
        refine zv_iload_n G rfl rfl dX1_settle_219 ?_
        refine zv_aload_n G rfl rfl dX1_settle_220 ?_
        refine zt_get (k := 67) (v := ar (D.ad 67 + 1)) G (by decide) q2222 rfl dX1_settle_221 ?_
        refine zv_iload G rfl dX1_settle_224 ?_
        have o20 := h.1
        have h := h.2
        refine zt_iald (f := 67) G (by decide) rfl rv12 o20.1 o20.2 dX1_settle_226 ?_
        have o22 := h.1
        have h := h.2
        refine zt_iast (f := 83) G (by decide) rfl rx1 (hu18.a 67 _ (by decide)) o22.1 o22.2 dX1_settle_227 (fun u21 eu21 => ?_)
        have h := h u21 eu21
        refine zt_tok G (fun hu21 => ?_)
        refine zv_aload_n G rfl rfl dX1_settle_228 ?_
        refine zv_aload_n G rfl rfl dX1_settle_229 ?_
        refine zt_get (k := 67) (v := ar (D.ad 67 + 1)) G (by decide) q2222 rfl dX1_settle_230 ?_
        refine zv_iload G rfl dX1_settle_233 ?_
        have o23 := h.1
        have h := h.2
        refine zt_iald (f := 67) G (by decide) rfl rv12 o23.1 o23.2 dX1_settle_235 ?_
        refine zv_iload G rfl dX1_settle_236 ?_
        refine zt_callV (as := [ai (tA u21 67 v12), ai x5_16]) G M (S 58 _ rfl _ _ _ h (zoks_cons (hu21.a 67 _ (by decide)) (zoks_cons rx5_16 zoks_nil))) q2798 q2800 qs119 q2801 md_layBranches rfl (by decide) (Nat.le_of_ble_eq_true rfl) dX1_settle_238 (fun u24 h => ?_)
        refine zt_tok G (fun hu24 => ?_)
        refine zv_aload_n G rfl rfl dX1_settle_241 ?_
        refine zt_get (k := 84) (v := ar (D.ad 84 + 1)) G (by decide) q2239 rfl dX1_settle_242 ?_
        refine zv_iload_n G rfl rfl dX1_settle_245 ?_
        refine zv_aload_n G rfl rfl dX1_settle_246 ?_
        refine zt_get (k := 99) (v := ai (tI u24 99)) G (by decide) q2254 rfl dX1_settle_247 ?_
        have o26 := h.1
        have h := h.2
        refine zt_iast (f := 84) G (by decide) rfl rx1 (hu24.i 99 (by decide)) o26.1 o26.2 dX1_settle_250 (fun u25 eu25 => ?_)
        have h := h u25 eu25
        refine zt_tok G (fun hu25 => ?_)
        refine zv_aload_n G rfl rfl dX1_settle_251 ?_
        refine zv_iload_n G rfl rfl dX1_settle_252 ?_
        refine zt_callV (as := [ai x1]) G M (S 63 _ rfl _ _ _ h (zoks_cons rx1 zoks_nil)) q2820 q2822 qs124 q2823 md_layAhead rfl (by decide) (Nat.le_of_ble_eq_true rfl) dX1_settle_253 (fun u27 h => ?_)
        refine zt_tok G (fun hu27 => ?_)
        exact zv_vret G M dX1_settle_256 h
      refine zv_icmp_lt (tgt := 192) G rx5_16 (zr_k 3 (by decide) (by decide)) (by decide) dX1_settle_185 (fun c29 => ?_) (fun c29 => ?_)
      · refine zv_iload G rfl dX1_settle_192 ?_
        refine zv_iconst (a := 1) G (by decide) dX1_settle_194 ?_
        refine zv_icmp_ne (tgt := 202) G rx5_16 (zr_k 1 (by decide) (by decide)) (by decide) dX1_settle_195 (fun c30 => ?_) (fun c30 => ?_)
        · refine zv_iload G rfl dX1_settle_202 ?_
          refine zv_iconst (a := 2) G (by decide) dX1_settle_204 ?_
          refine zv_icmp_ne (tgt := 212) G rx5_16 (zr_k 2 (by decide) (by decide)) (by decide) dX1_settle_205 (fun c31 => ?_) (fun c31 => ?_)
          · refine zv_bipush (a := 6) G (by decide) dX1_settle_212 ?_
            exact kj28 _ (by rw [if_pos c29, if_neg c30, if_neg c31])
          · refine zv_iconst (a := 5) G (by decide) dX1_settle_208 ?_
            refine zv_goto (tgt := 214) G (by decide) dX1_settle_209 ?_
            exact kj28 _ (by rw [if_pos c29, if_neg c30, if_pos c31])
        · refine zv_iconst (a := 4) G (by decide) dX1_settle_198 ?_
          refine zv_goto (tgt := 214) G (by decide) dX1_settle_199 ?_
          exact kj28 _ (by rw [if_pos c29, if_pos c30])
      · refine zv_iconst (a := 3) G (by decide) dX1_settle_188 ?_
        refine zv_goto (tgt := 214) G (by decide) dX1_settle_189 ?_
        exact kj28 _ (by rw [if_neg c29])
    · have h := h.1 c13
      refine zv_aload_n G rfl rfl dX1_settle_62 ?_
      refine zt_get (k := 81) (v := ar (D.ad 81 + 1)) G (by decide) q2236 rfl dX1_settle_63 ?_
      refine zv_iload_n G rfl rfl dX1_settle_66 ?_
      refine zv_aload_n G rfl rfl dX1_settle_67 ?_
      refine zt_get (k := 62) (v := ar (D.ad 62 + 1)) G (by decide) q2217 rfl dX1_settle_68 ?_
      refine zv_iload_n G rfl rfl dX1_settle_71 ?_
      have o32 := h.1
      have h := h.2
      refine zt_iald (f := 62) G (by decide) rfl rv3 o32.1 o32.2 dX1_settle_72 ?_
      have o34 := h.1
      have h := h.2
      refine zt_iast (f := 81) G (by decide) rfl rx1 (hu11.a 62 _ (by decide)) o34.1 o34.2 dX1_settle_73 (fun u33 eu33 => ?_)
      have h := h u33 eu33
      refine zt_tok G (fun hu33 => ?_)
      refine zv_aload_n G rfl rfl dX1_settle_74 ?_
      refine zt_get (k := 82) (v := ar (D.ad 82 + 1)) G (by decide) q2237 rfl dX1_settle_75 ?_
      refine zv_iload_n G rfl rfl dX1_settle_78 ?_
      refine zv_aload_n G rfl rfl dX1_settle_79 ?_
      refine zt_get (k := 63) (v := ar (D.ad 63 + 1)) G (by decide) q2218 rfl dX1_settle_80 ?_
      refine zv_iload_n G rfl rfl dX1_settle_83 ?_
      have o35 := h.1
      have h := h.2
      refine zt_iald (f := 63) G (by decide) rfl rv3 o35.1 o35.2 dX1_settle_84 ?_
      have o37 := h.1
      have h := h.2
      refine zt_iast (f := 82) G (by decide) rfl rx1 (hu33.a 63 _ (by decide)) o37.1 o37.2 dX1_settle_85 (fun u36 eu36 => ?_)
      have h := h u36 eu36
      refine zt_tok G (fun hu36 => ?_)
      refine zv_aload_n G rfl rfl dX1_settle_86 ?_
      refine zt_get (k := 53) (v := ar (D.ad 53 + 1)) G (by decide) q2208 rfl dX1_settle_87 ?_
      refine zv_aload_n G rfl rfl dX1_settle_90 ?_
      refine zt_get (k := 62) (v := ar (D.ad 62 + 1)) G (by decide) q2217 rfl dX1_settle_91 ?_
      refine zv_iload_n G rfl rfl dX1_settle_94 ?_
      have o38 := h.1
      have h := h.2
      refine zt_iald (f := 62) G (by decide) rfl rv3 o38.1 o38.2 dX1_settle_95 ?_
      have o39 := h.1
      have h := h.2
      refine zt_iald (f := 53) G (by decide) rfl (hu36.a 62 _ (by decide)) o39.1 o39.2 dX1_settle_96 ?_
      have kj55 : ∀ v40 : Int, v40 = (if ¬ ((tA u36 53 (tA u36 62 v3)) = 0) then 1 else 0) → ZV Γ u36 105 [(4, ai v12), (3, ai v3), (0, ar (D.x + 1)), (1, ai x1), (2, ai x2)] (ai v40 :: []) := by
        intro v40 ev40
        have h := h v40 ev40
        have rv40 : zr v40 := by rw [ev40]; exact (zr_ite (zr_k 1 (by decide) (by decide)) (zr_k 0 (by decide) (by decide)))
        have bv40 : v40 = 0 ∨ v40 = 1 := by rw [ev40]; exact (zb_ite (Or.inr rfl) (Or.inl rfl))
        refine zv_istore G (by decide) rfl dX1_settle_105 ?_
        refine zv_aload_n G rfl rfl dX1_settle_107 ?_
        refine zt_get (k := 80) (v := ar (D.ad 80 + 1)) G (by decide) q2235 rfl dX1_settle_108 ?_
        refine zv_iload_n G rfl rfl dX1_settle_111 ?_
        refine zv_iload G rfl dX1_settle_112 ?_
        have kj53 : ∀ v41 : Int, v41 = (if v40 = 0 then 1 else 2) → ZV Γ u36 122 [(5, ai v40), (4, ai v12), (3, ai v3), (0, ar (D.x + 1)), (1, ai x1), (2, ai x2)] (ai v41 :: ai x1 :: ar (D.ad 80 + 1) :: []) := by
          intro v41 ev41
          have h := h v41 ev41
          have rv41 : zr v41 := by rw [ev41]; exact (zr_ite (zr_k 1 (by decide) (by decide)) (zr_k 2 (by decide) (by decide)))
          have o43 := h.1
          have h := h.2
          refine zt_iast (f := 80) G (by decide) rfl rx1 rv41 o43.1 o43.2 dX1_settle_122 (fun u42 eu42 => ?_)
          have h := h u42 eu42
          refine zt_tok G (fun hu42 => ?_)
          refine zv_aload_n G rfl rfl dX1_settle_123 ?_
          refine zt_get (k := 84) (v := ar (D.ad 84 + 1)) G (by decide) q2239 rfl dX1_settle_124 ?_
          refine zv_iload_n G rfl rfl dX1_settle_127 ?_
          refine zv_iload G rfl dX1_settle_128 ?_
          have kj51 : ∀ v44 : Int, v44 = (if ¬ (v40 = 0) then 1 else 0) → ZV Γ u42 138 [(5, ai v40), (4, ai v12), (3, ai v3), (0, ar (D.x + 1)), (1, ai x1), (2, ai x2)] (ai v44 :: ai x1 :: ar (D.ad 84 + 1) :: []) := by
            intro v44 ev44
            have h := h v44 ev44
            have rv44 : zr v44 := by rw [ev44]; exact (zr_ite (zr_k 1 (by decide) (by decide)) (zr_k 0 (by decide) (by decide)))
            have bv44 : v44 = 0 ∨ v44 = 1 := by rw [ev44]; exact (zb_ite (Or.inr rfl) (Or.inl rfl))
            have o46 := h.1
            have h := h.2
            refine zt_iast (f := 84) G (by decide) rfl rx1 rv44 o46.1 o46.2 dX1_settle_138 (fun u45 eu45 => ?_)
            have h := h u45 eu45
            refine zt_tok G (fun hu45 => ?_)
            refine zv_iload G rfl dX1_settle_139 ?_
            refine zv_if_eq (tgt := 162) G rv40 (by decide) dX1_settle_141 (fun c47 => ?_) (fun c47 => ?_)
            · have h := h.1 c47
              exact zv_pick [] rfl (cpT_settle_162 G M S hk h)
            · have h := h.2 c47
              refine zv_aload_n G rfl rfl dX1_settle_144 ?_
              refine zv_iconst (a := 0) G (by decide) dX1_settle_145 ?_
              refine zt_putI (k := 99) G (by decide) q2254 rfl (tyX1_ok 99 (by decide)) rfl (zr_k 0 (by decide) (by decide)) dX1_settle_146 (fun u48 eu48 => ?_)
              have h := h u48 eu48
              refine zt_tok G (fun hu48 => ?_)
              refine zv_aload_n G rfl rfl dX1_settle_149 ?_
              refine zv_iconst (a := 0) G (by decide) dX1_settle_150 ?_
              refine zv_iconst (a := 0) G (by decide) dX1_settle_151 ?_
              refine zv_lconst (a := 0) G (by decide) dX1_settle_152 ?_
              refine zv_iconst (a := 0) G (by decide) dX1_settle_153 ?_
              refine zt_callV (as := [ai 0, ai 0, al 0, ai 0]) G M (S 59 _ rfl _ _ _ h (zoks_cons (zr_k 0 (by decide) (by decide)) (zoks_cons (zr_k 0 (by decide) (by decide)) (zoks_cons (zrl_k 0 (by decide) (by decide)) (zoks_cons (zr_k 0 (by decide) (by decide)) zoks_nil))))) q2802 q2804 qs120 q2805 md_oneBranch rfl (by decide) (Nat.le_of_ble_eq_true rfl) dX1_settle_154 (fun u49 h => ?_)
              refine zt_tok G (fun hu49 => ?_)
              refine zv_aload_n G rfl rfl dX1_settle_157 ?_
              refine zv_iload_n G rfl rfl dX1_settle_158 ?_
              refine zt_callV (as := [ai x1]) G M (S 63 _ rfl _ _ _ h (zoks_cons rx1 zoks_nil)) q2820 q2822 qs124 q2823 md_layAhead rfl (by decide) (Nat.le_of_ble_eq_true rfl) dX1_settle_159 (fun u50 h => ?_)
              refine zt_tok G (fun hu50 => ?_)
              exact zv_pick [] rfl (cpT_settle_162 G M S hk h)
          refine zv_if_eq (tgt := 137) G rv40 (by decide) dX1_settle_130 (fun c52 => ?_) (fun c52 => ?_)
          · refine zv_iconst (a := 0) G (by decide) dX1_settle_137 ?_
            exact kj51 _ (if_neg (fun q => q c52)).symm
          · refine zv_iconst (a := 1) G (by decide) dX1_settle_133 ?_
            refine zv_goto (tgt := 138) G (by decide) dX1_settle_134 ?_
            exact kj51 _ (if_pos c52).symm
        refine zv_if_eq (tgt := 121) G rv40 (by decide) dX1_settle_114 (fun c54 => ?_) (fun c54 => ?_)
        · refine zv_iconst (a := 1) G (by decide) dX1_settle_121 ?_
          exact kj53 _ (if_pos c54).symm
        · refine zv_iconst (a := 2) G (by decide) dX1_settle_117 ?_
          refine zv_goto (tgt := 122) G (by decide) dX1_settle_118 ?_
          exact kj53 _ (if_neg c54).symm
      refine zv_if_eq (tgt := 104) G (hu36.a 53 _ (by decide)) (by decide) dX1_settle_97 (fun c56 => ?_) (fun c56 => ?_)
      · refine zv_iconst (a := 0) G (by decide) dX1_settle_104 ?_
        exact kj55 _ (if_neg (fun q => q c56)).symm
      · refine zv_iconst (a := 1) G (by decide) dX1_settle_100 ?_
        refine zv_goto (tgt := 105) G (by decide) dX1_settle_101 ?_
        exact kj55 _ (if_pos c56).symm
  · have h := h.1 c10
    refine zv_aload_n G rfl rfl dX1_settle_39 ?_
    refine zt_get (k := 80) (v := ar (D.ad 80 + 1)) G (by decide) q2235 rfl dX1_settle_40 ?_
    refine zv_iload_n G rfl rfl dX1_settle_43 ?_
    refine zv_iconst (a := 0) G (by decide) dX1_settle_44 ?_
    have o58 := h.1
    have h := h.2
    refine zt_iast (f := 80) G (by decide) rfl rx1 (zr_k 0 (by decide) (by decide)) o58.1 o58.2 dX1_settle_45 (fun u57 eu57 => ?_)
    have h := h u57 eu57
    refine zt_tok G (fun hu57 => ?_)
    exact zv_vret G M dX1_settle_46 h
set_option maxHeartbeats 4000000 in
set_option maxRecDepth 100000 in
theorem cpT_makes_277 {Γ : ZG TW} {D : TD} {B0 d : Nat} {lim : Nat × Nat} (G : ZOk Γ cX1_makes RX1 9 (KnT D B0) (ZT D B0)) (M : ZRm Γ (d + 1) lim (some .boolean) "makes" []) (S : SdT d D B0 Γ.l lim) (hk : 0 ≤ d) {x1 : Int} {x6 : Int} {w : TW} (rx1 : zr x1) (rx6 : zr x6) (h : pT_makes_277 (wpT d) (fun v w => Γ.Q (.inl (some (ai v))) w) x1 x6 w) : ZV Γ w 277 [(0, ar (D.x + 1)), (1, ai x1), (6, ai x6)] [] := by
  refine zt_tok G (fun hw => ?_)
  refine zv_aload_n G rfl rfl dX1_makes_277 ?_
  refine zt_get (k := 77) (v := ar (D.ad 77 + 1)) G (by decide) q2232 rfl dX1_makes_278 ?_
  refine zv_iload_n G rfl rfl dX1_makes_281 ?_
  refine zv_iload G rfl dX1_makes_282 ?_
  have o11 := h.1
  have h := h.2
  refine zt_iast (f := 77) G (by decide) rfl rx1 rx6 o11.1 o11.2 dX1_makes_284 (fun u10 eu10 => ?_)
  have h := h u10 eu10
  refine zt_tok G (fun hu10 => ?_)
  refine zv_iconst (a := 1) G (by decide) dX1_makes_285 ?_
  exact zv_iret (ty := .boolean) (zr_k 1 (by decide) (by decide)) G M (zn_Z (Or.inr rfl)) dX1_makes_286 h
set_option maxHeartbeats 4000000 in
set_option maxRecDepth 100000 in
theorem cpT_makes_264 {Γ : ZG TW} {D : TD} {B0 d : Nat} {lim : Nat × Nat} (G : ZOk Γ cX1_makes RX1 9 (KnT D B0) (ZT D B0)) (M : ZRm Γ (d + 1) lim (some .boolean) "makes" []) (S : SdT d D B0 Γ.l lim) (hk : 0 ≤ d) {I47 : Int → TW → Prop} {x1 : Int} {x3 : Int} {x5 : Int} {x6 : Int} {x7 : Int} {w : TW} (hI47 : ∀ (x6 : Int) (w : TW), I47 x6 w → zr x6 → ZV Γ w 47 [(0, ar (D.x + 1)), (1, ai x1), (3, ai x3), (5, ai x5), (6, ai x6)] []) (rx1 : zr x1) (rx3 : zr x3) (rx5 : zr x5) (rx6 : zr x6) (rx7 : zr x7) (h : pT_makes_264 (wpT d) (fun v w => Γ.Q (.inl (some (ai v))) w) I47 x1 x3 x5 x6 x7 w) : ZV Γ w 264 [(0, ar (D.x + 1)), (1, ai x1), (3, ai x3), (5, ai x5), (6, ai x6), (7, ai x7)] [] := by
  refine zt_tok G (fun hw => ?_)
  refine zv_iincN G rfl (by decide) dX1_makes_264 (fun x6_41 ex6_41 => ?_)
  have h := h x6_41 ex6_41
  have rx6_41 : zr x6_41 := by rw [ex6_41]; exact w32_r _
  refine zv_aload_n G rfl rfl dX1_makes_267 ?_
  refine zv_iload G rfl dX1_makes_268 ?_
  refine zv_iload_n G rfl rfl dX1_makes_270 ?_
  refine zt_callV (as := [ai x7, ai x3]) G M (S 52 _ rfl _ _ _ h (zoks_cons rx7 (zoks_cons rx3 zoks_nil))) q2774 q2776 qs113 q2777 md_settle rfl (by decide) (Nat.le_of_ble_eq_true rfl) dX1_makes_271 (fun u42 h => ?_)
  refine zt_tok G (fun hu42 => ?_)
  refine zv_goto (tgt := 47) G (by decide) dX1_makes_274 ?_
  exact zv_pick [0, 1, 3, 5, 6] rfl (hI47 _ _ h rx6_41)
set_option maxHeartbeats 4000000 in
set_option maxRecDepth 100000 in
theorem cpT_makes_248 {Γ : ZG TW} {D : TD} {B0 d : Nat} {lim : Nat × Nat} (G : ZOk Γ cX1_makes RX1 9 (KnT D B0) (ZT D B0)) (M : ZRm Γ (d + 1) lim (some .boolean) "makes" []) (S : SdT d D B0 Γ.l lim) (hk : 0 ≤ d) {I47 : Int → TW → Prop} {x1 : Int} {x3 : Int} {x5 : Int} {x6 : Int} {x7 : Int} {x8 : Int} {w : TW} (hI47 : ∀ (x6 : Int) (w : TW), I47 x6 w → zr x6 → ZV Γ w 47 [(0, ar (D.x + 1)), (1, ai x1), (3, ai x3), (5, ai x5), (6, ai x6)] []) (rx1 : zr x1) (rx3 : zr x3) (rx5 : zr x5) (rx6 : zr x6) (rx7 : zr x7) (rx8 : zr x8) (h : pT_makes_248 (wpT d) (fun v w => Γ.Q (.inl (some (ai v))) w) I47 x1 x3 x5 x6 x7 x8 w) : ZV Γ w 248 [(0, ar (D.x + 1)), (1, ai x1), (3, ai x3), (5, ai x5), (6, ai x6), (7, ai x7), (8, ai x8)] [] := by
  refine zt_tok G (fun hw => ?_)
  refine zv_iload G rfl dX1_makes_248 ?_
  refine zv_bipush (a := (-4)) G (by decide) dX1_makes_250 ?_
  refine zv_icmp_eq (tgt := 264) G rx8 (zr_k (-4) (by decide) (by decide)) (by decide) dX1_makes_252 (fun c40 => ?_) (fun c40 => ?_)
  · have h := h.1 c40
    exact zv_pick [0, 1, 3, 5, 6, 7] rfl (cpT_makes_264 G M S hk hI47 rx1 rx3 rx5 rx6 rx7 h)
  · have h := h.2 c40
    refine zv_aload_n G rfl rfl dX1_makes_255 ?_
    refine zt_get (k := 87) (v := ar (D.ad 87 + 1)) G (by decide) q2242 rfl dX1_makes_256 ?_
    refine zv_iload G rfl dX1_makes_259 ?_
    refine zv_iload G rfl dX1_makes_261 ?_
    have o44 := h.1
    have h := h.2
    refine zt_iast (f := 87) G (by decide) rfl rx8 rx7 o44.1 o44.2 dX1_makes_263 (fun u43 eu43 => ?_)
    have h := h u43 eu43
    refine zt_tok G (fun hu43 => ?_)
    exact zv_pick [0, 1, 3, 5, 6, 7] rfl (cpT_makes_264 G M S hk hI47 rx1 rx3 rx5 rx6 rx7 h)
set_option maxHeartbeats 4000000 in
set_option maxRecDepth 100000 in
theorem cpT_makes_227 {Γ : ZG TW} {D : TD} {B0 d : Nat} {lim : Nat × Nat} (G : ZOk Γ cX1_makes RX1 9 (KnT D B0) (ZT D B0)) (M : ZRm Γ (d + 1) lim (some .boolean) "makes" []) (S : SdT d D B0 Γ.l lim) (hk : 0 ≤ d) {I47 : Int → TW → Prop} {x1 : Int} {x3 : Int} {x5 : Int} {x6 : Int} {x7 : Int} {x8 : Int} {w : TW} (hI47 : ∀ (x6 : Int) (w : TW), I47 x6 w → zr x6 → ZV Γ w 47 [(0, ar (D.x + 1)), (1, ai x1), (3, ai x3), (5, ai x5), (6, ai x6)] []) (rx1 : zr x1) (rx3 : zr x3) (rx5 : zr x5) (rx6 : zr x6) (rx7 : zr x7) (rx8 : zr x8) (h : pT_makes_227 (wpT d) (fun v w => Γ.Q (.inl (some (ai v))) w) I47 x1 x3 x5 x6 x7 x8 w) : ZV Γ w 227 [(0, ar (D.x + 1)), (1, ai x1), (3, ai x3), (5, ai x5), (6, ai x6), (7, ai x7), (8, ai x8)] [] := by
  refine zt_tok G (fun hw => ?_)
  refine zv_iload G rfl dX1_makes_227 ?_
  refine zv_bipush (a := (-4)) G (by decide) dX1_makes_229 ?_
  refine zv_icmp_eq (tgt := 248) G rx8 (zr_k (-4) (by decide) (by decide)) (by decide) dX1_makes_231 (fun c45 => ?_) (fun c45 => ?_)
  · have h := h.1 c45
    exact zv_pick [0, 1, 3, 5, 6, 7, 8] rfl (cpT_makes_248 G M S hk hI47 rx1 rx3 rx5 rx6 rx7 rx8 h)
  · have h := h.2 c45
    refine zv_aload_n G rfl rfl dX1_makes_234 ?_
    refine zt_get (k := 88) (v := ar (D.ad 88 + 1)) G (by decide) q2243 rfl dX1_makes_235 ?_
    refine zv_aload_n G rfl rfl dX1_makes_238 ?_
    refine zt_get (k := 87) (v := ar (D.ad 87 + 1)) G (by decide) q2242 rfl dX1_makes_239 ?_
    refine zv_iload G rfl dX1_makes_242 ?_
    have o46 := h.1
    have h := h.2
    refine zt_iald (f := 87) G (by decide) rfl rx8 o46.1 o46.2 dX1_makes_244 ?_
    refine zv_iload G rfl dX1_makes_245 ?_
    have o48 := h.1
    have h := h.2
    refine zt_iast (f := 88) G (by decide) rfl (hw.a 87 _ (by decide)) rx7 o48.1 o48.2 dX1_makes_247 (fun u47 eu47 => ?_)
    have h := h u47 eu47
    refine zt_tok G (fun hu47 => ?_)
    exact zv_pick [0, 1, 3, 5, 6, 7, 8] rfl (cpT_makes_248 G M S hk hI47 rx1 rx3 rx5 rx6 rx7 rx8 h)
set_option maxHeartbeats 4000000 in
set_option maxRecDepth 100000 in
theorem cpT_makes_66 {Γ : ZG TW} {D : TD} {B0 d : Nat} {lim : Nat × Nat} (G : ZOk Γ cX1_makes RX1 9 (KnT D B0) (ZT D B0)) (M : ZRm Γ (d + 1) lim (some .boolean) "makes" []) (S : SdT d D B0 Γ.l lim) (hk : 0 ≤ d) {w : TW} (h : pT_makes_66 (wpT d) (fun v w => Γ.Q (.inl (some (ai v))) w) w) : ZV Γ w 66 [] [] := by
  refine zt_tok G (fun hw => ?_)
  refine zv_iconst (a := 0) G (by decide) dX1_makes_66 ?_
  exact zv_iret (ty := .boolean) (zr_k 0 (by decide) (by decide)) G M (zn_Z (Or.inl rfl)) dX1_makes_67 h
set_option maxHeartbeats 4000000 in
set_option maxRecDepth 100000 in
theorem cpT_makes_47 {Γ : ZG TW} {D : TD} {B0 d : Nat} {lim : Nat × Nat} (G : ZOk Γ cX1_makes RX1 9 (KnT D B0) (ZT D B0)) (M : ZRm Γ (d + 1) lim (some .boolean) "makes" []) (S : SdT d D B0 Γ.l lim) (hk : 0 ≤ d) {x1 : Int} {x3 : Int} {x5 : Int} {x6 : Int} {w : TW} (rx1 : zr x1) (rx3 : zr x3) (rx5 : zr x5) (rx6 : zr x6) (h : pT_makes_47 (wpT d) (fun v w => Γ.Q (.inl (some (ai v))) w) x1 x3 x5 x6 w) : ZV Γ w 47 [(0, ar (D.x + 1)), (1, ai x1), (3, ai x3), (5, ai x5), (6, ai x6)] [] := by
  refine h (fun x6 w => zr x6 → ZV Γ w 47 [(0, ar (D.x + 1)), (1, ai x1), (3, ai x3), (5, ai x5), (6, ai x6)] []) ?_ rx6
  clear h
  intro x6 w h rx6
  have hI47 : ∀ (x6 : Int) (w : TW), (fun x6 w => zr x6 → ZV Γ w 47 [(0, ar (D.x + 1)), (1, ai x1), (3, ai x3), (5, ai x5), (6, ai x6)] []) x6 w → zr x6 → ZV Γ w 47 [(0, ar (D.x + 1)), (1, ai x1), (3, ai x3), (5, ai x5), (6, ai x6)] [] := fun _ _ z => z
  refine zt_tok G (fun hw => ?_)
  refine zv_aload_n G rfl rfl dX1_makes_47 ?_
  refine zt_get (k := 93) (v := ai (tI w 93)) G (by decide) q2248 rfl dX1_makes_48 ?_
  refine zv_if_le (tgt := 277) G (hw.i 93 (by decide)) (by decide) dX1_makes_51 (fun c9 => ?_) (fun c9 => ?_)
  · have h := h.1 c9
    exact zv_pick [0, 1, 6] rfl (cpT_makes_277 G M S hk rx1 rx6 h)
  · have h := h.2 c9
    refine zv_iload G rfl dX1_makes_54 ?_
    refine zv_aload_n G rfl rfl dX1_makes_56 ?_
    refine zt_get (k := 93) (v := ai (tI w 93)) G (by decide) q2248 rfl dX1_makes_57 ?_
    refine zv_iadd G dX1_makes_60 ?_
    refine zv_bipush (a := 120) G (by decide) dX1_makes_61 ?_
    refine zv_icmp_le (tgt := 68) G (w32_r _) (zr_k 120 (by decide) (by decide)) (by decide) dX1_makes_63 (fun c12 => ?_) (fun c12 => ?_)
    · have h := h.1 c12
      refine zv_aload_n G rfl rfl dX1_makes_68 ?_
      refine zv_dup G rfl dX1_makes_69 ?_
      refine zt_get (k := 93) (v := ai (tI w 93)) G (by decide) q2248 rfl dX1_makes_70 ?_
      refine zv_iconst (a := 1) G (by decide) dX1_makes_73 ?_
      refine zv_isub G dX1_makes_74 ?_
      refine zt_putI (k := 93) G (by decide) q2248 rfl (tyX1_ok 93 (by decide)) rfl (w32_r _) dX1_makes_75 (fun u13 eu13 => ?_)
      have h := h u13 eu13
      refine zt_tok G (fun hu13 => ?_)
      refine zv_iload G rfl dX1_makes_78 ?_
      refine zv_iload G rfl dX1_makes_80 ?_
      refine zv_iadd G dX1_makes_82 ?_
      refine zv_istoreN G (by decide) dX1_makes_83 (fun x7_14 ex7_14 => ?_)
      have h := h x7_14 ex7_14
      have rx7_14 : zr x7_14 := by rw [ex7_14]; exact (w32_r _)
      refine zv_aload_n G rfl rfl dX1_makes_85 ?_
      refine zt_get (k := 94) (v := ar (D.ad 94 + 1)) G (by decide) q2249 rfl dX1_makes_86 ?_
      refine zv_aload_n G rfl rfl dX1_makes_89 ?_
      refine zt_get (k := 93) (v := ai (tI u13 93)) G (by decide) q2248 rfl dX1_makes_90 ?_
      have o15 := h.1
      have h := h.2
      refine zt_iald (f := 94) G (by decide) rfl (hu13.i 93 (by decide)) o15.1 o15.2 dX1_makes_93 ?_
      refine zv_istoreN G (by decide) dX1_makes_94 (fun x8_16 ex8_16 => ?_)
      have h := h x8_16 ex8_16
      have rx8_16 : zr x8_16 := by rw [ex8_16]; exact (hu13.a 94 _ (by decide))
      refine zv_aload_n G rfl rfl dX1_makes_96 ?_
      refine zt_get (k := 85) (v := ar (D.ad 85 + 1)) G (by decide) q2240 rfl dX1_makes_97 ?_
      refine zv_iload G rfl dX1_makes_100 ?_
      refine zv_iload G rfl dX1_makes_102 ?_
      have o18 := h.1
      have h := h.2
      refine zt_iast (f := 85) G (by decide) rfl rx7_14 rx8_16 o18.1 o18.2 dX1_makes_104 (fun u17 eu17 => ?_)
      have h := h u17 eu17
      refine zt_tok G (fun hu17 => ?_)
      refine zv_aload_n G rfl rfl dX1_makes_105 ?_
      refine zt_get (k := 89) (v := ar (D.ad 89 + 1)) G (by decide) q2244 rfl dX1_makes_106 ?_
      refine zv_iload G rfl dX1_makes_109 ?_
      refine zv_aload_n G rfl rfl dX1_makes_111 ?_
      refine zt_get (k := 95) (v := ar (D.ad 95 + 1)) G (by decide) q2250 rfl dX1_makes_112 ?_
      refine zv_aload_n G rfl rfl dX1_makes_115 ?_
      refine zt_get (k := 93) (v := ai (tI u17 93)) G (by decide) q2248 rfl dX1_makes_116 ?_
      have o19 := h.1
      have h := h.2
      refine zt_iald (f := 95) G (by decide) rfl (hu17.i 93 (by decide)) o19.1 o19.2 dX1_makes_119 ?_
      have o21 := h.1
      have h := h.2
      refine zt_iast (f := 89) G (by decide) rfl rx7_14 (hu17.a 95 _ (by decide)) o21.1 o21.2 dX1_makes_120 (fun u20 eu20 => ?_)
      have h := h u20 eu20
      refine zt_tok G (fun hu20 => ?_)
      refine zv_aload_n G rfl rfl dX1_makes_121 ?_
      refine zt_get (k := 90) (v := ar (D.ad 90 + 1)) G (by decide) q2245 rfl dX1_makes_122 ?_
      refine zv_iload G rfl dX1_makes_125 ?_
      refine zv_aload_n G rfl rfl dX1_makes_127 ?_
      refine zt_get (k := 96) (v := ar (D.ad 96 + 1)) G (by decide) q2251 rfl dX1_makes_128 ?_
      refine zv_aload_n G rfl rfl dX1_makes_131 ?_
      refine zt_get (k := 93) (v := ai (tI u20 93)) G (by decide) q2248 rfl dX1_makes_132 ?_
      have o22 := h.1
      have h := h.2
      refine zt_iald (f := 96) G (by decide) rfl (hu20.i 93 (by decide)) o22.1 o22.2 dX1_makes_135 ?_
      have o24 := h.1
      have h := h.2
      refine zt_iast (f := 90) G (by decide) rfl rx7_14 (hu20.a 96 _ (by decide)) o24.1 o24.2 dX1_makes_136 (fun u23 eu23 => ?_)
      have h := h u23 eu23
      refine zt_tok G (fun hu23 => ?_)
      refine zv_aload_n G rfl rfl dX1_makes_137 ?_
      refine zt_get (k := 91) (v := ar (D.ad 91 + 1)) G (by decide) q2246 rfl dX1_makes_138 ?_
      refine zv_iload G rfl dX1_makes_141 ?_
      refine zv_aload_n G rfl rfl dX1_makes_143 ?_
      refine zt_get (k := 97) (v := ar (D.ad 97 + 1)) G (by decide) q2252 rfl dX1_makes_144 ?_
      refine zv_aload_n G rfl rfl dX1_makes_147 ?_
      refine zt_get (k := 93) (v := ai (tI u23 93)) G (by decide) q2248 rfl dX1_makes_148 ?_
      have o25 := h.1
      have h := h.2
      refine zt_lald (f := 97) G (by decide) rfl (hu23.i 93 (by decide)) o25.1 o25.2 dX1_makes_151 ?_
      have o27 := h.1
      have h := h.2
      refine zt_last (f := 91) G (by decide) rfl rx7_14 (hu23.al 97 _ (by decide)) o27.1 o27.2 dX1_makes_152 (fun u26 eu26 => ?_)
      have h := h u26 eu26
      refine zt_tok G (fun hu26 => ?_)
      refine zv_aload_n G rfl rfl dX1_makes_153 ?_
      refine zt_get (k := 92) (v := ar (D.ad 92 + 1)) G (by decide) q2247 rfl dX1_makes_154 ?_
      refine zv_iload G rfl dX1_makes_157 ?_
      refine zv_aload_n G rfl rfl dX1_makes_159 ?_
      refine zt_get (k := 98) (v := ar (D.ad 98 + 1)) G (by decide) q2253 rfl dX1_makes_160 ?_
      refine zv_aload_n G rfl rfl dX1_makes_163 ?_
      refine zt_get (k := 93) (v := ai (tI u26 93)) G (by decide) q2248 rfl dX1_makes_164 ?_
      have o28 := h.1
      have h := h.2
      refine zt_zald (f := 98) G (by decide) rfl (hu26.i 93 (by decide)) o28.1 o28.2 dX1_makes_167 ?_
      have o30 := h.1
      have h := h.2
      refine zt_zast (f := 92) G (by decide) rfl rx7_14 o30.1 o30.2 dX1_makes_168 (fun u29 eu29 => ?_)
      have h := h u29 eu29
      refine zt_tok G (fun hu29 => ?_)
      refine zv_aload_n G rfl rfl dX1_makes_169 ?_
      refine zt_get (k := 86) (v := ar (D.ad 86 + 1)) G (by decide) q2241 rfl dX1_makes_170 ?_
      refine zv_iload G rfl dX1_makes_173 ?_
      refine zv_bipush (a := (-4)) G (by decide) dX1_makes_175 ?_
      have o32 := h.1
      have h := h.2
      refine zt_iast (f := 86) G (by decide) rfl rx7_14 (zr_k (-4) (by decide) (by decide)) o32.1 o32.2 dX1_makes_177 (fun u31 eu31 => ?_)
      have h := h u31 eu31
      refine zt_tok G (fun hu31 => ?_)
      refine zv_aload_n G rfl rfl dX1_makes_178 ?_
      refine zt_get (k := 87) (v := ar (D.ad 87 + 1)) G (by decide) q2242 rfl dX1_makes_179 ?_
      refine zv_iload G rfl dX1_makes_182 ?_
      refine zv_bipush (a := (-4)) G (by decide) dX1_makes_184 ?_
      have o34 := h.1
      have h := h.2
      refine zt_iast (f := 87) G (by decide) rfl rx7_14 (zr_k (-4) (by decide) (by decide)) o34.1 o34.2 dX1_makes_186 (fun u33 eu33 => ?_)
      have h := h u33 eu33
      refine zt_tok G (fun hu33 => ?_)
      refine zv_aload_n G rfl rfl dX1_makes_187 ?_
      refine zt_get (k := 88) (v := ar (D.ad 88 + 1)) G (by decide) q2243 rfl dX1_makes_188 ?_
      refine zv_iload G rfl dX1_makes_191 ?_
      refine zv_bipush (a := (-4)) G (by decide) dX1_makes_193 ?_
      have o36 := h.1
      have h := h.2
      refine zt_iast (f := 88) G (by decide) rfl rx7_14 (zr_k (-4) (by decide) (by decide)) o36.1 o36.2 dX1_makes_195 (fun u35 eu35 => ?_)
      have h := h u35 eu35
      refine zt_tok G (fun hu35 => ?_)
      refine zv_iload G rfl dX1_makes_196 ?_
      refine zv_bipush (a := (-4)) G (by decide) dX1_makes_198 ?_
      have o37 := h.1
      have h := h.2
      have kt49 : ¬ (x8_16 = (-4)) ∧ ((tA u35 86 x8_16) = (-4)) → ZV Γ u35 215 [(8, ai x8_16), (7, ai x7_14), (0, ar (D.x + 1)), (1, ai x1), (3, ai x3), (5, ai x5), (6, ai x6)] [] := by
        intro c51
        have h := h.1 c51
        refine zv_aload_n G rfl rfl dX1_makes_215 ?_
        refine zt_get (k := 86) (v := ar (D.ad 86 + 1)) G (by decide) q2241 rfl dX1_makes_216 ?_
        refine zv_iload G rfl dX1_makes_219 ?_
        refine zv_iload G rfl dX1_makes_221 ?_
        have o39 := h.1
        have h := h.2
        refine zt_iast (f := 86) G (by decide) rfl rx8_16 rx7_14 o39.1 o39.2 dX1_makes_223 (fun u38 eu38 => ?_)
        have h := h u38 eu38
        refine zt_tok G (fun hu38 => ?_)
        refine zv_goto (tgt := 248) G (by decide) dX1_makes_224 ?_
        exact zv_pick [0, 1, 3, 5, 6, 7, 8] rfl (cpT_makes_248 G M S hk hI47 rx1 rx3 rx5 rx6 rx7_14 rx8_16 h)
      have kf50 : ¬ (¬ (x8_16 = (-4)) ∧ ((tA u35 86 x8_16) = (-4))) → ZV Γ u35 227 [(8, ai x8_16), (7, ai x7_14), (0, ar (D.x + 1)), (1, ai x1), (3, ai x3), (5, ai x5), (6, ai x6)] [] := by
        intro c51
        have h := h.2 c51
        exact zv_pick [0, 1, 3, 5, 6, 7, 8] rfl (cpT_makes_227 G M S hk hI47 rx1 rx3 rx5 rx6 rx7_14 rx8_16 h)
      refine zv_icmp_eq (tgt := 227) G rx8_16 (zr_k (-4) (by decide) (by decide)) (by decide) dX1_makes_200 (fun c52 => ?_) (fun c52 => ?_)
      · exact kf50 (fun q => q.1 c52)
      · refine zv_aload_n G rfl rfl dX1_makes_203 ?_
        refine zt_get (k := 86) (v := ar (D.ad 86 + 1)) G (by decide) q2241 rfl dX1_makes_204 ?_
        refine zv_iload G rfl dX1_makes_207 ?_
        refine zt_iald (f := 86) G (by decide) rfl rx8_16 (o37 c52).1 (o37 c52).2 dX1_makes_209 ?_
        refine zv_bipush (a := (-4)) G (by decide) dX1_makes_210 ?_
        refine zv_icmp_ne (tgt := 227) G (hu35.a 86 _ (by decide)) (zr_k (-4) (by decide) (by decide)) (by decide) dX1_makes_212 (fun c53 => ?_) (fun c53 => ?_)
        · exact kf50 (fun q => c53 q.2)
        · exact kt49 ⟨c52, c53⟩
    · have h := h.2 c12
      exact zv_pick [] rfl (cpT_makes_66 G M S hk h)
set_option maxHeartbeats 4000000 in
set_option maxRecDepth 100000 in
theorem cpT_makes_0 {Γ : ZG TW} {D : TD} {B0 d : Nat} {lim : Nat × Nat} (G : ZOk Γ cX1_makes RX1 9 (KnT D B0) (ZT D B0)) (M : ZRm Γ (d + 1) lim (some .boolean) "makes" []) (S : SdT d D B0 Γ.l lim) (hk : 0 ≤ d) {x1 : Int} {x2 : Int} {x3 : Int} {x4 : Int} {w : TW} (rx1 : zr x1) (rx2 : zr x2) (rx3 : zr x3) (rx4 : zr x4) (h : pT_makes_0 (wpT d) (fun v w => Γ.Q (.inl (some (ai v))) w) x1 x2 x3 x4 w) : ZV Γ w 0 [(0, ar (D.x + 1)), (1, ai x1), (2, ai x2), (3, ai x3), (4, ai x4)] [] := by
  refine zt_tok G (fun hw => ?_)
  refine zv_aload_n G rfl rfl dX1_makes_0 ?_
  refine zv_iload_n G rfl rfl dX1_makes_1 ?_
  refine zv_iload G rfl dX1_makes_2 ?_
  refine zt_callV (as := [ai x2, ai x4]) G M (S 46 _ rfl _ _ _ h (zoks_cons rx2 (zoks_cons rx4 zoks_nil))) q2750 q2752 qs107 q2753 md_layRows rfl (by decide) (Nat.le_of_ble_eq_true rfl) dX1_makes_4 (fun u1 h => ?_)
  refine zt_tok G (fun hu1 => ?_)
  refine zv_aload_n G rfl rfl dX1_makes_7 ?_
  refine zt_get (k := 78) (v := ar (D.ad 78 + 1)) G (by decide) q2233 rfl dX1_makes_8 ?_
  refine zv_iload_n G rfl rfl dX1_makes_11 ?_
  refine zv_iload_n G rfl rfl dX1_makes_12 ?_
  have o3 := h.1
  have h := h.2
  refine zt_iast (f := 78) G (by decide) rfl rx1 rx3 o3.1 o3.2 dX1_makes_13 (fun u2 eu2 => ?_)
  have h := h u2 eu2
  refine zt_tok G (fun hu2 => ?_)
  refine zv_aload_n G rfl rfl dX1_makes_14 ?_
  refine zt_get (k := 79) (v := ar (D.ad 79 + 1)) G (by decide) q2234 rfl dX1_makes_15 ?_
  refine zv_iload_n G rfl rfl dX1_makes_18 ?_
  refine zv_aload_n G rfl rfl dX1_makes_19 ?_
  refine zt_get (k := 10) (v := ai (tI u2 10)) G (by decide) q2165 rfl dX1_makes_20 ?_
  have o5 := h.1
  have h := h.2
  refine zt_iast (f := 79) G (by decide) rfl rx1 (hu2.i 10 (by decide)) o5.1 o5.2 dX1_makes_23 (fun u4 eu4 => ?_)
  have h := h u4 eu4
  refine zt_tok G (fun hu4 => ?_)
  refine zv_sipush (a := 300) G (by decide) dX1_makes_24 ?_
  refine zv_iload_n G rfl rfl dX1_makes_27 ?_
  refine zv_imul G dX1_makes_28 ?_
  refine zv_istoreN G (by decide) dX1_makes_29 (fun x5_6 ex5_6 => ?_)
  have h := h x5_6 ex5_6
  have rx5_6 : zr x5_6 := by rw [ex5_6]; exact (w32_r _)
  refine zv_iconst (a := 0) G (by decide) dX1_makes_31 ?_
  refine zv_istore G (by decide) rfl dX1_makes_32 ?_
  refine zv_aload_n G rfl rfl dX1_makes_34 ?_
  refine zv_iconst (a := 1) G (by decide) dX1_makes_35 ?_
  refine zt_putI (k := 93) G (by decide) q2248 rfl (tyX1_ok 93 (by decide)) rfl (zr_k 1 (by decide) (by decide)) dX1_makes_36 (fun u7 eu7 => ?_)
  have h := h u7 eu7
  refine zt_tok G (fun hu7 => ?_)
  refine zv_aload_n G rfl rfl dX1_makes_39 ?_
  refine zt_get (k := 94) (v := ar (D.ad 94 + 1)) G (by decide) q2249 rfl dX1_makes_40 ?_
  refine zv_iconst (a := 0) G (by decide) dX1_makes_43 ?_
  refine zv_bipush (a := (-4)) G (by decide) dX1_makes_44 ?_
  refine zt_iast (f := 94) G (by decide) rfl (zr_k 0 (by decide) (by decide)) (zr_k (-4) (by decide) (by decide)) (by omega) (by decide) dX1_makes_46 (fun u8 eu8 => ?_)
  have h := h u8 eu8
  refine zt_tok G (fun hu8 => ?_)
  exact zv_pick [0, 1, 3, 5, 6] rfl (cpT_makes_47 G M S hk rx1 rx3 rx5_6 (zr_k 0 (by decide) (by decide)) h)
set_option maxHeartbeats 4000000 in
set_option maxRecDepth 100000 in
theorem cpT_read_202 {Γ : ZG TW} {D : TD} {B0 d : Nat} {lim : Nat × Nat} (G : ZOk Γ cX1_read RX1 3 (KnT D B0) (ZT D B0)) (M : ZRm Γ (d + 1) lim (some .int) "read" []) (S : SdT d D B0 Γ.l lim) (hk : 1 ≤ d) {x1 : Int} {x2 : Int} {w : TW} (rx1 : zr x1) (rx2 : zr x2) (h : pT_read_202 (wpT d) (fun v w => Γ.Q (.inl (some (ai v))) w) x1 x2 w) : ZV Γ w 202 [(0, ar (D.x + 1)), (1, ai x1), (2, ai x2)] [] := by
  refine zt_tok G (fun hw => ?_)
  refine zv_aload_n G rfl rfl dX1_read_202 ?_
  refine zt_get (k := 7) (v := ai (tI w 7)) G (by decide) q2162 rfl dX1_read_203 ?_
  have kj31 : ∀ v30 : Int, v30 = (if (tI w 7) ≤ 0 then (if x1 = 0 then x2 else (-3)) else w32 ((-10) - (tI w 8))) → ZV Γ w 229 [(0, ar (D.x + 1)), (1, ai x1), (2, ai x2)] (ai v30 :: []) := by
    intro v30 ev30
    have h := h v30 ev30
    have rv30 : zr v30 := by rw [ev30]; exact (zr_ite (zr_ite rx2 (zr_k (-3) (by decide) (by decide))) (w32_r _))
    exact zv_iret (ty := .int) rv30 G M rfl dX1_read_229 h
  refine zv_if_le (tgt := 219) G (hw.i 7 (by decide)) (by decide) dX1_read_206 (fun c32 => ?_) (fun c32 => ?_)
  · refine zv_iload_n G rfl rfl dX1_read_219 ?_
    refine zv_if_eq (tgt := 228) G rx1 (by decide) dX1_read_220 (fun c33 => ?_) (fun c33 => ?_)
    · refine zv_iload_n G rfl rfl dX1_read_228 ?_
      exact kj31 _ (by rw [if_pos c32, if_pos c33])
    · refine zv_bipush (a := (-3)) G (by decide) dX1_read_223 ?_
      refine zv_goto (tgt := 229) G (by decide) dX1_read_225 ?_
      exact kj31 _ (by rw [if_pos c32, if_neg c33])
  · refine zv_bipush (a := (-10)) G (by decide) dX1_read_209 ?_
    refine zv_aload_n G rfl rfl dX1_read_211 ?_
    refine zt_get (k := 8) (v := ai (tI w 8)) G (by decide) q2163 rfl dX1_read_212 ?_
    refine zv_isub G dX1_read_215 ?_
    refine zv_goto (tgt := 229) G (by decide) dX1_read_216 ?_
    exact kj31 _ (by rw [if_neg c32])
set_option maxHeartbeats 4000000 in
set_option maxRecDepth 100000 in
theorem cpT_read_160 {Γ : ZG TW} {D : TD} {B0 d : Nat} {lim : Nat × Nat} (G : ZOk Γ cX1_read RX1 3 (KnT D B0) (ZT D B0)) (M : ZRm Γ (d + 1) lim (some .int) "read" []) (S : SdT d D B0 Γ.l lim) (hk : 1 ≤ d) {x1 : Int} {w : TW} (rx1 : zr x1) (h : pT_read_160 (wpT d) (fun v w => Γ.Q (.inl (some (ai v))) w) x1 w) : ZV Γ w 160 [(0, ar (D.x + 1)), (1, ai x1)] [] := by
  refine zt_tok G (fun hw => ?_)
  refine zv_aload_n G rfl rfl dX1_read_160 ?_
  refine zv_aload_n G rfl rfl dX1_read_161 ?_
  refine zt_get (k := 7) (v := ai (tI w 7)) G (by decide) q2162 rfl dX1_read_162 ?_
  have kj36 : ∀ v26 : Int, v26 = (if ((tI w 7) = 0) ∧ (x1 = 0) then 1 else 0) → ZV Γ w 177 [(0, ar (D.x + 1)), (1, ai x1)] (ai v26 :: ar (D.x + 1) :: []) := by
    intro v26 ev26
    have h := h v26 ev26
    have rv26 : zr v26 := by rw [ev26]; exact (zr_ite (zr_k 1 (by decide) (by decide)) (zr_k 0 (by decide) (by decide)))
    have bv26 : v26 = 0 ∨ v26 = 1 := by rw [ev26]; exact (zb_ite (Or.inr rfl) (Or.inl rfl))
    refine zt_putZ (k := 9) G (by decide) q2164 rfl (tyX1_ok 9 (by decide)) rfl bv26 dX1_read_177 (fun u27 eu27 => ?_)
    have h := h u27 eu27
    refine zt_tok G (fun hu27 => ?_)
    refine zv_aload_n G rfl rfl dX1_read_180 ?_
    refine zt_get (k := 41) (v := ai (tI u27 41)) G (by decide) q2196 rfl dX1_read_181 ?_
    refine zv_istore_nN G rfl (by decide) dX1_read_184 (fun x2_28 ex2_28 => ?_)
    have h := h x2_28 ex2_28
    have rx2_28 : zr x2_28 := by rw [ex2_28]; exact (hu27.i 41 (by decide))
    refine zv_aload_n G rfl rfl dX1_read_185 ?_
    refine zt_get (k := 9) (v := ai (tI u27 9)) G (by decide) q2164 rfl dX1_read_186 ?_
    refine zv_if_ne (tgt := 202) G (hu27.i 9 (by decide)) (by decide) dX1_read_189 (fun c29 => ?_) (fun c29 => ?_)
    · have h := h.2 c29
      exact zv_pick [0, 1, 2] rfl (cpT_read_202 G M S hk rx1 rx2_28 h)
    · have h := h.1 c29
      refine zv_aload_n G rfl rfl dX1_read_192 ?_
      refine zv_iconst (a := 0) G (by decide) dX1_read_193 ?_
      refine zt_putI (k := 10) G (by decide) q2165 rfl (tyX1_ok 10 (by decide)) rfl (zr_k 0 (by decide) (by decide)) dX1_read_194 (fun u34 eu34 => ?_)
      have h := h u34 eu34
      refine zt_tok G (fun hu34 => ?_)
      refine zv_aload_n G rfl rfl dX1_read_197 ?_
      refine zv_iconst (a := 0) G (by decide) dX1_read_198 ?_
      refine zt_putI (k := 41) G (by decide) q2196 rfl (tyX1_ok 41 (by decide)) rfl (zr_k 0 (by decide) (by decide)) dX1_read_199 (fun u35 eu35 => ?_)
      have h := h u35 eu35
      refine zt_tok G (fun hu35 => ?_)
      exact zv_pick [0, 1, 2] rfl (cpT_read_202 G M S hk rx1 rx2_28 h)
  refine zv_if_ne (tgt := 176) G (hw.i 7 (by decide)) (by decide) dX1_read_165 (fun c37 => ?_) (fun c37 => ?_)
  · refine zv_iconst (a := 0) G (by decide) dX1_read_176 ?_
    exact kj36 _ (if_neg (fun q => c37 q.1)).symm
  · refine zv_iload_n G rfl rfl dX1_read_168 ?_
    refine zv_if_ne (tgt := 176) G rx1 (by decide) dX1_read_169 (fun c38 => ?_) (fun c38 => ?_)
    · refine zv_iconst (a := 0) G (by decide) dX1_read_176 ?_
      exact kj36 _ (if_neg (fun q => c38 q.2)).symm
    · refine zv_iconst (a := 1) G (by decide) dX1_read_172 ?_
      refine zv_goto (tgt := 177) G (by decide) dX1_read_173 ?_
      exact kj36 _ (if_pos ⟨c37, c38⟩).symm
set_option maxHeartbeats 4000000 in
set_option maxRecDepth 100000 in
theorem cpT_read_118 {Γ : ZG TW} {D : TD} {B0 d : Nat} {lim : Nat × Nat} (G : ZOk Γ cX1_read RX1 3 (KnT D B0) (ZT D B0)) (M : ZRm Γ (d + 1) lim (some .int) "read" []) (S : SdT d D B0 Γ.l lim) (hk : 1 ≤ d) {x1 : Int} {x2 : Int} {w : TW} (rx1 : zr x1) (rx2 : zr x2) (h : pT_read_118 (wpT d) (fun v w => Γ.Q (.inl (some (ai v))) w) x1 x2 w) : ZV Γ w 118 [(0, ar (D.x + 1)), (1, ai x1), (2, ai x2)] [] := by
  refine h (fun x1 x2 w => zr x1 → zr x2 → ZV Γ w 118 [(0, ar (D.x + 1)), (1, ai x1), (2, ai x2)] []) ?_ rx1 rx2
  clear h
  intro x1 x2 w h rx1 rx2
  have hI118 : ∀ (x1 : Int) (x2 : Int) (w : TW), (fun x1 x2 w => zr x1 → zr x2 → ZV Γ w 118 [(0, ar (D.x + 1)), (1, ai x1), (2, ai x2)] []) x1 x2 w → zr x1 → zr x2 → ZV Γ w 118 [(0, ar (D.x + 1)), (1, ai x1), (2, ai x2)] [] := fun _ _ _ z => z
  refine zt_tok G (fun hw => ?_)
  refine zv_iload_n G rfl rfl dX1_read_118 ?_
  refine zv_aload_n G rfl rfl dX1_read_119 ?_
  refine zt_get (k := 41) (v := ai (tI w 41)) G (by decide) q2196 rfl dX1_read_120 ?_
  have kt39 : ¬ ((tI w 41) ≤ x2) ∧ (((tI w 7) = 0) ∧ (x1 = 0)) → ZV Γ w 137 [(0, ar (D.x + 1)), (1, ai x1), (2, ai x2)] [] := by
    intro c41
    have h := h.1 c41
    refine zv_aload_n G rfl rfl dX1_read_137 ?_
    refine zv_iload_n G rfl rfl dX1_read_138 ?_
    refine zv_iload_n G rfl rfl dX1_read_139 ?_
    refine zv_iconst (a := 0) G (by decide) dX1_read_140 ?_
    refine zv_iconst (a := 0) G (by decide) dX1_read_141 ?_
    refine zt_callI (as := [ai x2, ai x2, ai 0, ai 0]) G M (S 45 _ rfl _ _ _ h (zoks_cons rx2 (zoks_cons rx2 (zoks_cons (zr_k 0 (by decide) (by decide)) (zoks_cons (zr_k 0 (by decide) (by decide)) zoks_nil))))) q2746 q2748 qs106 q2749 md_makes rfl (by decide) (Nat.le_of_ble_eq_true rfl) dX1_read_142 (fun v21 u20 rv21 h => ?_)
    refine zt_tok G (fun hu20 => ?_)
    have kj24 : ∀ v22 : Int, v22 = (if v21 = 0 then 1 else 0) → ZV Γ u20 153 [(0, ar (D.x + 1)), (1, ai x1), (2, ai x2)] (ai v22 :: []) := by
      intro v22 ev22
      have h := h v22 ev22
      have rv22 : zr v22 := by rw [ev22]; exact (zr_ite (zr_k 1 (by decide) (by decide)) (zr_k 0 (by decide) (by decide)))
      have bv22 : v22 = 0 ∨ v22 = 1 := by rw [ev22]; exact (zb_ite (Or.inr rfl) (Or.inl rfl))
      refine zv_istore_n G rfl (by decide) rfl dX1_read_153 ?_
      refine zv_iincN G rfl (by decide) dX1_read_154 (fun x2_23 ex2_23 => ?_)
      have h := h x2_23 ex2_23
      have rx2_23 : zr x2_23 := by rw [ex2_23]; exact w32_r _
      refine zv_goto (tgt := 118) G (by decide) dX1_read_157 ?_
      exact zv_pick [0, 1, 2] rfl (hI118 _ _ _ h rv22 rx2_23)
    refine zv_if_ne (tgt := 152) G rv21 (by decide) dX1_read_145 (fun c25 => ?_) (fun c25 => ?_)
    · refine zv_iconst (a := 0) G (by decide) dX1_read_152 ?_
      exact kj24 _ (if_neg c25).symm
    · refine zv_iconst (a := 1) G (by decide) dX1_read_148 ?_
      refine zv_goto (tgt := 153) G (by decide) dX1_read_149 ?_
      exact kj24 _ (if_pos c25).symm
  have kf40 : ¬ (¬ ((tI w 41) ≤ x2) ∧ (((tI w 7) = 0) ∧ (x1 = 0))) → ZV Γ w 160 [(0, ar (D.x + 1)), (1, ai x1), (2, ai x2)] [] := by
    intro c41
    have h := h.2 c41
    exact zv_pick [0, 1] rfl (cpT_read_160 G M S hk rx1 h)
  refine zv_icmp_ge (tgt := 160) G rx2 (hw.i 41 (by decide)) (by decide) dX1_read_123 (fun c42 => ?_) (fun c42 => ?_)
  · exact kf40 (fun q => q.1 c42)
  · refine zv_aload_n G rfl rfl dX1_read_126 ?_
    refine zt_get (k := 7) (v := ai (tI w 7)) G (by decide) q2162 rfl dX1_read_127 ?_
    refine zv_if_ne (tgt := 160) G (hw.i 7 (by decide)) (by decide) dX1_read_130 (fun c43 => ?_) (fun c43 => ?_)
    · exact kf40 (fun q => (fun q => c43 q.1) q.2)
    · refine zv_iload_n G rfl rfl dX1_read_133 ?_
      refine zv_if_ne (tgt := 160) G rx1 (by decide) dX1_read_134 (fun c44 => ?_) (fun c44 => ?_)
      · exact kf40 (fun q => (fun q => c44 q.2) q.2)
      · exact kt39 ⟨c42, ⟨c43, c44⟩⟩
set_option maxHeartbeats 4000000 in
set_option maxRecDepth 100000 in
theorem cpT_read_109 {Γ : ZG TW} {D : TD} {B0 d : Nat} {lim : Nat × Nat} (G : ZOk Γ cX1_read RX1 3 (KnT D B0) (ZT D B0)) (M : ZRm Γ (d + 1) lim (some .int) "read" []) (S : SdT d D B0 Γ.l lim) (hk : 1 ≤ d) {w : TW} (h : pT_read_109 (wpT d) (fun v w => Γ.Q (.inl (some (ai v))) w) w) : ZV Γ w 109 [(0, ar (D.x + 1))] [] := by
  refine zt_tok G (fun hw => ?_)
  refine zv_aload_n G rfl rfl dX1_read_109 ?_
  refine zv_iconst (a := 0) G (by decide) dX1_read_110 ?_
  refine zt_putI (k := 1) G (by decide) q2156 rfl (tyX1_ok 1 (by decide)) rfl (zr_k 0 (by decide) (by decide)) dX1_read_111 (fun u19 eu19 => ?_)
  have h := h u19 eu19
  refine zt_tok G (fun hu19 => ?_)
  refine zv_iconst (a := 0) G (by decide) dX1_read_114 ?_
  refine zv_istore_n G rfl (by decide) rfl dX1_read_115 ?_
  refine zv_iconst (a := 0) G (by decide) dX1_read_116 ?_
  refine zv_istore_n G rfl (by decide) rfl dX1_read_117 ?_
  exact zv_pick [0, 1, 2] rfl (cpT_read_118 G M S hk (zr_k 0 (by decide) (by decide)) (zr_k 0 (by decide) (by decide)) h)
set_option maxHeartbeats 4000000 in
set_option maxRecDepth 100000 in
theorem cpT_read_98 {Γ : ZG TW} {D : TD} {B0 d : Nat} {lim : Nat × Nat} (G : ZOk Γ cX1_read RX1 3 (KnT D B0) (ZT D B0)) (M : ZRm Γ (d + 1) lim (some .int) "read" []) (S : SdT d D B0 Γ.l lim) (hk : 1 ≤ d) {w : TW} (h : pT_read_98 (wpT d) (fun v w => Γ.Q (.inl (some (ai v))) w) w) : ZV Γ w 98 [(0, ar (D.x + 1))] [] := by
  refine zt_tok G (fun hw => ?_)
  refine zv_aload_n G rfl rfl dX1_read_98 ?_
  refine zt_get (k := 7) (v := ai (tI w 7)) G (by decide) q2162 rfl dX1_read_99 ?_
  refine zv_if_ne (tgt := 109) G (hw.i 7 (by decide)) (by decide) dX1_read_102 (fun c18 => ?_) (fun c18 => ?_)
  · have h := h.2 c18
    exact zv_pick [0] rfl (cpT_read_109 G M S hk h)
  · have h := h.1 c18
    refine zv_aload_n G rfl rfl dX1_read_105 ?_
    refine zt_callV (as := []) G M (S 43 _ rfl _ _ _ h zoks_nil) q2738 q2740 qs104 q2741 md_judge rfl (by decide) (Nat.le_of_ble_eq_true rfl) dX1_read_106 (fun u45 h => ?_)
    refine zt_tok G (fun hu45 => ?_)
    exact zv_pick [0] rfl (cpT_read_109 G M S hk h)
set_option maxHeartbeats 4000000 in
set_option maxRecDepth 100000 in
theorem cpT_read_79 {Γ : ZG TW} {D : TD} {B0 d : Nat} {lim : Nat × Nat} (G : ZOk Γ cX1_read RX1 3 (KnT D B0) (ZT D B0)) (M : ZRm Γ (d + 1) lim (some .int) "read" []) (S : SdT d D B0 Γ.l lim) (hk : 1 ≤ d) {w : TW} (h : pT_read_79 (wpT d) (fun v w => Γ.Q (.inl (some (ai v))) w) w) : ZV Γ w 79 [(0, ar (D.x + 1))] [] := by
  refine zt_tok G (fun hw => ?_)
  refine zv_aload_n G rfl rfl dX1_read_79 ?_
  refine zt_get (k := 7) (v := ai (tI w 7)) G (by decide) q2162 rfl dX1_read_80 ?_
  have kt46 : ((tI w 7) = 0) ∧ (¬ ((tI w 3) = 0)) → ZV Γ w 93 [(0, ar (D.x + 1))] [] := by
    intro c48
    have h := h.1 c48
    refine zv_aload_n G rfl rfl dX1_read_93 ?_
    refine zv_iconst (a := 2) G (by decide) dX1_read_94 ?_
    refine zt_callV (as := [ai 2]) G M (S 12 _ rfl _ _ _ h (zoks_cons (zr_k 2 (by decide) (by decide)) zoks_nil)) q2612 q2614 qs73 q2615 md_stop rfl (by decide) (Nat.le_of_ble_eq_true rfl) dX1_read_95 (fun u17 h => ?_)
    refine zt_tok G (fun hu17 => ?_)
    exact zv_pick [0] rfl (cpT_read_98 G M S hk h)
  have kf47 : ¬ (((tI w 7) = 0) ∧ (¬ ((tI w 3) = 0))) → ZV Γ w 98 [(0, ar (D.x + 1))] [] := by
    intro c48
    have h := h.2 c48
    exact zv_pick [0] rfl (cpT_read_98 G M S hk h)
  refine zv_if_ne (tgt := 98) G (hw.i 7 (by decide)) (by decide) dX1_read_83 (fun c49 => ?_) (fun c49 => ?_)
  · exact kf47 (fun q => c49 q.1)
  · refine zv_aload_n G rfl rfl dX1_read_86 ?_
    refine zt_get (k := 3) (v := ai (tI w 3)) G (by decide) q2158 rfl dX1_read_87 ?_
    refine zv_if_eq (tgt := 98) G (hw.i 3 (by decide)) (by decide) dX1_read_90 (fun c50 => ?_) (fun c50 => ?_)
    · exact kf47 (fun q => (fun q => q c50) q.2)
    · exact kt46 ⟨c49, c50⟩
set_option maxHeartbeats 4000000 in
set_option maxRecDepth 100000 in
theorem cpT_read_57 {Γ : ZG TW} {D : TD} {B0 d : Nat} {lim : Nat × Nat} (G : ZOk Γ cX1_read RX1 3 (KnT D B0) (ZT D B0)) (M : ZRm Γ (d + 1) lim (some .int) "read" []) (S : SdT d D B0 Γ.l lim) (hk : 1 ≤ d) {w : TW} (h : pT_read_57 (wpT d) (fun v w => Γ.Q (.inl (some (ai v))) w) w) : ZV Γ w 57 [(0, ar (D.x + 1))] [] := by
  refine h (fun w => ZV Γ w 57 [(0, ar (D.x + 1))] []) ?_ 
  clear h
  intro w h 
  have hI57 : ∀ (w : TW), (fun w => ZV Γ w 57 [(0, ar (D.x + 1))] []) w → ZV Γ w 57 [(0, ar (D.x + 1))] [] := fun _ z => z
  refine zt_tok G (fun hw => ?_)
  refine zv_aload_n G rfl rfl dX1_read_57 ?_
  refine zt_get (k := 7) (v := ai (tI w 7)) G (by decide) q2162 rfl dX1_read_58 ?_
  have kt51 : ((tI w 7) = 0) ∧ (¬ ((ff_isWord 2 w) = 0)) → ZV Γ w 72 [(0, ar (D.x + 1))] [] := by
    intro c53
    have h := h.1 c53
    refine zv_aload_n G rfl rfl dX1_read_72 ?_
    refine zt_callV (as := []) G M (S 21 _ rfl _ _ _ h zoks_nil) q2650 q2652 qs82 q2653 md_readFunction rfl (by decide) (Nat.le_of_ble_eq_true rfl) dX1_read_73 (fun u16 h => ?_)
    refine zt_tok G (fun hu16 => ?_)
    refine zv_goto (tgt := 57) G (by decide) dX1_read_76 ?_
    exact zv_pick [0] rfl (hI57 _ h )
  have kf52 : ¬ (((tI w 7) = 0) ∧ (¬ ((ff_isWord 2 w) = 0))) → ZV Γ w 79 [(0, ar (D.x + 1))] [] := by
    intro c53
    have h := h.2 c53
    exact zv_pick [0] rfl (cpT_read_79 G M S hk h)
  refine zv_if_ne (tgt := 79) G (hw.i 7 (by decide)) (by decide) dX1_read_61 (fun c54 => ?_) (fun c54 => ?_)
  · exact kf52 (fun q => c54 q.1)
  · refine zv_aload_n G rfl rfl dX1_read_64 ?_
    refine zv_iconst (a := 2) G (by decide) dX1_read_65 ?_
    refine zt_callI (as := [ai 2]) G M (S 10 _ rfl _ _ _ (fu_isWord (by omega)) (zoks_cons (zr_k 2 (by decide) (by decide)) zoks_nil)) q2604 q2606 qs71 q2607 md_isWord rfl (by decide) (Nat.le_of_ble_eq_true rfl) dX1_read_66 (fun v14 u15 _ q => ?_)
    obtain ⟨ev14, eu15⟩ := q
    rw [eu15, ev14]
    refine zv_if_eq (tgt := 79) G (fr_isWord hw (zr_k 2 (by decide) (by decide))) (by decide) dX1_read_69 (fun c55 => ?_) (fun c55 => ?_)
    · exact kf52 (fun q => (fun q => q c55) q.2)
    · exact kt51 ⟨c54, c55⟩
set_option maxHeartbeats 4000000 in
set_option maxRecDepth 100000 in
theorem cpT_read_34 {Γ : ZG TW} {D : TD} {B0 d : Nat} {lim : Nat × Nat} (G : ZOk Γ cX1_read RX1 3 (KnT D B0) (ZT D B0)) (M : ZRm Γ (d + 1) lim (some .int) "read" []) (S : SdT d D B0 Γ.l lim) (hk : 1 ≤ d) {w : TW} (h : pT_read_34 (wpT d) (fun v w => Γ.Q (.inl (some (ai v))) w) w) : ZV Γ w 34 [(0, ar (D.x + 1))] [] := by
  refine h (fun w => ZV Γ w 34 [(0, ar (D.x + 1))] []) ?_ 
  clear h
  intro w h 
  have hI34 : ∀ (w : TW), (fun w => ZV Γ w 34 [(0, ar (D.x + 1))] []) w → ZV Γ w 34 [(0, ar (D.x + 1))] [] := fun _ z => z
  refine zt_tok G (fun hw => ?_)
  refine zv_aload_n G rfl rfl dX1_read_34 ?_
  refine zt_get (k := 7) (v := ai (tI w 7)) G (by decide) q2162 rfl dX1_read_35 ?_
  have kt56 : ((tI w 7) = 0) ∧ (¬ ((ff_isWord 0 w) = 0)) → ZV Γ w 49 [(0, ar (D.x + 1))] [] := by
    intro c58
    have h := h.1 c58
    refine zv_aload_n G rfl rfl dX1_read_49 ?_
    refine zv_iconst (a := 0) G (by decide) dX1_read_50 ?_
    refine zt_callV (as := [ai 0]) G M (S 11 _ rfl _ _ _ h (zoks_cons (zr_k 0 (by decide) (by decide)) zoks_nil)) q2608 q2610 qs72 q2611 md_readKind rfl (by decide) (Nat.le_of_ble_eq_true rfl) dX1_read_51 (fun u11 h => ?_)
    refine zt_tok G (fun hu11 => ?_)
    refine zv_goto (tgt := 34) G (by decide) dX1_read_54 ?_
    exact zv_pick [0] rfl (hI34 _ h )
  have kf57 : ¬ (((tI w 7) = 0) ∧ (¬ ((ff_isWord 0 w) = 0))) → ZV Γ w 57 [(0, ar (D.x + 1))] [] := by
    intro c58
    have h := h.2 c58
    exact zv_pick [0] rfl (cpT_read_57 G M S hk h)
  refine zv_if_ne (tgt := 57) G (hw.i 7 (by decide)) (by decide) dX1_read_38 (fun c59 => ?_) (fun c59 => ?_)
  · exact kf57 (fun q => c59 q.1)
  · refine zv_aload_n G rfl rfl dX1_read_41 ?_
    refine zv_iconst (a := 0) G (by decide) dX1_read_42 ?_
    refine zt_callI (as := [ai 0]) G M (S 10 _ rfl _ _ _ (fu_isWord (by omega)) (zoks_cons (zr_k 0 (by decide) (by decide)) zoks_nil)) q2604 q2606 qs71 q2607 md_isWord rfl (by decide) (Nat.le_of_ble_eq_true rfl) dX1_read_43 (fun v9 u10 _ q => ?_)
    obtain ⟨ev9, eu10⟩ := q
    rw [eu10, ev9]
    refine zv_if_eq (tgt := 57) G (fr_isWord hw (zr_k 0 (by decide) (by decide))) (by decide) dX1_read_46 (fun c60 => ?_) (fun c60 => ?_)
    · exact kf57 (fun q => (fun q => q c60) q.2)
    · exact kt56 ⟨c59, c60⟩
set_option maxHeartbeats 4000000 in
set_option maxRecDepth 100000 in
theorem cpT_read_0 {Γ : ZG TW} {D : TD} {B0 d : Nat} {lim : Nat × Nat} (G : ZOk Γ cX1_read RX1 3 (KnT D B0) (ZT D B0)) (M : ZRm Γ (d + 1) lim (some .int) "read" []) (S : SdT d D B0 Γ.l lim) (hk : 1 ≤ d) {w : TW} (h : pT_read_0 (wpT d) (fun v w => Γ.Q (.inl (some (ai v))) w) w) : ZV Γ w 0 [(0, ar (D.x + 1))] [] := by
  refine zt_tok G (fun hw => ?_)
  refine zv_aload_n G rfl rfl dX1_read_0 ?_
  refine zt_get (k := 9) (v := ai (tI w 9)) G (by decide) q2164 rfl dX1_read_1 ?_
  refine zv_if_eq (tgt := 10) G (hw.i 9 (by decide)) (by decide) dX1_read_4 (fun c1 => ?_) (fun c1 => ?_)
  · have h := h.1 c1
    refine zv_aload_n G rfl rfl dX1_read_10 ?_
    refine zv_iconst (a := 0) G (by decide) dX1_read_11 ?_
    refine zt_putI (k := 10) G (by decide) q2165 rfl (tyX1_ok 10 (by decide)) rfl (zr_k 0 (by decide) (by decide)) dX1_read_12 (fun u2 eu2 => ?_)
    have h := h u2 eu2
    refine zt_tok G (fun hu2 => ?_)
    refine zv_aload_n G rfl rfl dX1_read_15 ?_
    refine zv_iconst (a := 0) G (by decide) dX1_read_16 ?_
    refine zt_putI (k := 41) G (by decide) q2196 rfl (tyX1_ok 41 (by decide)) rfl (zr_k 0 (by decide) (by decide)) dX1_read_17 (fun u3 eu3 => ?_)
    have h := h u3 eu3
    refine zt_tok G (fun hu3 => ?_)
    refine zv_aload_n G rfl rfl dX1_read_20 ?_
    refine zv_iconst (a := 0) G (by decide) dX1_read_21 ?_
    refine zt_putI (k := 16) G (by decide) q2171 rfl (tyX1_ok 16 (by decide)) rfl (zr_k 0 (by decide) (by decide)) dX1_read_22 (fun u4 eu4 => ?_)
    have h := h u4 eu4
    refine zt_tok G (fun hu4 => ?_)
    refine zv_aload_n G rfl rfl dX1_read_25 ?_
    refine zv_iconst (a := 0) G (by decide) dX1_read_26 ?_
    refine zt_putI (k := 11) G (by decide) q2166 rfl (tyX1_ok 11 (by decide)) rfl (zr_k 0 (by decide) (by decide)) dX1_read_27 (fun u5 eu5 => ?_)
    have h := h u5 eu5
    refine zt_tok G (fun hu5 => ?_)
    refine zv_aload_n G rfl rfl dX1_read_30 ?_
    refine zt_callV (as := []) G M (S 3 _ rfl _ _ _ h zoks_nil) q2560 q2562 qs67 q2563 md_beginTape rfl (by decide) (Nat.le_of_ble_eq_true rfl) dX1_read_31 (fun u6 h => ?_)
    refine zt_tok G (fun hu6 => ?_)
    exact zv_pick [0] rfl (cpT_read_34 G M S hk h)
  · have h := h.2 c1
    refine zv_bipush (a := (-2)) G (by decide) dX1_read_7 ?_
    exact zv_iret (ty := .int) (zr_k (-2) (by decide) (by decide)) G M rfl dX1_read_9 h
end ZCT2
