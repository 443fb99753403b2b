/-! walks of the reference's methods, printed by tools/twin.py -/
section ZCT3
set_option maxHeartbeats 4000000 in
set_option maxRecDepth 100000 in
theorem cpT_fault_0 {Γ : ZG TW} {D : TD} {B0 d : Nat} {lim : Nat × Nat} (G : ZOk Γ cX1_fault RX1 1 (KnT D B0) (ZT D B0)) (M : ZRm Γ (d + 1) lim (some .int) "fault" []) (S : SdT d D B0 Γ.l lim) (hk : 0 ≤ d) {w : TW} (h : pT_fault_0 (wpT d) (fun v w => Γ.Q (.inl (some (ai v))) w) w) : ZV Γ w 0 [(0, ar (D.x + 1))] [] := by
  refine zt_tok G (fun hw => ?_)
  refine zv_aload_n G rfl rfl dX1_fault_0 ?_
  refine zt_get (k := 7) (v := ai (tI w 7)) G (by decide) q2162 rfl dX1_fault_1 ?_
  exact zv_iret (ty := .int) (hw.i 7 (by decide)) G M rfl dX1_fault_4 h
set_option maxHeartbeats 4000000 in
set_option maxRecDepth 100000 in
theorem cpT_add_59 {Γ : ZG TW} {D : TD} {B0 d : Nat} {lim : Nat × Nat} (G : ZOk Γ cX1_add RX1 2 (KnT D B0) (ZT D B0)) (M : ZRm Γ (d + 1) lim (some .int) "add" []) (S : SdT d D B0 Γ.l lim) (hk : 1 ≤ d) {x1 : Int} {w : TW} (rx1 : zr x1) (h : pT_add_59 (wpT d) (fun v w => Γ.Q (.inl (some (ai v))) w) x1 w) : ZV Γ w 59 [(0, ar (D.x + 1)), (1, ai x1)] [] := by
  refine zt_tok G (fun hw => ?_)
  refine zv_aload_n G rfl rfl dX1_add_59 ?_
  refine zv_iconst (a := 0) G (by decide) dX1_add_60 ?_
  refine zt_putI (k := 1) G (by decide) q2156 rfl (tyX1_ok 1 (by decide)) rfl (zr_k 0 (by decide) (by decide)) dX1_add_61 (fun u9 eu9 => ?_)
  have h := h u9 eu9
  refine zt_tok G (fun hu9 => ?_)
  refine zv_aload_n G rfl rfl dX1_add_64 ?_
  refine zt_get (k := 7) (v := ai (tI u9 7)) G (by decide) q2162 rfl dX1_add_65 ?_
  refine zv_if_le (tgt := 84) G (hu9.i 7 (by decide)) (by decide) dX1_add_68 (fun c10 => ?_) (fun c10 => ?_)
  · have h := h.1 c10
    refine zv_aload_n G rfl rfl dX1_add_84 ?_
    refine zv_dup G rfl dX1_add_85 ?_
    refine zt_get (k := 11) (v := ai (tI u9 11)) G (by decide) q2166 rfl dX1_add_86 ?_
    refine zv_iconst (a := 1) G (by decide) dX1_add_89 ?_
    refine zv_iadd G dX1_add_90 ?_
    refine zt_putI (k := 11) G (by decide) q2166 rfl (tyX1_ok 11 (by decide)) rfl (w32_r _) dX1_add_91 (fun u11 eu11 => ?_)
    have h := h u11 eu11
    refine zt_tok G (fun hu11 => ?_)
    refine zv_iload_n G rfl rfl dX1_add_94 ?_
    exact zv_iret (ty := .int) rx1 G M rfl dX1_add_95 h
  · have h := h.2 c10
    refine zv_aload_n G rfl rfl dX1_add_71 ?_
    refine zv_iload_n G rfl rfl dX1_add_72 ?_
    refine zt_putI (k := 10) G (by decide) q2165 rfl (tyX1_ok 10 (by decide)) rfl rx1 dX1_add_73 (fun u12 eu12 => ?_)
    have h := h u12 eu12
    refine zt_tok G (fun hu12 => ?_)
    refine zv_bipush (a := (-10)) G (by decide) dX1_add_76 ?_
    refine zv_aload_n G rfl rfl dX1_add_78 ?_
    refine zt_get (k := 8) (v := ai (tI u12 8)) G (by decide) q2163 rfl dX1_add_79 ?_
    refine zv_isub G dX1_add_82 ?_
    exact zv_iret (ty := .int) (w32_r _) G M rfl dX1_add_83 h
set_option maxHeartbeats 4000000 in
set_option maxRecDepth 100000 in
theorem cpT_add_40 {Γ : ZG TW} {D : TD} {B0 d : Nat} {lim : Nat × Nat} (G : ZOk Γ cX1_add RX1 2 (KnT D B0) (ZT D B0)) (M : ZRm Γ (d + 1) lim (some .int) "add" []) (S : SdT d D B0 Γ.l lim) (hk : 1 ≤ d) {x1 : Int} {w : TW} (rx1 : zr x1) (h : pT_add_40 (wpT d) (fun v w => Γ.Q (.inl (some (ai v))) w) x1 w) : ZV Γ w 40 [(0, ar (D.x + 1)), (1, ai x1)] [] := by
  refine zt_tok G (fun hw => ?_)
  refine zv_aload_n G rfl rfl dX1_add_40 ?_
  refine zt_get (k := 7) (v := ai (tI w 7)) G (by decide) q2162 rfl dX1_add_41 ?_
  have kt13 : ((tI w 7) = 0) ∧ (¬ ((tI w 3) = 0)) → ZV Γ w 54 [(0, ar (D.x + 1)), (1, ai x1)] [] := by
    intro c15
    have h := h.1 c15
    refine zv_aload_n G rfl rfl dX1_add_54 ?_
    refine zv_iconst (a := 2) G (by decide) dX1_add_55 ?_
    refine zt_callV (as := [ai 2]) G M (S 12 _ rfl _ _ _ h (zoks_cons (zr_k 2 (by decide) (by decide)) zoks_nil)) q2612 q2614 qs73 q2615 md_stop rfl (by decide) (Nat.le_of_ble_eq_true rfl) dX1_add_56 (fun u8 h => ?_)
    refine zt_tok G (fun hu8 => ?_)
    exact zv_pick [0, 1] rfl (cpT_add_59 G M S hk rx1 h)
  have kf14 : ¬ (((tI w 7) = 0) ∧ (¬ ((tI w 3) = 0))) → ZV Γ w 59 [(0, ar (D.x + 1)), (1, ai x1)] [] := by
    intro c15
    have h := h.2 c15
    exact zv_pick [0, 1] rfl (cpT_add_59 G M S hk rx1 h)
  refine zv_if_ne (tgt := 59) G (hw.i 7 (by decide)) (by decide) dX1_add_44 (fun c16 => ?_) (fun c16 => ?_)
  · exact kf14 (fun q => c16 q.1)
  · refine zv_aload_n G rfl rfl dX1_add_47 ?_
    refine zt_get (k := 3) (v := ai (tI w 3)) G (by decide) q2158 rfl dX1_add_48 ?_
    refine zv_if_eq (tgt := 59) G (hw.i 3 (by decide)) (by decide) dX1_add_51 (fun c17 => ?_) (fun c17 => ?_)
    · exact kf14 (fun q => (fun q => q c17) q.2)
    · exact kt13 ⟨c16, c17⟩
set_option maxHeartbeats 4000000 in
set_option maxRecDepth 100000 in
theorem cpT_add_0 {Γ : ZG TW} {D : TD} {B0 d : Nat} {lim : Nat × Nat} (G : ZOk Γ cX1_add RX1 2 (KnT D B0) (ZT D B0)) (M : ZRm Γ (d + 1) lim (some .int) "add" []) (S : SdT d D B0 Γ.l lim) (hk : 1 ≤ d) {w : TW} (h : pT_add_0 (wpT d) (fun v w => Γ.Q (.inl (some (ai v))) w) w) : ZV Γ w 0 [(0, ar (D.x + 1))] [] := by
  refine zt_tok G (fun hw => ?_)
  refine zv_aload_n G rfl rfl dX1_add_0 ?_
  refine zt_get (k := 9) (v := ai (tI w 9)) G (by decide) q2164 rfl dX1_add_1 ?_
  refine zv_if_ne (tgt := 10) G (hw.i 9 (by decide)) (by decide) dX1_add_4 (fun c1 => ?_) (fun c1 => ?_)
  · have h := h.2 c1
    refine zv_aload_n G rfl rfl dX1_add_10 ?_
    refine zt_get (k := 10) (v := ai (tI w 10)) G (by decide) q2165 rfl dX1_add_11 ?_
    refine zv_istore_nN G rfl (by decide) dX1_add_14 (fun x1_2 ex1_2 => ?_)
    have h := h x1_2 ex1_2
    have rx1_2 : zr x1_2 := by rw [ex1_2]; exact (hw.i 10 (by decide))
    refine zv_aload_n G rfl rfl dX1_add_15 ?_
    refine zt_callV (as := []) G M (S 3 _ rfl _ _ _ h zoks_nil) q2560 q2562 qs67 q2563 md_beginTape rfl (by decide) (Nat.le_of_ble_eq_true rfl) dX1_add_16 (fun u3 h => ?_)
    refine zt_tok G (fun hu3 => ?_)
    refine zv_aload_n G rfl rfl dX1_add_19 ?_
    refine zv_iconst (a := 0) G (by decide) dX1_add_20 ?_
    refine zt_callI (as := [ai 0]) G M (S 10 _ rfl _ _ _ (fu_isWord (by omega)) (zoks_cons (zr_k 0 (by decide) (by decide)) zoks_nil)) q2604 q2606 qs71 q2607 md_isWord rfl (by decide) (Nat.le_of_ble_eq_true rfl) dX1_add_21 (fun v4 u5 _ q => ?_)
    obtain ⟨ev4, eu5⟩ := q
    rw [eu5, ev4]
    refine zv_if_eq (tgt := 35) G (fr_isWord hu3 (zr_k 0 (by decide) (by decide))) (by decide) dX1_add_24 (fun c6 => ?_) (fun c6 => ?_)
    · have h := h.1 c6
      refine zv_aload_n G rfl rfl dX1_add_35 ?_
      refine zv_iconst (a := 2) G (by decide) dX1_add_36 ?_
      refine zt_callV (as := [ai 2]) G M (S 12 _ rfl _ _ _ h (zoks_cons (zr_k 2 (by decide) (by decide)) zoks_nil)) q2612 q2614 qs73 q2615 md_stop rfl (by decide) (Nat.le_of_ble_eq_true rfl) dX1_add_37 (fun u7 h => ?_)
      refine zt_tok G (fun hu7 => ?_)
      exact zv_pick [0, 1] rfl (cpT_add_40 G M S hk rx1_2 h)
    · have h := h.2 c6
      refine zv_aload_n G rfl rfl dX1_add_27 ?_
      refine zv_iconst (a := 1) G (by decide) dX1_add_28 ?_
      refine zt_callV (as := [ai 1]) G M (S 11 _ rfl _ _ _ h (zoks_cons (zr_k 1 (by decide) (by decide)) zoks_nil)) q2608 q2610 qs72 q2611 md_readKind rfl (by decide) (Nat.le_of_ble_eq_true rfl) dX1_add_29 (fun u18 h => ?_)
      refine zt_tok G (fun hu18 => ?_)
      refine zv_goto (tgt := 40) G (by decide) dX1_add_32 ?_
      exact zv_pick [0, 1] rfl (cpT_add_40 G M S hk rx1_2 h)
  · have h := h.1 c1
    refine zv_bipush (a := (-2)) G (by decide) dX1_add_7 ?_
    exact zv_iret (ty := .int) (zr_k (-2) (by decide) (by decide)) G M rfl dX1_add_9 h
set_option maxHeartbeats 4000000 in
set_option maxRecDepth 100000 in
theorem cpT_isFunction_0 {Γ : ZG TW} {D : TD} {B0 d : Nat} {lim : Nat × Nat} (G : ZOk Γ cX1_isFunction RX1 2 (KnT D B0) (ZT D B0)) (M : ZRm Γ (d + 1) lim (some .boolean) "isFunction" []) (S : SdT d D B0 Γ.l lim) (hk : 1 ≤ d) {x1 : Int} {w : TW} (rx1 : zr x1) (h : pT_isFunction_0 (wpT d) (fun v w => Γ.Q (.inl (some (ai v))) w) x1 w) : ZV Γ w 0 [(0, ar (D.x + 1)), (1, ai x1)] [] := by
  refine zt_tok G (fun hw => ?_)
  refine zv_iload_n G rfl rfl dX1_isFunction_0 ?_
  refine zv_i2l G rx1 dX1_isFunction_1 ?_
  refine zv_lconst (a := 0) G (by decide) dX1_isFunction_2 ?_
  refine zv_aload_n G rfl rfl dX1_isFunction_3 ?_
  refine zt_get (k := 41) (v := ai (tI w 41)) G (by decide) q2196 rfl dX1_isFunction_4 ?_
  refine zv_iconst (a := 1) G (by decide) dX1_isFunction_7 ?_
  refine zv_isub G dX1_isFunction_8 ?_
  refine zv_i2l G (w32_r _) dX1_isFunction_9 ?_
  refine zt_callSI (as := [al x1, al 0, al (w32 ((tI w 41) - 1))]) G M (S 1 _ rfl _ _ _ (fu_in (by omega)) (zoks_cons (zrl_i rx1) (zoks_cons (zrl_k 0 (by decide) (by decide)) (zoks_cons (zrl_i (w32_r _)) zoks_nil)))) q2552 q2553 q2554 md_in rfl (by decide) (Nat.le_of_ble_eq_true rfl) dX1_isFunction_10 (fun v1 u2 _ q => ?_)
  obtain ⟨ev1, eu2⟩ := q
  rw [eu2, ev1]
  exact zv_iret (ty := .boolean) (fr_in hw (zrl_i rx1) (zrl_k 0 (by decide) (by decide)) (zrl_i (w32_r _))) G M (zn_Z (fb_in _ _ _ _)) dX1_isFunction_13 h
set_option maxHeartbeats 4000000 in
set_option maxRecDepth 100000 in
theorem cpT_moved_0 {Γ : ZG TW} {D : TD} {B0 d : Nat} {lim : Nat × Nat} (G : ZOk Γ cX1_moved RX1 2 (KnT D B0) (ZT D B0)) (M : ZRm Γ (d + 1) lim (some .int) "moved" []) (S : SdT d D B0 Γ.l lim) (hk : 0 ≤ d) {x0 : Int} {x1 : Int} {w : TW} (rx0 : zr x0) (rx1 : zr x1) (h : pT_moved_0 (wpT d) (fun v w => Γ.Q (.inl (some (ai v))) w) x0 x1 w) : ZV Γ w 0 [(0, ai x0), (1, ai x1)] [] := by
  refine zt_tok G (fun hw => ?_)
  refine zv_iload_n G rfl rfl dX1_moved_0 ?_
  refine zv_bipush (a := (-4)) G (by decide) dX1_moved_1 ?_
  have kj2 : ∀ v1 : Int, v1 = (if x0 = (-4) then (-4) else w32 (x0 + x1)) → ZV Γ w 14 [(0, ai x0), (1, ai x1)] (ai v1 :: []) := by
    intro v1 ev1
    have h := h v1 ev1
    have rv1 : zr v1 := by rw [ev1]; exact (zr_ite (zr_k (-4) (by decide) (by decide)) (w32_r _))
    exact zv_iret (ty := .int) rv1 G M rfl dX1_moved_14 h
  refine zv_icmp_ne (tgt := 11) G rx0 (zr_k (-4) (by decide) (by decide)) (by decide) dX1_moved_3 (fun c3 => ?_) (fun c3 => ?_)
  · refine zv_iload_n G rfl rfl dX1_moved_11 ?_
    refine zv_iload_n G rfl rfl dX1_moved_12 ?_
    refine zv_iadd G dX1_moved_13 ?_
    exact kj2 _ (if_neg c3).symm
  · refine zv_bipush (a := (-4)) G (by decide) dX1_moved_6 ?_
    refine zv_goto (tgt := 14) G (by decide) dX1_moved_8 ?_
    exact kj2 _ (if_pos c3).symm
set_option maxHeartbeats 4000000 in
set_option maxRecDepth 100000 in
theorem cpT_remake_20 {Γ : ZG TW} {D : TD} {B0 d : Nat} {lim : Nat × Nat} (G : ZOk Γ cX1_remake RX1 7 (KnT D B0) (ZT D B0)) (M : ZRm Γ (d + 1) lim (some .int) "remake" []) (S : SdT d D B0 Γ.l lim) (hk : 2 ≤ d) {w : TW} (h : pT_remake_20 (wpT d) (fun v w => Γ.Q (.inl (some (ai v))) w) w) : ZV Γ w 20 [] [] := by
  refine zt_tok G (fun hw => ?_)
  refine zv_iconst (a := (-1)) G (by decide) dX1_remake_20 ?_
  exact zv_iret (ty := .int) (zr_k (-1) (by decide) (by decide)) G M rfl dX1_remake_21 h
set_option maxHeartbeats 4000000 in
set_option maxRecDepth 100000 in
theorem cpT_remake_261 {Γ : ZG TW} {D : TD} {B0 d : Nat} {lim : Nat × Nat} (G : ZOk Γ cX1_remake RX1 7 (KnT D B0) (ZT D B0)) (M : ZRm Γ (d + 1) lim (some .int) "remake" []) (S : SdT d D B0 Γ.l lim) (hk : 2 ≤ d) {x1 : Int} {x2 : Int} {w : TW} (rx1 : zr x1) (rx2 : zr x2) (h : pT_remake_261 (wpT d) (fun v w => Γ.Q (.inl (some (ai v))) w) x1 x2 w) : ZV Γ w 261 [(0, ar (D.x + 1)), (1, ai x1), (2, ai x2)] [] := by
  refine zt_tok G (fun hw => ?_)
  refine zv_aload_n G rfl rfl dX1_remake_261 ?_
  refine zt_get (k := 77) (v := ar (D.ad 77 + 1)) G (by decide) q2232 rfl dX1_remake_262 ?_
  refine zv_iload_n G rfl rfl dX1_remake_265 ?_
  refine zv_aload_n G rfl rfl dX1_remake_266 ?_
  refine zt_get (k := 77) (v := ar (D.ad 77 + 1)) G (by decide) q2232 rfl dX1_remake_267 ?_
  refine zv_bipush (a := 12) G (by decide) dX1_remake_270 ?_
  refine zt_iald (f := 77) G (by decide) rfl (zr_k 12 (by decide) (by decide)) (by omega) (by decide) dX1_remake_272 ?_
  have o13 := h.1
  have h := h.2
  refine zt_iast (f := 77) G (by decide) rfl rx1 (hw.a 77 _ (by decide)) o13.1 o13.2 dX1_remake_273 (fun u12 eu12 => ?_)
  have h := h u12 eu12
  refine zt_tok G (fun hu12 => ?_)
  refine zv_aload_n G rfl rfl dX1_remake_274 ?_
  refine zt_get (k := 78) (v := ar (D.ad 78 + 1)) G (by decide) q2233 rfl dX1_remake_275 ?_
  refine zv_iload_n G rfl rfl dX1_remake_278 ?_
  refine zv_iload_n G rfl rfl dX1_remake_279 ?_
  have o15 := h.1
  have h := h.2
  refine zt_iast (f := 78) G (by decide) rfl rx1 rx2 o15.1 o15.2 dX1_remake_280 (fun u14 eu14 => ?_)
  have h := h u14 eu14
  refine zt_tok G (fun hu14 => ?_)
  refine zv_aload_n G rfl rfl dX1_remake_281 ?_
  refine zt_get (k := 79) (v := ar (D.ad 79 + 1)) G (by decide) q2234 rfl dX1_remake_282 ?_
  refine zv_iload_n G rfl rfl dX1_remake_285 ?_
  refine zv_aload_n G rfl rfl dX1_remake_286 ?_
  refine zt_get (k := 10) (v := ai (tI u14 10)) G (by decide) q2165 rfl dX1_remake_287 ?_
  have o17 := h.1
  have h := h.2
  refine zt_iast (f := 79) G (by decide) rfl rx1 (hu14.i 10 (by decide)) o17.1 o17.2 dX1_remake_290 (fun u16 eu16 => ?_)
  have h := h u16 eu16
  refine zt_tok G (fun hu16 => ?_)
  refine zv_aload_n G rfl rfl dX1_remake_291 ?_
  refine zt_get (k := 77) (v := ar (D.ad 77 + 1)) G (by decide) q2232 rfl dX1_remake_292 ?_
  refine zv_iload_n G rfl rfl dX1_remake_295 ?_
  have o18 := h.1
  have h := h.2
  refine zt_iald (f := 77) G (by decide) rfl rx1 o18.1 o18.2 dX1_remake_296 ?_
  exact zv_iret (ty := .int) (hu16.a 77 _ (by decide)) G M rfl dX1_remake_297 h
set_option maxHeartbeats 4000000 in
set_option maxRecDepth 100000 in
theorem cpT_remake_49 {Γ : ZG TW} {D : TD} {B0 d : Nat} {lim : Nat × Nat} (G : ZOk Γ cX1_remake RX1 7 (KnT D B0) (ZT D B0)) (M : ZRm Γ (d + 1) lim (some .int) "remake" []) (S : SdT d D B0 Γ.l lim) (hk : 2 ≤ d) {x1 : Int} {x2 : Int} {x3 : Int} {x4 : Int} {w : TW} (rx1 : zr x1) (rx2 : zr x2) (rx3 : zr x3) (rx4 : zr x4) (h : pT_remake_49 (wpT d) (fun v w => Γ.Q (.inl (some (ai v))) w) x1 x2 x3 x4 w) : ZV Γ w 49 [(0, ar (D.x + 1)), (1, ai x1), (2, ai x2), (3, ai x3), (4, ai x4)] [] := by
  refine h (fun x4 w => zr x4 → ZV Γ w 49 [(0, ar (D.x + 1)), (1, ai x1), (2, ai x2), (3, ai x3), (4, ai x4)] []) ?_ rx4
  clear h
  intro x4 w h rx4
  have hI49 : ∀ (x4 : Int) (w : TW), (fun x4 w => zr x4 → ZV Γ w 49 [(0, ar (D.x + 1)), (1, ai x1), (2, ai x2), (3, ai x3), (4, ai x4)] []) x4 w → zr x4 → ZV Γ w 49 [(0, ar (D.x + 1)), (1, ai x1), (2, ai x2), (3, ai x3), (4, ai x4)] [] := fun _ _ z => z
  refine zt_tok G (fun hw => ?_)
  refine zv_iload G rfl dX1_remake_49 ?_
  refine zv_aload_n G rfl rfl dX1_remake_51 ?_
  refine zt_get (k := 77) (v := ar (D.ad 77 + 1)) G (by decide) q2232 rfl dX1_remake_52 ?_
  refine zv_bipush (a := 12) G (by decide) dX1_remake_55 ?_
  refine zt_iald (f := 77) G (by decide) rfl (zr_k 12 (by decide) (by decide)) (by omega) (by decide) dX1_remake_57 ?_
  refine zv_icmp_ge (tgt := 261) G rx4 (hw.a 77 _ (by decide)) (by decide) dX1_remake_58 (fun c11 => ?_) (fun c11 => ?_)
  · have h := h.1 c11
    exact zv_pick [0, 1, 2] rfl (cpT_remake_261 G M S hk rx1 rx2 h)
  · have h := h.2 c11
    refine zv_sipush (a := 3600) G (by decide) dX1_remake_61 ?_
    refine zv_iload G rfl dX1_remake_64 ?_
    refine zv_iadd G dX1_remake_66 ?_
    refine zv_istoreN G (by decide) dX1_remake_67 (fun x5_19 ex5_19 => ?_)
    have h := h x5_19 ex5_19
    have rx5_19 : zr x5_19 := by rw [ex5_19]; exact (w32_r _)
    refine zv_iload G rfl dX1_remake_69 ?_
    refine zv_iload_n G rfl rfl dX1_remake_71 ?_
    refine zv_iadd G dX1_remake_72 ?_
    refine zv_istoreN G (by decide) dX1_remake_73 (fun x6_20 ex6_20 => ?_)
    have h := h x6_20 ex6_20
    have rx6_20 : zr x6_20 := by rw [ex6_20]; exact (w32_r _)
    refine zv_aload_n G rfl rfl dX1_remake_75 ?_
    refine zt_get (k := 80) (v := ar (D.ad 80 + 1)) G (by decide) q2235 rfl dX1_remake_76 ?_
    refine zv_iload G rfl dX1_remake_79 ?_
    refine zv_aload_n G rfl rfl dX1_remake_81 ?_
    refine zt_get (k := 80) (v := ar (D.ad 80 + 1)) G (by decide) q2235 rfl dX1_remake_82 ?_
    refine zv_iload G rfl dX1_remake_85 ?_
    have o21 := h.1
    have h := h.2
    refine zt_iald (f := 80) G (by decide) rfl rx5_19 o21.1 o21.2 dX1_remake_87 ?_
    have o23 := h.1
    have h := h.2
    refine zt_iast (f := 80) G (by decide) rfl rx6_20 (hw.a 80 _ (by decide)) o23.1 o23.2 dX1_remake_88 (fun u22 eu22 => ?_)
    have h := h u22 eu22
    refine zt_tok G (fun hu22 => ?_)
    refine zv_aload_n G rfl rfl dX1_remake_89 ?_
    refine zt_get (k := 81) (v := ar (D.ad 81 + 1)) G (by decide) q2236 rfl dX1_remake_90 ?_
    refine zv_iload G rfl dX1_remake_93 ?_
    refine zv_aload_n G rfl rfl dX1_remake_95 ?_
    refine zt_get (k := 81) (v := ar (D.ad 81 + 1)) G (by decide) q2236 rfl dX1_remake_96 ?_
    refine zv_iload G rfl dX1_remake_99 ?_
    have o24 := h.1
    have h := h.2
    refine zt_iald (f := 81) G (by decide) rfl rx5_19 o24.1 o24.2 dX1_remake_101 ?_
    have o26 := h.1
    have h := h.2
    refine zt_iast (f := 81) G (by decide) rfl rx6_20 (hu22.a 81 _ (by decide)) o26.1 o26.2 dX1_remake_102 (fun u25 eu25 => ?_)
    have h := h u25 eu25
    refine zt_tok G (fun hu25 => ?_)
    refine zv_aload_n G rfl rfl dX1_remake_103 ?_
    refine zt_get (k := 82) (v := ar (D.ad 82 + 1)) G (by decide) q2237 rfl dX1_remake_104 ?_
    refine zv_iload G rfl dX1_remake_107 ?_
    refine zv_aload_n G rfl rfl dX1_remake_109 ?_
    refine zt_get (k := 82) (v := ar (D.ad 82 + 1)) G (by decide) q2237 rfl dX1_remake_110 ?_
    refine zv_iload G rfl dX1_remake_113 ?_
    have o27 := h.1
    have h := h.2
    refine zt_iald (f := 82) G (by decide) rfl rx5_19 o27.1 o27.2 dX1_remake_115 ?_
    have o29 := h.1
    have h := h.2
    refine zt_iast (f := 82) G (by decide) rfl rx6_20 (hu25.a 82 _ (by decide)) o29.1 o29.2 dX1_remake_116 (fun u28 eu28 => ?_)
    have h := h u28 eu28
    refine zt_tok G (fun hu28 => ?_)
    refine zv_aload_n G rfl rfl dX1_remake_117 ?_
    refine zt_get (k := 83) (v := ar (D.ad 83 + 1)) G (by decide) q2238 rfl dX1_remake_118 ?_
    refine zv_iload G rfl dX1_remake_121 ?_
    refine zv_aload_n G rfl rfl dX1_remake_123 ?_
    refine zt_get (k := 83) (v := ar (D.ad 83 + 1)) G (by decide) q2238 rfl dX1_remake_124 ?_
    refine zv_iload G rfl dX1_remake_127 ?_
    have o30 := h.1
    have h := h.2
    refine zt_iald (f := 83) G (by decide) rfl rx5_19 o30.1 o30.2 dX1_remake_129 ?_
    have o32 := h.1
    have h := h.2
    refine zt_iast (f := 83) G (by decide) rfl rx6_20 (hu28.a 83 _ (by decide)) o32.1 o32.2 dX1_remake_130 (fun u31 eu31 => ?_)
    have h := h u31 eu31
    refine zt_tok G (fun hu31 => ?_)
    refine zv_aload_n G rfl rfl dX1_remake_131 ?_
    refine zt_get (k := 84) (v := ar (D.ad 84 + 1)) G (by decide) q2239 rfl dX1_remake_132 ?_
    refine zv_iload G rfl dX1_remake_135 ?_
    refine zv_aload_n G rfl rfl dX1_remake_137 ?_
    refine zt_get (k := 84) (v := ar (D.ad 84 + 1)) G (by decide) q2239 rfl dX1_remake_138 ?_
    refine zv_iload G rfl dX1_remake_141 ?_
    have o33 := h.1
    have h := h.2
    refine zt_iald (f := 84) G (by decide) rfl rx5_19 o33.1 o33.2 dX1_remake_143 ?_
    have o35 := h.1
    have h := h.2
    refine zt_iast (f := 84) G (by decide) rfl rx6_20 (hu31.a 84 _ (by decide)) o35.1 o35.2 dX1_remake_144 (fun u34 eu34 => ?_)
    have h := h u34 eu34
    refine zt_tok G (fun hu34 => ?_)
    refine zv_aload_n G rfl rfl dX1_remake_145 ?_
    refine zt_get (k := 85) (v := ar (D.ad 85 + 1)) G (by decide) q2240 rfl dX1_remake_146 ?_
    refine zv_iload G rfl dX1_remake_149 ?_
    refine zv_aload_n G rfl rfl dX1_remake_151 ?_
    refine zt_get (k := 85) (v := ar (D.ad 85 + 1)) G (by decide) q2240 rfl dX1_remake_152 ?_
    refine zv_iload G rfl dX1_remake_155 ?_
    have o36 := h.1
    have h := h.2
    refine zt_iald (f := 85) G (by decide) rfl rx5_19 o36.1 o36.2 dX1_remake_157 ?_
    refine zv_iload_n G rfl rfl dX1_remake_158 ?_
    refine zt_callSI (as := [ai (tA u34 85 x5_19), ai x3]) G M (S 68 _ rfl _ _ _ (fu_moved (by omega)) (zoks_cons (hu34.a 85 _ (by decide)) (zoks_cons rx3 zoks_nil))) q2841 q2842 q2843 md_moved rfl (by decide) (Nat.le_of_ble_eq_true rfl) dX1_remake_159 (fun v37 u38 _ q => ?_)
    obtain ⟨ev37, eu38⟩ := q
    rw [eu38, ev37]
    have o40 := h.1
    have h := h.2
    refine zt_iast (f := 85) G (by decide) rfl rx6_20 (fr_moved hu34 (hu34.a 85 _ (by decide)) rx3) o40.1 o40.2 dX1_remake_162 (fun u39 eu39 => ?_)
    have h := h u39 eu39
    refine zt_tok G (fun hu39 => ?_)
    refine zv_aload_n G rfl rfl dX1_remake_163 ?_
    refine zt_get (k := 86) (v := ar (D.ad 86 + 1)) G (by decide) q2241 rfl dX1_remake_164 ?_
    refine zv_iload G rfl dX1_remake_167 ?_
    refine zv_aload_n G rfl rfl dX1_remake_169 ?_
    refine zt_get (k := 86) (v := ar (D.ad 86 + 1)) G (by decide) q2241 rfl dX1_remake_170 ?_
    refine zv_iload G rfl dX1_remake_173 ?_
    have o41 := h.1
    have h := h.2
    refine zt_iald (f := 86) G (by decide) rfl rx5_19 o41.1 o41.2 dX1_remake_175 ?_
    refine zv_iload_n G rfl rfl dX1_remake_176 ?_
    refine zt_callSI (as := [ai (tA u39 86 x5_19), ai x3]) G M (S 68 _ rfl _ _ _ (fu_moved (by omega)) (zoks_cons (hu39.a 86 _ (by decide)) (zoks_cons rx3 zoks_nil))) q2841 q2842 q2843 md_moved rfl (by decide) (Nat.le_of_ble_eq_true rfl) dX1_remake_177 (fun v42 u43 _ q => ?_)
    obtain ⟨ev42, eu43⟩ := q
    rw [eu43, ev42]
    have o45 := h.1
    have h := h.2
    refine zt_iast (f := 86) G (by decide) rfl rx6_20 (fr_moved hu39 (hu39.a 86 _ (by decide)) rx3) o45.1 o45.2 dX1_remake_180 (fun u44 eu44 => ?_)
    have h := h u44 eu44
    refine zt_tok G (fun hu44 => ?_)
    refine zv_aload_n G rfl rfl dX1_remake_181 ?_
    refine zt_get (k := 88) (v := ar (D.ad 88 + 1)) G (by decide) q2243 rfl dX1_remake_182 ?_
    refine zv_iload G rfl dX1_remake_185 ?_
    refine zv_aload_n G rfl rfl dX1_remake_187 ?_
    refine zt_get (k := 88) (v := ar (D.ad 88 + 1)) G (by decide) q2243 rfl dX1_remake_188 ?_
    refine zv_iload G rfl dX1_remake_191 ?_
    have o46 := h.1
    have h := h.2
    refine zt_iald (f := 88) G (by decide) rfl rx5_19 o46.1 o46.2 dX1_remake_193 ?_
    refine zv_iload_n G rfl rfl dX1_remake_194 ?_
    refine zt_callSI (as := [ai (tA u44 88 x5_19), ai x3]) G M (S 68 _ rfl _ _ _ (fu_moved (by omega)) (zoks_cons (hu44.a 88 _ (by decide)) (zoks_cons rx3 zoks_nil))) q2841 q2842 q2843 md_moved rfl (by decide) (Nat.le_of_ble_eq_true rfl) dX1_remake_195 (fun v47 u48 _ q => ?_)
    obtain ⟨ev47, eu48⟩ := q
    rw [eu48, ev47]
    have o50 := h.1
    have h := h.2
    refine zt_iast (f := 88) G (by decide) rfl rx6_20 (fr_moved hu44 (hu44.a 88 _ (by decide)) rx3) o50.1 o50.2 dX1_remake_198 (fun u49 eu49 => ?_)
    have h := h u49 eu49
    refine zt_tok G (fun hu49 => ?_)
    refine zv_aload_n G rfl rfl dX1_remake_199 ?_
    refine zt_get (k := 89) (v := ar (D.ad 89 + 1)) G (by decide) q2244 rfl dX1_remake_200 ?_
    refine zv_iload G rfl dX1_remake_203 ?_
    refine zv_aload_n G rfl rfl dX1_remake_205 ?_
    refine zt_get (k := 89) (v := ar (D.ad 89 + 1)) G (by decide) q2244 rfl dX1_remake_206 ?_
    refine zv_iload G rfl dX1_remake_209 ?_
    have o51 := h.1
    have h := h.2
    refine zt_iald (f := 89) G (by decide) rfl rx5_19 o51.1 o51.2 dX1_remake_211 ?_
    have o53 := h.1
    have h := h.2
    refine zt_iast (f := 89) G (by decide) rfl rx6_20 (hu49.a 89 _ (by decide)) o53.1 o53.2 dX1_remake_212 (fun u52 eu52 => ?_)
    have h := h u52 eu52
    refine zt_tok G (fun hu52 => ?_)
    refine zv_aload_n G rfl rfl dX1_remake_213 ?_
    refine zt_get (k := 90) (v := ar (D.ad 90 + 1)) G (by decide) q2245 rfl dX1_remake_214 ?_
    refine zv_iload G rfl dX1_remake_217 ?_
    refine zv_aload_n G rfl rfl dX1_remake_219 ?_
    refine zt_get (k := 90) (v := ar (D.ad 90 + 1)) G (by decide) q2245 rfl dX1_remake_220 ?_
    refine zv_iload G rfl dX1_remake_223 ?_
    have o54 := h.1
    have h := h.2
    refine zt_iald (f := 90) G (by decide) rfl rx5_19 o54.1 o54.2 dX1_remake_225 ?_
    have o56 := h.1
    have h := h.2
    refine zt_iast (f := 90) G (by decide) rfl rx6_20 (hu52.a 90 _ (by decide)) o56.1 o56.2 dX1_remake_226 (fun u55 eu55 => ?_)
    have h := h u55 eu55
    refine zt_tok G (fun hu55 => ?_)
    refine zv_aload_n G rfl rfl dX1_remake_227 ?_
    refine zt_get (k := 91) (v := ar (D.ad 91 + 1)) G (by decide) q2246 rfl dX1_remake_228 ?_
    refine zv_iload G rfl dX1_remake_231 ?_
    refine zv_aload_n G rfl rfl dX1_remake_233 ?_
    refine zt_get (k := 91) (v := ar (D.ad 91 + 1)) G (by decide) q2246 rfl dX1_remake_234 ?_
    refine zv_iload G rfl dX1_remake_237 ?_
    have o57 := h.1
    have h := h.2
    refine zt_lald (f := 91) G (by decide) rfl rx5_19 o57.1 o57.2 dX1_remake_239 ?_
    have o59 := h.1
    have h := h.2
    refine zt_last (f := 91) G (by decide) rfl rx6_20 (hu55.al 91 _ (by decide)) o59.1 o59.2 dX1_remake_240 (fun u58 eu58 => ?_)
    have h := h u58 eu58
    refine zt_tok G (fun hu58 => ?_)
    refine zv_aload_n G rfl rfl dX1_remake_241 ?_
    refine zt_get (k := 92) (v := ar (D.ad 92 + 1)) G (by decide) q2247 rfl dX1_remake_242 ?_
    refine zv_iload G rfl dX1_remake_245 ?_
    refine zv_aload_n G rfl rfl dX1_remake_247 ?_
    refine zt_get (k := 92) (v := ar (D.ad 92 + 1)) G (by decide) q2247 rfl dX1_remake_248 ?_
    refine zv_iload G rfl dX1_remake_251 ?_
    have o60 := h.1
    have h := h.2
    refine zt_zald (f := 92) G (by decide) rfl rx5_19 o60.1 o60.2 dX1_remake_253 ?_
    have o62 := h.1
    have h := h.2
    refine zt_zast (f := 92) G (by decide) rfl rx6_20 o62.1 o62.2 dX1_remake_254 (fun u61 eu61 => ?_)
    have h := h u61 eu61
    refine zt_tok G (fun hu61 => ?_)
    refine zv_iincN G rfl (by decide) dX1_remake_255 (fun x4_63 ex4_63 => ?_)
    have h := h x4_63 ex4_63
    have rx4_63 : zr x4_63 := by rw [ex4_63]; exact w32_r _
    refine zv_goto (tgt := 49) G (by decide) dX1_remake_258 ?_
    exact zv_pick [0, 1, 2, 3, 4] rfl (hI49 _ _ h rx4_63)
set_option maxHeartbeats 4000000 in
set_option maxRecDepth 100000 in
theorem cpT_remake_0 {Γ : ZG TW} {D : TD} {B0 d : Nat} {lim : Nat × Nat} (G : ZOk Γ cX1_remake RX1 7 (KnT D B0) (ZT D B0)) (M : ZRm Γ (d + 1) lim (some .int) "remake" []) (S : SdT d D B0 Γ.l lim) (hk : 2 ≤ d) {x1 : Int} {x2 : Int} {w : TW} (rx1 : zr x1) (rx2 : zr x2) (h : pT_remake_0 (wpT d) (fun v w => Γ.Q (.inl (some (ai v))) w) x1 x2 w) : ZV Γ w 0 [(0, ar (D.x + 1)), (1, ai x1), (2, ai x2)] [] := by
  refine zt_tok G (fun hw => ?_)
  refine zv_aload_n G rfl rfl dX1_remake_0 ?_
  refine zv_iload_n G rfl rfl dX1_remake_1 ?_
  refine zt_callI (as := [ai x1]) G M (S 67 _ rfl _ _ _ (fu_isFunction (by omega)) (zoks_cons rx1 zoks_nil)) q2836 q2838 qs125 q2839 md_isFunction rfl (by decide) (Nat.le_of_ble_eq_true rfl) dX1_remake_2 (fun v1 u2 _ q => ?_)
  obtain ⟨ev1, eu2⟩ := q
  rw [eu2, ev1]
  have kt64 : ((ff_isFunction x1 w) = 0) ∨ ((ff_in x2 0 3 w) = 0) → ZV Γ w 20 [(0, ar (D.x + 1)), (1, ai x1), (2, ai x2)] [] := by
    intro c66
    have h := h.1 c66
    exact zv_pick [] rfl (cpT_remake_20 G M S hk h)
  have kf65 : ¬ (((ff_isFunction x1 w) = 0) ∨ ((ff_in x2 0 3 w) = 0)) → ZV Γ w 22 [(0, ar (D.x + 1)), (1, ai x1), (2, ai x2)] [] := by
    intro c66
    have h := h.2 c66
    refine zv_aload_n G rfl rfl dX1_remake_22 ?_
    refine zv_bipush (a := 12) G (by decide) dX1_remake_23 ?_
    refine zv_iload_n G rfl rfl dX1_remake_25 ?_
    refine zv_iload_n G rfl rfl dX1_remake_26 ?_
    refine zv_iconst (a := 0) G (by decide) dX1_remake_27 ?_
    refine zt_callI (as := [ai 12, ai x1, ai x2, ai 0]) G M (S 45 _ rfl _ _ _ h (zoks_cons (zr_k 12 (by decide) (by decide)) (zoks_cons rx1 (zoks_cons rx2 (zoks_cons (zr_k 0 (by decide) (by decide)) zoks_nil))))) q2746 q2748 qs106 q2749 md_makes rfl (by decide) (Nat.le_of_ble_eq_true rfl) dX1_remake_28 (fun v8 u7 rv8 h => ?_)
    refine zt_tok G (fun hu7 => ?_)
    refine zv_if_ne (tgt := 37) G rv8 (by decide) dX1_remake_31 (fun c9 => ?_) (fun c9 => ?_)
    · have h := h.2 c9
      refine zv_sipush (a := 300) G (by decide) dX1_remake_37 ?_
      refine zv_iload_n G rfl rfl dX1_remake_40 ?_
      refine zv_bipush (a := 12) G (by decide) dX1_remake_41 ?_
      refine zv_isub G dX1_remake_43 ?_
      refine zv_imul G dX1_remake_44 ?_
      refine zv_istore_nN G rfl (by decide) dX1_remake_45 (fun x3_10 ex3_10 => ?_)
      have h := h x3_10 ex3_10
      have rx3_10 : zr x3_10 := by rw [ex3_10]; exact (w32_r _)
      refine zv_iconst (a := 0) G (by decide) dX1_remake_46 ?_
      refine zv_istore G (by decide) rfl dX1_remake_47 ?_
      exact zv_pick [0, 1, 2, 3, 4] rfl (cpT_remake_49 G M S hk rx1 rx2 rx3_10 (zr_k 0 (by decide) (by decide)) h)
    · have h := h.1 c9
      refine zv_bipush (a := (-3)) G (by decide) dX1_remake_34 ?_
      exact zv_iret (ty := .int) (zr_k (-3) (by decide) (by decide)) G M rfl dX1_remake_36 h
  refine zv_if_eq (tgt := 20) G (fr_isFunction hw rx1) (by decide) dX1_remake_5 (fun c67 => ?_) (fun c67 => ?_)
  · exact kt64 (Or.inl c67)
  · refine zv_iload_n G rfl rfl dX1_remake_8 ?_
    refine zv_i2l G rx2 dX1_remake_9 ?_
    refine zv_lconst (a := 0) G (by decide) dX1_remake_10 ?_
    refine zv_ldc2 (a := 3) G (G.kn.2.1 _ q2840 _) (by decide) dX1_remake_11 ?_
    refine zt_callSI (as := [al x2, al 0, al 3]) G M (S 1 _ rfl _ _ _ (fu_in (by omega)) (zoks_cons (zrl_i rx2) (zoks_cons (zrl_k 0 (by decide) (by decide)) (zoks_cons (zrl_k 3 (by decide) (by decide)) zoks_nil)))) q2552 q2553 q2554 md_in rfl (by decide) (Nat.le_of_ble_eq_true rfl) dX1_remake_14 (fun v5 u6 _ q => ?_)
    obtain ⟨ev5, eu6⟩ := q
    rw [eu6, ev5]
    refine zv_if_ne (tgt := 22) G (fr_in hw (zrl_i rx2) (zrl_k 0 (by decide) (by decide)) (zrl_k 3 (by decide) (by decide))) (by decide) dX1_remake_17 (fun c68 => ?_) (fun c68 => ?_)
    · exact kf65 (fun q => q.elim c67 c68)
    · exact kt64 (Or.inr c68)
set_option maxHeartbeats 4000000 in
set_option maxRecDepth 100000 in
theorem cpT_isKind_0 {Γ : ZG TW} {D : TD} {B0 d : Nat} {lim : Nat × Nat} (G : ZOk Γ cX1_isKind RX1 2 (KnT D B0) (ZT D B0)) (M : ZRm Γ (d + 1) lim (some .boolean) "isKind" []) (S : SdT d D B0 Γ.l lim) (hk : 1 ≤ d) {x1 : Int} {w : TW} (rx1 : zr x1) (h : pT_isKind_0 (wpT d) (fun v w => Γ.Q (.inl (some (ai v))) w) x1 w) : ZV Γ w 0 [(0, ar (D.x + 1)), (1, ai x1)] [] := by
  refine zt_tok G (fun hw => ?_)
  refine zv_iload_n G rfl rfl dX1_isKind_0 ?_
  refine zv_i2l G rx1 dX1_isKind_1 ?_
  refine zv_lconst (a := 0) G (by decide) dX1_isKind_2 ?_
  refine zv_aload_n G rfl rfl dX1_isKind_3 ?_
  refine zt_get (k := 10) (v := ai (tI w 10)) G (by decide) q2165 rfl dX1_isKind_4 ?_
  refine zv_iconst (a := 1) G (by decide) dX1_isKind_7 ?_
  refine zv_isub G dX1_isKind_8 ?_
  refine zv_i2l G (w32_r _) dX1_isKind_9 ?_
  refine zt_callSI (as := [al x1, al 0, al (w32 ((tI w 10) - 1))]) G M (S 1 _ rfl _ _ _ (fu_in (by omega)) (zoks_cons (zrl_i rx1) (zoks_cons (zrl_k 0 (by decide) (by decide)) (zoks_cons (zrl_i (w32_r _)) zoks_nil)))) q2552 q2553 q2554 md_in rfl (by decide) (Nat.le_of_ble_eq_true rfl) dX1_isKind_10 (fun v1 u2 _ q => ?_)
  obtain ⟨ev1, eu2⟩ := q
  rw [eu2, ev1]
  exact zv_iret (ty := .boolean) (fr_in hw (zrl_i rx1) (zrl_k 0 (by decide) (by decide)) (zrl_i (w32_r _))) G M (zn_Z (fb_in _ _ _ _)) dX1_isKind_13 h
set_option maxHeartbeats 4000000 in
set_option maxRecDepth 100000 in
theorem cpT_kind_20 {Γ : ZG TW} {D : TD} {B0 d : Nat} {lim : Nat × Nat} (G : ZOk Γ cX1_kind RX1 3 (KnT D B0) (ZT D B0)) (M : ZRm Γ (d + 1) lim (some .int) "kind" []) (S : SdT d D B0 Γ.l lim) (hk : 2 ≤ d) {w : TW} (h : pT_kind_20 (wpT d) (fun v w => Γ.Q (.inl (some (ai v))) w) w) : ZV Γ w 20 [] [] := by
  refine zt_tok G (fun hw => ?_)
  refine zv_iconst (a := (-1)) G (by decide) dX1_kind_20 ?_
  exact zv_iret (ty := .int) (zr_k (-1) (by decide) (by decide)) G M rfl dX1_kind_21 h
set_option maxHeartbeats 4000000 in
set_option maxRecDepth 100000 in
theorem cpT_kind_119 {Γ : ZG TW} {D : TD} {B0 d : Nat} {lim : Nat × Nat} (G : ZOk Γ cX1_kind RX1 3 (KnT D B0) (ZT D B0)) (M : ZRm Γ (d + 1) lim (some .int) "kind" []) (S : SdT d D B0 Γ.l lim) (hk : 2 ≤ d) {x1 : Int} {x2 : Int} {w : TW} (rx1 : zr x1) (rx2 : zr x2) (h : pT_kind_119 (wpT d) (fun v w => Γ.Q (.inl (some (ai v))) w) x1 x2 w) : ZV Γ w 119 [(0, ar (D.x + 1)), (1, ai x1), (2, ai x2)] [] := by
  refine zt_tok G (fun hw => ?_)
  refine zv_iload_n G rfl rfl dX1_kind_119 ?_
  refine zv_iconst (a := 3) G (by decide) dX1_kind_120 ?_
  refine zv_isub G dX1_kind_121 ?_
  refine zv_aload_n G rfl rfl dX1_kind_122 ?_
  refine zt_get (k := 14) (v := ar (D.ad 14 + 1)) G (by decide) q2169 rfl dX1_kind_123 ?_
  refine zv_iload_n G rfl rfl dX1_kind_126 ?_
  have o7 := h.1
  have h := h.2
  refine zt_iald (f := 14) G (by decide) rfl rx1 o7.1 o7.2 dX1_kind_127 ?_
  have o9 := h.1
  have h := h.2
  have kj10 : ∀ v8 : Int, v8 = (if ¬ ((tA w 14 x1) ≤ (w32 (x2 - 3))) then tA w 15 (w32 ((w32 ((w32 (4 * x1)) + x2)) - 3)) else (-4)) → ZV Γ w 148 [(0, ar (D.x + 1)), (1, ai x1), (2, ai x2)] (ai v8 :: []) := by
    intro v8 ev8
    have h := h v8 ev8
    have rv8 : zr v8 := by rw [ev8]; exact (zr_ite (hw.a 15 _ (by decide)) (zr_k (-4) (by decide) (by decide)))
    exact zv_iret (ty := .int) rv8 G M rfl dX1_kind_148 h
  refine zv_icmp_ge (tgt := 146) G (w32_r _) (hw.a 14 _ (by decide)) (by decide) dX1_kind_128 (fun c11 => ?_) (fun c11 => ?_)
  · refine zv_bipush (a := (-4)) G (by decide) dX1_kind_146 ?_
    exact kj10 _ (if_neg (fun q => q c11)).symm
  · refine zv_aload_n G rfl rfl dX1_kind_131 ?_
    refine zt_get (k := 15) (v := ar (D.ad 15 + 1)) G (by decide) q2170 rfl dX1_kind_132 ?_
    refine zv_iconst (a := 4) G (by decide) dX1_kind_135 ?_
    refine zv_iload_n G rfl rfl dX1_kind_136 ?_
    refine zv_imul G dX1_kind_137 ?_
    refine zv_iload_n G rfl rfl dX1_kind_138 ?_
    refine zv_iadd G dX1_kind_139 ?_
    refine zv_iconst (a := 3) G (by decide) dX1_kind_140 ?_
    refine zv_isub G dX1_kind_141 ?_
    refine zt_iald (f := 15) G (by decide) rfl (w32_r _) (o9 c11).1 (o9 c11).2 dX1_kind_142 ?_
    refine zv_goto (tgt := 148) G (by decide) dX1_kind_143 ?_
    exact kj10 _ (if_pos c11).symm
set_option maxHeartbeats 4000000 in
set_option maxRecDepth 100000 in
theorem cpT_kind_0 {Γ : ZG TW} {D : TD} {B0 d : Nat} {lim : Nat × Nat} (G : ZOk Γ cX1_kind RX1 3 (KnT D B0) (ZT D B0)) (M : ZRm Γ (d + 1) lim (some .int) "kind" []) (S : SdT d D B0 Γ.l lim) (hk : 2 ≤ d) {x1 : Int} {x2 : Int} {w : TW} (rx1 : zr x1) (rx2 : zr x2) (h : pT_kind_0 (wpT d) (fun v w => Γ.Q (.inl (some (ai v))) w) x1 x2 w) : ZV Γ w 0 [(0, ar (D.x + 1)), (1, ai x1), (2, ai x2)] [] := by
  refine zt_tok G (fun hw => ?_)
  refine zv_aload_n G rfl rfl dX1_kind_0 ?_
  refine zv_iload_n G rfl rfl dX1_kind_1 ?_
  refine zt_callI (as := [ai x1]) G M (S 70 _ rfl _ _ _ (fu_isKind (by omega)) (zoks_cons rx1 zoks_nil)) q2848 q2850 qs126 q2851 md_isKind rfl (by decide) (Nat.le_of_ble_eq_true rfl) dX1_kind_2 (fun v1 u2 _ q => ?_)
  obtain ⟨ev1, eu2⟩ := q
  rw [eu2, ev1]
  have kt32 : ((ff_isKind x1 w) = 0) ∨ ((ff_in x2 0 7 w) = 0) → ZV Γ w 20 [(0, ar (D.x + 1)), (1, ai x1), (2, ai x2)] [] := by
    intro c34
    have h := h.1 c34
    exact zv_pick [] rfl (cpT_kind_20 G M S hk h)
  have kf33 : ¬ (((ff_isKind x1 w) = 0) ∨ ((ff_in x2 0 7 w) = 0)) → ZV Γ w 22 [(0, ar (D.x + 1)), (1, ai x1), (2, ai x2)] [] := by
    intro c34
    have h := h.2 c34
    refine zv_iload_n G rfl rfl dX1_kind_22 ?_
    by_cases c13 : x2 = 0
    · have h := h.1 c13
      refine zv_tswI (tgt := 68) G dX1_kind_23 0 rx2 (by omega) (by omega) rfl (by decide) ?_
      refine zv_aload_n G rfl rfl dX1_kind_68 ?_
      refine zt_get (k := 13) (v := ar (D.ad 13 + 1)) G (by decide) q2168 rfl dX1_kind_69 ?_
      refine zv_iload_n G rfl rfl dX1_kind_72 ?_
      have o12 := h.1
      have h := h.2
      refine zt_iald (f := 13) G (by decide) rfl rx1 o12.1 o12.2 dX1_kind_73 ?_
      exact zv_iret (ty := .int) (hw.a 13 _ (by decide)) G M rfl dX1_kind_74 h
    by_cases c19 : x2 = 1
    · have h := h.2.1 c19
      refine zv_tswI (tgt := 75) G dX1_kind_23 1 rx2 (by omega) (by omega) rfl (by decide) ?_
      refine zv_aload_n G rfl rfl dX1_kind_75 ?_
      refine zv_iload_n G rfl rfl dX1_kind_76 ?_
      refine zt_callI (as := [ai x1]) G M (S 16 _ rfl _ _ _ h (zoks_cons rx1 zoks_nil)) q2628 q2630 qs77 q2631 md_isSealed rfl (by decide) (Nat.le_of_ble_eq_true rfl) dX1_kind_77 (fun v15 u14 rv15 h => ?_)
      refine zt_tok G (fun hu14 => ?_)
      have kj17 : ∀ v16 : Int, v16 = (if ¬ (v15 = 0) then 1 else 0) → ZV Γ u14 88 [(0, ar (D.x + 1)), (1, ai x1), (2, ai x2)] (ai v16 :: []) := by
        intro v16 ev16
        have h := h v16 ev16
        have rv16 : zr v16 := by rw [ev16]; exact (zr_ite (zr_k 1 (by decide) (by decide)) (zr_k 0 (by decide) (by decide)))
        have bv16 : v16 = 0 ∨ v16 = 1 := by rw [ev16]; exact (zb_ite (Or.inr rfl) (Or.inl rfl))
        exact zv_iret (ty := .int) rv16 G M rfl dX1_kind_88 h
      refine zv_if_eq (tgt := 87) G rv15 (by decide) dX1_kind_80 (fun c18 => ?_) (fun c18 => ?_)
      · refine zv_iconst (a := 0) G (by decide) dX1_kind_87 ?_
        exact kj17 _ (if_neg (fun q => q c18)).symm
      · refine zv_iconst (a := 1) G (by decide) dX1_kind_83 ?_
        refine zv_goto (tgt := 88) G (by decide) dX1_kind_84 ?_
        exact kj17 _ (if_pos c18).symm
    by_cases c21 : x2 = 2
    · have h := h.2.2.1 c21
      refine zv_tswI (tgt := 89) G dX1_kind_23 2 rx2 (by omega) (by omega) rfl (by decide) ?_
      refine zv_aload_n G rfl rfl dX1_kind_89 ?_
      refine zt_get (k := 14) (v := ar (D.ad 14 + 1)) G (by decide) q2169 rfl dX1_kind_90 ?_
      refine zv_iload_n G rfl rfl dX1_kind_93 ?_
      have o20 := h.1
      have h := h.2
      refine zt_iald (f := 14) G (by decide) rfl rx1 o20.1 o20.2 dX1_kind_94 ?_
      exact zv_iret (ty := .int) (hw.a 14 _ (by decide)) G M rfl dX1_kind_95 h
    by_cases c26 : x2 = 7
    · have h := h.2.2.2.1 c26
      refine zv_tswI (tgt := 96) G dX1_kind_23 7 rx2 (by omega) (by omega) rfl (by decide) ?_
      refine zv_aload_n G rfl rfl dX1_kind_96 ?_
      refine zt_get (k := 41) (v := ai (tI w 41)) G (by decide) q2196 rfl dX1_kind_97 ?_
      have kj23 : ∀ v22 : Int, v22 = (if ¬ ((tI w 41) ≤ 0) ∧ (¬ (x1 < (tA w 79 0))) then 1 else 0) → ZV Γ w 118 [(0, ar (D.x + 1)), (1, ai x1), (2, ai x2)] (ai v22 :: []) := by
        intro v22 ev22
        have h := h v22 ev22
        have rv22 : zr v22 := by rw [ev22]; exact (zr_ite (zr_k 1 (by decide) (by decide)) (zr_k 0 (by decide) (by decide)))
        have bv22 : v22 = 0 ∨ v22 = 1 := by rw [ev22]; exact (zb_ite (Or.inr rfl) (Or.inl rfl))
        exact zv_iret (ty := .int) rv22 G M rfl dX1_kind_118 h
      refine zv_if_le (tgt := 117) G (hw.i 41 (by decide)) (by decide) dX1_kind_100 (fun c24 => ?_) (fun c24 => ?_)
      · refine zv_iconst (a := 0) G (by decide) dX1_kind_117 ?_
        exact kj23 _ (if_neg (fun q => q.1 c24)).symm
      · refine zv_iload_n G rfl rfl dX1_kind_103 ?_
        refine zv_aload_n G rfl rfl dX1_kind_104 ?_
        refine zt_get (k := 79) (v := ar (D.ad 79 + 1)) G (by decide) q2234 rfl dX1_kind_105 ?_
        refine zv_iconst (a := 0) G (by decide) dX1_kind_108 ?_
        refine zt_iald (f := 79) G (by decide) rfl (zr_k 0 (by decide) (by decide)) (by omega) (by decide) dX1_kind_109 ?_
        refine zv_icmp_lt (tgt := 117) G rx1 (hw.a 79 _ (by decide)) (by decide) dX1_kind_110 (fun c25 => ?_) (fun c25 => ?_)
        · refine zv_iconst (a := 0) G (by decide) dX1_kind_117 ?_
          exact kj23 _ (if_neg (fun q => (fun q => q c25) q.2)).symm
        · refine zv_iconst (a := 1) G (by decide) dX1_kind_113 ?_
          refine zv_goto (tgt := 118) G (by decide) dX1_kind_114 ?_
          exact kj23 _ (if_pos ⟨c24, c25⟩).symm
    have h := h.2.2.2.2 c13 c19 c21 c26
    have kd27 : ZV Γ w 119 [(0, ar (D.x + 1)), (1, ai x1), (2, ai x2)] [] := by
      exact zv_pick [0, 1, 2] rfl (cpT_kind_119 G M S hk rx1 rx2 h)
    by_cases c28 : x2 = 3
    · exact zv_tswI (tgt := 119) G dX1_kind_23 3 rx2 (by omega) (by omega) rfl (by decide) kd27
    by_cases c29 : x2 = 4
    · exact zv_tswI (tgt := 119) G dX1_kind_23 4 rx2 (by omega) (by omega) rfl (by decide) kd27
    by_cases c30 : x2 = 5
    · exact zv_tswI (tgt := 119) G dX1_kind_23 5 rx2 (by omega) (by omega) rfl (by decide) kd27
    by_cases c31 : x2 = 6
    · exact zv_tswI (tgt := 119) G dX1_kind_23 6 rx2 (by omega) (by omega) rfl (by decide) kd27
    exact zv_tswO (tgt := 119) G dX1_kind_23 rx2 (by omega) (by decide) kd27
  refine zv_if_eq (tgt := 20) G (fr_isKind hw rx1) (by decide) dX1_kind_5 (fun c35 => ?_) (fun c35 => ?_)
  · exact kt32 (Or.inl c35)
  · refine zv_iload_n G rfl rfl dX1_kind_8 ?_
    refine zv_i2l G rx2 dX1_kind_9 ?_
    refine zv_lconst (a := 0) G (by decide) dX1_kind_10 ?_
    refine zv_ldc2 (a := 7) G (G.kn.2.1 _ q2645 _) (by decide) dX1_kind_11 ?_
    refine zt_callSI (as := [al x2, al 0, al 7]) G M (S 1 _ rfl _ _ _ (fu_in (by omega)) (zoks_cons (zrl_i rx2) (zoks_cons (zrl_k 0 (by decide) (by decide)) (zoks_cons (zrl_k 7 (by decide) (by decide)) zoks_nil)))) q2552 q2553 q2554 md_in rfl (by decide) (Nat.le_of_ble_eq_true rfl) dX1_kind_14 (fun v5 u6 _ q => ?_)
    obtain ⟨ev5, eu6⟩ := q
    rw [eu6, ev5]
    refine zv_if_ne (tgt := 22) G (fr_in hw (zrl_i rx2) (zrl_k 0 (by decide) (by decide)) (zrl_k 7 (by decide) (by decide))) (by decide) dX1_kind_17 (fun c36 => ?_) (fun c36 => ?_)
    · exact kf33 (fun q => q.elim c35 c36)
    · exact kt32 (Or.inr c36)
set_option maxHeartbeats 4000000 in
set_option maxRecDepth 100000 in
theorem cpT_kindNamed_0 {Γ : ZG TW} {D : TD} {B0 d : Nat} {lim : Nat × Nat} (G : ZOk Γ cX1_kindNamed RX1 3 (KnT D B0) (ZT D B0)) (M : ZRm Γ (d + 1) lim (some .int) "kindNamed" []) (S : SdT d D B0 Γ.l lim) (hk : 0 ≤ d) {x1 : Int} {w : TW} (rx1 : zrl x1) (h : pT_kindNamed_0 (wpT d) (fun v w => Γ.Q (.inl (some (ai v))) w) x1 w) : ZV Γ w 0 [(0, ar (D.x + 1)), (1, al x1)] [] := by
  refine zt_tok G (fun hw => ?_)
  refine zv_aload_n G rfl rfl dX1_kindNamed_0 ?_
  refine zv_lload_n G rfl rfl dX1_kindNamed_1 ?_
  refine zt_callI (as := [al x1]) G M (S 14 _ rfl _ _ _ h (zoks_cons rx1 zoks_nil)) q2620 q2622 qs75 q2623 md_kindOf rfl (by decide) (Nat.le_of_ble_eq_true rfl) dX1_kindNamed_2 (fun v2 u1 rv2 h => ?_)
  refine zt_tok G (fun hu1 => ?_)
  exact zv_iret (ty := .int) rv2 G M rfl dX1_kindNamed_5 h
set_option maxHeartbeats 4000000 in
set_option maxRecDepth 100000 in
theorem cpT_depth_67 {Γ : ZG TW} {D : TD} {B0 d : Nat} {lim : Nat × Nat} (G : ZOk Γ cX1_depth RX1 6 (KnT D B0) (ZT D B0)) (M : ZRm Γ (d + 1) lim (some .int) "depth" []) (S : SdT d D B0 Γ.l lim) (hk : 0 ≤ d) {x2 : Int} {w : TW} (rx2 : zr x2) (h : pT_depth_67 (wpT d) (fun v w => Γ.Q (.inl (some (ai v))) w) x2 w) : ZV Γ w 67 [(2, ai x2)] [] := by
  refine zt_tok G (fun hw => ?_)
  refine zv_iload_n G rfl rfl dX1_depth_67 ?_
  exact zv_iret (ty := .int) rx2 G M rfl dX1_depth_68 h
set_option maxHeartbeats 4000000 in
set_option maxRecDepth 100000 in
theorem cpT_depth_48 {Γ : ZG TW} {D : TD} {B0 d : Nat} {lim : Nat × Nat} (G : ZOk Γ cX1_depth RX1 6 (KnT D B0) (ZT D B0)) (M : ZRm Γ (d + 1) lim (some .int) "depth" []) (S : SdT d D B0 Γ.l lim) (hk : 0 ≤ d) {I4 : Int → Int → TW → Prop} {x1 : Int} {x2 : Int} {x3 : Int} {x4 : Int} {w : TW} (hI4 : ∀ (x2 : Int) (x3 : Int) (w : TW), I4 x2 x3 w → zr x2 → zr x3 → ZV Γ w 4 [(0, ar (D.x + 1)), (1, ai x1), (2, ai x2), (3, ai x3)] []) (rx1 : zr x1) (rx2 : zr x2) (rx3 : zr x3) (rx4 : zr x4) (h : pT_depth_48 (wpT d) (fun v w => Γ.Q (.inl (some (ai v))) w) I4 x1 x2 x3 x4 w) : ZV Γ w 48 [(0, ar (D.x + 1)), (1, ai x1), (2, ai x2), (3, ai x3), (4, ai x4)] [] := by
  refine zt_tok G (fun hw => ?_)
  refine zv_iload G rfl dX1_depth_48 ?_
  refine zv_iload_n G rfl rfl dX1_depth_50 ?_
  have kj7 : ∀ v5 : Int, v5 = (if ¬ (x4 ≤ x2) then x4 else x2) → ZV Γ w 60 [(0, ar (D.x + 1)), (1, ai x1), (2, ai x2), (3, ai x3), (4, ai x4)] (ai v5 :: []) := by
    intro v5 ev5
    have h := h v5 ev5
    have rv5 : zr v5 := by rw [ev5]; exact (zr_ite rx4 rx2)
    refine zv_istore_n G rfl (by decide) rfl dX1_depth_60 ?_
    refine zv_iincN G rfl (by decide) dX1_depth_61 (fun x3_6 ex3_6 => ?_)
    have h := h x3_6 ex3_6
    have rx3_6 : zr x3_6 := by rw [ex3_6]; exact w32_r _
    refine zv_goto (tgt := 4) G (by decide) dX1_depth_64 ?_
    exact zv_pick [0, 1, 2, 3] rfl (hI4 _ _ _ h rv5 rx3_6)
  refine zv_icmp_le (tgt := 59) G rx4 rx2 (by decide) dX1_depth_51 (fun c8 => ?_) (fun c8 => ?_)
  · refine zv_iload_n G rfl rfl dX1_depth_59 ?_
    exact kj7 _ (if_neg (fun q => q c8)).symm
  · refine zv_iload G rfl dX1_depth_54 ?_
    refine zv_goto (tgt := 60) G (by decide) dX1_depth_56 ?_
    exact kj7 _ (if_pos c8).symm
set_option maxHeartbeats 4000000 in
set_option maxRecDepth 100000 in
theorem cpT_depth_26 {Γ : ZG TW} {D : TD} {B0 d : Nat} {lim : Nat × Nat} (G : ZOk Γ cX1_depth RX1 6 (KnT D B0) (ZT D B0)) (M : ZRm Γ (d + 1) lim (some .int) "depth" []) (S : SdT d D B0 Γ.l lim) (hk : 0 ≤ d) {I4 : Int → Int → TW → Prop} {x1 : Int} {x2 : Int} {x3 : Int} {x4 : Int} {x5 : Int} {w : TW} (hI4 : ∀ (x2 : Int) (x3 : Int) (w : TW), I4 x2 x3 w → zr x2 → zr x3 → ZV Γ w 4 [(0, ar (D.x + 1)), (1, ai x1), (2, ai x2), (3, ai x3)] []) (rx1 : zr x1) (rx2 : zr x2) (rx3 : zr x3) (rx4 : zr x4) (rx5 : zr x5) (h : pT_depth_26 (wpT d) (fun v w => Γ.Q (.inl (some (ai v))) w) I4 x1 x2 x3 x4 x5 w) : ZV Γ w 26 [(0, ar (D.x + 1)), (1, ai x1), (2, ai x2), (3, ai x3), (4, ai x4), (5, ai x5)] [] := by
  refine h (fun x4 x5 w => zr x4 → zr x5 → ZV Γ w 26 [(0, ar (D.x + 1)), (1, ai x1), (2, ai x2), (3, ai x3), (4, ai x4), (5, ai x5)] []) ?_ rx4 rx5
  clear h
  intro x4 x5 w h rx4 rx5
  have hI26 : ∀ (x4 : Int) (x5 : Int) (w : TW), (fun x4 x5 w => zr x4 → zr x5 → ZV Γ w 26 [(0, ar (D.x + 1)), (1, ai x1), (2, ai x2), (3, ai x3), (4, ai x4), (5, ai x5)] []) x4 x5 w → zr x4 → zr x5 → ZV Γ w 26 [(0, ar (D.x + 1)), (1, ai x1), (2, ai x2), (3, ai x3), (4, ai x4), (5, ai x5)] [] := fun _ _ _ z => z
  refine zt_tok G (fun hw => ?_)
  refine zv_iload G rfl dX1_depth_26 ?_
  refine zv_bipush (a := (-4)) G (by decide) dX1_depth_28 ?_
  refine zv_icmp_eq (tgt := 48) G rx5 (zr_k (-4) (by decide) (by decide)) (by decide) dX1_depth_30 (fun c4 => ?_) (fun c4 => ?_)
  · have h := h.1 c4
    exact zv_pick [0, 1, 2, 3, 4] rfl (cpT_depth_48 G M S hk hI4 rx1 rx2 rx3 rx4 h)
  · have h := h.2 c4
    refine zv_iincN G rfl (by decide) dX1_depth_33 (fun x4_9 ex4_9 => ?_)
    have h := h x4_9 ex4_9
    have rx4_9 : zr x4_9 := by rw [ex4_9]; exact w32_r _
    refine zv_aload_n G rfl rfl dX1_depth_36 ?_
    refine zt_get (k := 85) (v := ar (D.ad 85 + 1)) G (by decide) q2240 rfl dX1_depth_37 ?_
    refine zv_iload G rfl dX1_depth_40 ?_
    have o10 := h.1
    have h := h.2
    refine zt_iald (f := 85) G (by decide) rfl rx5 o10.1 o10.2 dX1_depth_42 ?_
    refine zv_istoreN G (by decide) dX1_depth_43 (fun x5_11 ex5_11 => ?_)
    have h := h x5_11 ex5_11
    have rx5_11 : zr x5_11 := by rw [ex5_11]; exact (hw.a 85 _ (by decide))
    refine zv_goto (tgt := 26) G (by decide) dX1_depth_45 ?_
    exact zv_pick [0, 1, 2, 3, 4, 5] rfl (hI26 _ _ _ h rx4_9 rx5_11)
set_option maxHeartbeats 4000000 in
set_option maxRecDepth 100000 in
theorem cpT_depth_4 {Γ : ZG TW} {D : TD} {B0 d : Nat} {lim : Nat × Nat} (G : ZOk Γ cX1_depth RX1 6 (KnT D B0) (ZT D B0)) (M : ZRm Γ (d + 1) lim (some .int) "depth" []) (S : SdT d D B0 Γ.l lim) (hk : 0 ≤ d) {x1 : Int} {x2 : Int} {x3 : Int} {w : TW} (rx1 : zr x1) (rx2 : zr x2) (rx3 : zr x3) (h : pT_depth_4 (wpT d) (fun v w => Γ.Q (.inl (some (ai v))) w) x1 x2 x3 w) : ZV Γ w 4 [(0, ar (D.x + 1)), (1, ai x1), (2, ai x2), (3, ai x3)] [] := by
  refine h (fun x2 x3 w => zr x2 → zr x3 → ZV Γ w 4 [(0, ar (D.x + 1)), (1, ai x1), (2, ai x2), (3, ai x3)] []) ?_ rx2 rx3
  clear h
  intro x2 x3 w h rx2 rx3
  have hI4 : ∀ (x2 : Int) (x3 : Int) (w : TW), (fun x2 x3 w => zr x2 → zr x3 → ZV Γ w 4 [(0, ar (D.x + 1)), (1, ai x1), (2, ai x2), (3, ai x3)] []) x2 x3 w → zr x2 → zr x3 → ZV Γ w 4 [(0, ar (D.x + 1)), (1, ai x1), (2, ai x2), (3, ai x3)] [] := fun _ _ _ z => z
  refine zt_tok G (fun hw => ?_)
  refine zv_iload_n G rfl rfl dX1_depth_4 ?_
  refine zv_aload_n G rfl rfl dX1_depth_5 ?_
  refine zt_get (k := 77) (v := ar (D.ad 77 + 1)) G (by decide) q2232 rfl dX1_depth_6 ?_
  refine zv_iload_n G rfl rfl dX1_depth_9 ?_
  have o1 := h.1
  have h := h.2
  refine zt_iald (f := 77) G (by decide) rfl rx1 o1.1 o1.2 dX1_depth_10 ?_
  refine zv_icmp_ge (tgt := 67) G rx3 (hw.a 77 _ (by decide)) (by decide) dX1_depth_11 (fun c2 => ?_) (fun c2 => ?_)
  · have h := h.1 c2
    exact zv_pick [2] rfl (cpT_depth_67 G M S hk rx2 h)
  · have h := h.2 c2
    refine zv_iconst (a := 0) G (by decide) dX1_depth_14 ?_
    refine zv_istore G (by decide) rfl dX1_depth_15 ?_
    refine zv_sipush (a := 300) G (by decide) dX1_depth_17 ?_
    refine zv_iload_n G rfl rfl dX1_depth_20 ?_
    refine zv_imul G dX1_depth_21 ?_
    refine zv_iload_n G rfl rfl dX1_depth_22 ?_
    refine zv_iadd G dX1_depth_23 ?_
    refine zv_istoreN G (by decide) dX1_depth_24 (fun x5_3 ex5_3 => ?_)
    have h := h x5_3 ex5_3
    have rx5_3 : zr x5_3 := by rw [ex5_3]; exact (w32_r _)
    exact zv_pick [0, 1, 2, 3, 4, 5] rfl (cpT_depth_26 G M S hk hI4 rx1 rx2 rx3 (zr_k 0 (by decide) (by decide)) rx5_3 h)
set_option maxHeartbeats 4000000 in
set_option maxRecDepth 100000 in
theorem cpT_depth_0 {Γ : ZG TW} {D : TD} {B0 d : Nat} {lim : Nat × Nat} (G : ZOk Γ cX1_depth RX1 6 (KnT D B0) (ZT D B0)) (M : ZRm Γ (d + 1) lim (some .int) "depth" []) (S : SdT d D B0 Γ.l lim) (hk : 0 ≤ d) {x1 : Int} {w : TW} (rx1 : zr x1) (h : pT_depth_0 (wpT d) (fun v w => Γ.Q (.inl (some (ai v))) w) x1 w) : ZV Γ w 0 [(0, ar (D.x + 1)), (1, ai x1)] [] := by
  refine zt_tok G (fun hw => ?_)
  refine zv_iconst (a := 0) G (by decide) dX1_depth_0 ?_
  refine zv_istore_n G rfl (by decide) rfl dX1_depth_1 ?_
  refine zv_iconst (a := 0) G (by decide) dX1_depth_2 ?_
  refine zv_istore_n G rfl (by decide) rfl dX1_depth_3 ?_
  exact zv_pick [0, 1, 2, 3] rfl (cpT_depth_4 G M S hk rx1 (zr_k 0 (by decide) (by decide)) (zr_k 0 (by decide) (by decide)) h)
set_option maxHeartbeats 4000000 in
set_option maxRecDepth 100000 in
theorem cpT_function_20 {Γ : ZG TW} {D : TD} {B0 d : Nat} {lim : Nat × Nat} (G : ZOk Γ cX1_function RX1 3 (KnT D B0) (ZT D B0)) (M : ZRm Γ (d + 1) lim (some .int) "function" []) (S : SdT d D B0 Γ.l lim) (hk : 2 ≤ d) {w : TW} (h : pT_function_20 (wpT d) (fun v w => Γ.Q (.inl (some (ai v))) w) w) : ZV Γ w 20 [] [] := by
  refine zt_tok G (fun hw => ?_)
  refine zv_iconst (a := (-1)) G (by decide) dX1_function_20 ?_
  exact zv_iret (ty := .int) (zr_k (-1) (by decide) (by decide)) G M rfl dX1_function_21 h
set_option maxHeartbeats 4000000 in
set_option maxRecDepth 100000 in
theorem cpT_function_0 {Γ : ZG TW} {D : TD} {B0 d : Nat} {lim : Nat × Nat} (G : ZOk Γ cX1_function RX1 3 (KnT D B0) (ZT D B0)) (M : ZRm Γ (d + 1) lim (some .int) "function" []) (S : SdT d D B0 Γ.l lim) (hk : 2 ≤ d) {x1 : Int} {x2 : Int} {w : TW} (rx1 : zr x1) (rx2 : zr x2) (h : pT_function_0 (wpT d) (fun v w => Γ.Q (.inl (some (ai v))) w) x1 x2 w) : ZV Γ w 0 [(0, ar (D.x + 1)), (1, ai x1), (2, ai x2)] [] := by
  refine zt_tok G (fun hw => ?_)
  refine zv_aload_n G rfl rfl dX1_function_0 ?_
  refine zv_iload_n G rfl rfl dX1_function_1 ?_
  refine zt_callI (as := [ai x1]) G M (S 67 _ rfl _ _ _ (fu_isFunction (by omega)) (zoks_cons rx1 zoks_nil)) q2836 q2838 qs125 q2839 md_isFunction rfl (by decide) (Nat.le_of_ble_eq_true rfl) dX1_function_2 (fun v1 u2 _ q => ?_)
  obtain ⟨ev1, eu2⟩ := q
  rw [eu2, ev1]
  have kt25 : ((ff_isFunction x1 w) = 0) ∨ ((ff_in x2 0 8 w) = 0) → ZV Γ w 20 [(0, ar (D.x + 1)), (1, ai x1), (2, ai x2)] [] := by
    intro c27
    have h := h.1 c27
    exact zv_pick [] rfl (cpT_function_20 G M S hk h)
  have kf26 : ¬ (((ff_isFunction x1 w) = 0) ∨ ((ff_in x2 0 8 w) = 0)) → ZV Γ w 22 [(0, ar (D.x + 1)), (1, ai x1), (2, ai x2)] [] := by
    intro c27
    have h := h.2 c27
    refine zv_iload_n G rfl rfl dX1_function_22 ?_
    by_cases c13 : x2 = 0
    · have h := h.1 c13
      refine zv_tswI (tgt := 60) G dX1_function_23 0 rx2 (by omega) (by omega) rfl (by decide) ?_
      refine zv_aload_n G rfl rfl dX1_function_60 ?_
      refine zt_get (k := 43) (v := ar (D.ad 43 + 1)) G (by decide) q2198 rfl dX1_function_61 ?_
      refine zv_iload_n G rfl rfl dX1_function_64 ?_
      have o12 := h.1
      have h := h.2
      refine zt_iald (f := 43) G (by decide) rfl rx1 o12.1 o12.2 dX1_function_65 ?_
      exact zv_iret (ty := .int) (hw.a 43 _ (by decide)) G M rfl dX1_function_66 h
    by_cases c15 : x2 = 1
    · have h := h.2.1 c15
      refine zv_tswI (tgt := 67) G dX1_function_23 1 rx2 (by omega) (by omega) rfl (by decide) ?_
      refine zv_aload_n G rfl rfl dX1_function_67 ?_
      refine zt_get (k := 45) (v := ar (D.ad 45 + 1)) G (by decide) q2200 rfl dX1_function_68 ?_
      refine zv_iload_n G rfl rfl dX1_function_71 ?_
      have o14 := h.1
      have h := h.2
      refine zt_iald (f := 45) G (by decide) rfl rx1 o14.1 o14.2 dX1_function_72 ?_
      exact zv_iret (ty := .int) (hw.a 45 _ (by decide)) G M rfl dX1_function_73 h
    by_cases c17 : x2 = 2
    · have h := h.2.2.1 c17
      refine zv_tswI (tgt := 74) G dX1_function_23 2 rx2 (by omega) (by omega) rfl (by decide) ?_
      refine zv_aload_n G rfl rfl dX1_function_74 ?_
      refine zt_get (k := 46) (v := ar (D.ad 46 + 1)) G (by decide) q2201 rfl dX1_function_75 ?_
      refine zv_iload_n G rfl rfl dX1_function_78 ?_
      have o16 := h.1
      have h := h.2
      refine zt_iald (f := 46) G (by decide) rfl rx1 o16.1 o16.2 dX1_function_79 ?_
      exact zv_iret (ty := .int) (hw.a 46 _ (by decide)) G M rfl dX1_function_80 h
    by_cases c19 : x2 = 3
    · have h := h.2.2.2.1 c19
      refine zv_tswI (tgt := 81) G dX1_function_23 3 rx2 (by omega) (by omega) rfl (by decide) ?_
      refine zv_aload_n G rfl rfl dX1_function_81 ?_
      refine zt_get (k := 77) (v := ar (D.ad 77 + 1)) G (by decide) q2232 rfl dX1_function_82 ?_
      refine zv_iload_n G rfl rfl dX1_function_85 ?_
      have o18 := h.1
      have h := h.2
      refine zt_iald (f := 77) G (by decide) rfl rx1 o18.1 o18.2 dX1_function_86 ?_
      exact zv_iret (ty := .int) (hw.a 77 _ (by decide)) G M rfl dX1_function_87 h
    by_cases c21 : x2 = 4
    · have h := h.2.2.2.2.1 c21
      refine zv_tswI (tgt := 88) G dX1_function_23 4 rx2 (by omega) (by omega) rfl (by decide) ?_
      refine zv_aload_n G rfl rfl dX1_function_88 ?_
      refine zt_get (k := 78) (v := ar (D.ad 78 + 1)) G (by decide) q2233 rfl dX1_function_89 ?_
      refine zv_iload_n G rfl rfl dX1_function_92 ?_
      have o20 := h.1
      have h := h.2
      refine zt_iald (f := 78) G (by decide) rfl rx1 o20.1 o20.2 dX1_function_93 ?_
      exact zv_iret (ty := .int) (hw.a 78 _ (by decide)) G M rfl dX1_function_94 h
    by_cases c24 : x2 = 5
    · have h := h.2.2.2.2.2.1 c24
      refine zv_tswI (tgt := 95) G dX1_function_23 5 rx2 (by omega) (by omega) rfl (by decide) ?_
      refine zv_aload_n G rfl rfl dX1_function_95 ?_
      refine zv_iload_n G rfl rfl dX1_function_96 ?_
      refine zt_callI (as := [ai x1]) G M (S 73 _ rfl _ _ _ h (zoks_cons rx1 zoks_nil)) q2860 q2862 qs127 q2863 md_depth rfl (by decide) (Nat.le_of_ble_eq_true rfl) dX1_function_97 (fun v23 u22 rv23 h => ?_)
      refine zt_tok G (fun hu22 => ?_)
      exact zv_iret (ty := .int) rv23 G M rfl dX1_function_100 h
    have h := h.2.2.2.2.2.2 c13 c15 c17 c19 c21 c24
    refine zv_tswO (tgt := 101) G dX1_function_23 rx2 (by omega) (by decide) ?_
    refine zv_iload_n G rfl rfl dX1_function_101 ?_
    refine zv_bipush (a := 6) G (by decide) dX1_function_102 ?_
    refine zv_isub G dX1_function_104 ?_
    refine zv_aload_n G rfl rfl dX1_function_105 ?_
    refine zt_get (k := 43) (v := ar (D.ad 43 + 1)) G (by decide) q2198 rfl dX1_function_106 ?_
    refine zv_iload_n G rfl rfl dX1_function_109 ?_
    have o7 := h.1
    have h := h.2
    refine zt_iald (f := 43) G (by decide) rfl rx1 o7.1 o7.2 dX1_function_110 ?_
    have o9 := h.1
    have h := h.2
    have kj10 : ∀ v8 : Int, v8 = (if ¬ ((tA w 43 x1) ≤ (w32 (x2 - 6))) then tA w 44 (w32 ((w32 ((w32 (3 * x1)) + x2)) - 6)) else (-4)) → ZV Γ w 132 [(0, ar (D.x + 1)), (1, ai x1), (2, ai x2)] (ai v8 :: []) := by
      intro v8 ev8
      have h := h v8 ev8
      have rv8 : zr v8 := by rw [ev8]; exact (zr_ite (hw.a 44 _ (by decide)) (zr_k (-4) (by decide) (by decide)))
      exact zv_iret (ty := .int) rv8 G M rfl dX1_function_132 h
    refine zv_icmp_ge (tgt := 130) G (w32_r _) (hw.a 43 _ (by decide)) (by decide) dX1_function_111 (fun c11 => ?_) (fun c11 => ?_)
    · refine zv_bipush (a := (-4)) G (by decide) dX1_function_130 ?_
      exact kj10 _ (if_neg (fun q => q c11)).symm
    · refine zv_aload_n G rfl rfl dX1_function_114 ?_
      refine zt_get (k := 44) (v := ar (D.ad 44 + 1)) G (by decide) q2199 rfl dX1_function_115 ?_
      refine zv_iconst (a := 3) G (by decide) dX1_function_118 ?_
      refine zv_iload_n G rfl rfl dX1_function_119 ?_
      refine zv_imul G dX1_function_120 ?_
      refine zv_iload_n G rfl rfl dX1_function_121 ?_
      refine zv_iadd G dX1_function_122 ?_
      refine zv_bipush (a := 6) G (by decide) dX1_function_123 ?_
      refine zv_isub G dX1_function_125 ?_
      refine zt_iald (f := 44) G (by decide) rfl (w32_r _) (o9 c11).1 (o9 c11).2 dX1_function_126 ?_
      refine zv_goto (tgt := 132) G (by decide) dX1_function_127 ?_
      exact kj10 _ (if_pos c11).symm
  refine zv_if_eq (tgt := 20) G (fr_isFunction hw rx1) (by decide) dX1_function_5 (fun c28 => ?_) (fun c28 => ?_)
  · exact kt25 (Or.inl c28)
  · refine zv_iload_n G rfl rfl dX1_function_8 ?_
    refine zv_i2l G rx2 dX1_function_9 ?_
    refine zv_lconst (a := 0) G (by decide) dX1_function_10 ?_
    refine zv_ldc2 (a := 8) G (G.kn.2.1 _ q2551 _) (by decide) dX1_function_11 ?_
    refine zt_callSI (as := [al x2, al 0, al 8]) G M (S 1 _ rfl _ _ _ (fu_in (by omega)) (zoks_cons (zrl_i rx2) (zoks_cons (zrl_k 0 (by decide) (by decide)) (zoks_cons (zrl_k 8 (by decide) (by decide)) zoks_nil)))) q2552 q2553 q2554 md_in rfl (by decide) (Nat.le_of_ble_eq_true rfl) dX1_function_14 (fun v5 u6 _ q => ?_)
    obtain ⟨ev5, eu6⟩ := q
    rw [eu6, ev5]
    refine zv_if_ne (tgt := 22) G (fr_in hw (zrl_i rx2) (zrl_k 0 (by decide) (by decide)) (zrl_k 8 (by decide) (by decide))) (by decide) dX1_function_17 (fun c29 => ?_) (fun c29 => ?_)
    · exact kf26 (fun q => q.elim c28 c29)
    · exact kt25 (Or.inr c29)
set_option maxHeartbeats 4000000 in
set_option maxRecDepth 100000 in
theorem cpT_node_38 {Γ : ZG TW} {D : TD} {B0 d : Nat} {lim : Nat × Nat} (G : ZOk Γ cX1_node RX1 7 (KnT D B0) (ZT D B0)) (M : ZRm Γ (d + 1) lim (some .int) "node" []) (S : SdT d D B0 Γ.l lim) (hk : 2 ≤ d) {w : TW} (h : pT_node_38 (wpT d) (fun v w => Γ.Q (.inl (some (ai v))) w) w) : ZV Γ w 38 [] [] := by
  refine zt_tok G (fun hw => ?_)
  refine zv_iconst (a := (-1)) G (by decide) dX1_node_38 ?_
  exact zv_iret (ty := .int) (zr_k (-1) (by decide) (by decide)) G M rfl dX1_node_39 h
set_option maxHeartbeats 4000000 in
set_option maxRecDepth 100000 in
theorem cpT_node_155 {Γ : ZG TW} {D : TD} {B0 d : Nat} {lim : Nat × Nat} (G : ZOk Γ cX1_node RX1 7 (KnT D B0) (ZT D B0)) (M : ZRm Γ (d + 1) lim (some .int) "node" []) (S : SdT d D B0 Γ.l lim) (hk : 2 ≤ d) {x4 : Int} {x5 : Int} {w : TW} (rx4 : zr x4) (rx5 : zr x5) (h : pT_node_155 (wpT d) (fun v w => Γ.Q (.inl (some (ai v))) w) x4 x5 w) : ZV Γ w 155 [(0, ar (D.x + 1)), (4, ai x4), (5, ai x5)] [] := by
  refine zt_tok G (fun hw => ?_)
  refine zv_aload_n G rfl rfl dX1_node_155 ?_
  refine zt_get (k := 83) (v := ar (D.ad 83 + 1)) G (by decide) q2238 rfl dX1_node_156 ?_
  refine zv_iload G rfl dX1_node_159 ?_
  have o31 := h.1
  have h := h.2
  refine zt_iald (f := 83) G (by decide) rfl rx4 o31.1 o31.2 dX1_node_161 ?_
  refine zv_bipush (a := (-4)) G (by decide) dX1_node_162 ?_
  have kj33 : ∀ v32 : Int, v32 = (if (tA w 83 x4) = (-4) then (-4) else x5) → ZV Γ w 174 [(0, ar (D.x + 1)), (4, ai x4), (5, ai x5)] (ai v32 :: []) := by
    intro v32 ev32
    have h := h v32 ev32
    have rv32 : zr v32 := by rw [ev32]; exact (zr_ite (zr_k (-4) (by decide) (by decide)) rx5)
    exact zv_iret (ty := .int) rv32 G M rfl dX1_node_174 h
  refine zv_icmp_ne (tgt := 172) G (hw.a 83 _ (by decide)) (zr_k (-4) (by decide) (by decide)) (by decide) dX1_node_164 (fun c34 => ?_) (fun c34 => ?_)
  · refine zv_iload G rfl dX1_node_172 ?_
    exact kj33 _ (if_neg c34).symm
  · refine zv_bipush (a := (-4)) G (by decide) dX1_node_167 ?_
    refine zv_goto (tgt := 174) G (by decide) dX1_node_169 ?_
    exact kj33 _ (if_pos c34).symm
set_option maxHeartbeats 4000000 in
set_option maxRecDepth 100000 in
theorem cpT_node_138 {Γ : ZG TW} {D : TD} {B0 d : Nat} {lim : Nat × Nat} (G : ZOk Γ cX1_node RX1 7 (KnT D B0) (ZT D B0)) (M : ZRm Γ (d + 1) lim (some .int) "node" []) (S : SdT d D B0 Γ.l lim) (hk : 2 ≤ d) {x4 : Int} {x5 : Int} {x6 : Int} {w : TW} (rx4 : zr x4) (rx5 : zr x5) (rx6 : zr x6) (h : pT_node_138 (wpT d) (fun v w => Γ.Q (.inl (some (ai v))) w) x4 x5 x6 w) : ZV Γ w 138 [(0, ar (D.x + 1)), (4, ai x4), (5, ai x5), (6, ai x6)] [] := by
  refine h (fun x5 x6 w => zr x5 → zr x6 → ZV Γ w 138 [(0, ar (D.x + 1)), (4, ai x4), (5, ai x5), (6, ai x6)] []) ?_ rx5 rx6
  clear h
  intro x5 x6 w h rx5 rx6
  have hI138 : ∀ (x5 : Int) (x6 : Int) (w : TW), (fun x5 x6 w => zr x5 → zr x6 → ZV Γ w 138 [(0, ar (D.x + 1)), (4, ai x4), (5, ai x5), (6, ai x6)] []) x5 x6 w → zr x5 → zr x6 → ZV Γ w 138 [(0, ar (D.x + 1)), (4, ai x4), (5, ai x5), (6, ai x6)] [] := fun _ _ _ z => z
  refine zt_tok G (fun hw => ?_)
  refine zv_iload G rfl dX1_node_138 ?_
  refine zv_if_le (tgt := 155) G rx6 (by decide) dX1_node_140 (fun c30 => ?_) (fun c30 => ?_)
  · have h := h.1 c30
    exact zv_pick [0, 4, 5] rfl (cpT_node_155 G M S hk rx4 rx5 h)
  · have h := h.2 c30
    refine zv_iincN G rfl (by decide) dX1_node_143 (fun x5_35 ex5_35 => ?_)
    have h := h x5_35 ex5_35
    have rx5_35 : zr x5_35 := by rw [ex5_35]; exact w32_r _
    refine zv_iload G rfl dX1_node_146 ?_
    refine zv_iconst (a := 3) G (by decide) dX1_node_148 ?_
    refine zv_ishr G dX1_node_149 ?_
    refine zv_istoreN G (by decide) dX1_node_150 (fun x6_36 ex6_36 => ?_)
    have h := h x6_36 ex6_36
    have rx6_36 : zr x6_36 := by rw [ex6_36]; exact (by first | exact i_and_r _ _ | exact i_or_r _ _ | exact i_shl_r _ _ | exact i_shr_r _ _ | exact i_ushr_r _ _ | exact i_b_r _ | exact i_c_r _ | exact i_xor_r _ _ | exact i_div_r _ _ | exact i_rem_r _ _ | exact zr_of _)
    refine zv_goto (tgt := 138) G (by decide) dX1_node_152 ?_
    exact zv_pick [0, 4, 5, 6] rfl (hI138 _ _ _ h rx5_35 rx6_36)
set_option maxHeartbeats 4000000 in
set_option maxRecDepth 100000 in
theorem cpT_node_0 {Γ : ZG TW} {D : TD} {B0 d : Nat} {lim : Nat × Nat} (G : ZOk Γ cX1_node RX1 7 (KnT D B0) (ZT D B0)) (M : ZRm Γ (d + 1) lim (some .int) "node" []) (S : SdT d D B0 Γ.l lim) (hk : 2 ≤ d) {x1 : Int} {x2 : Int} {x3 : Int} {w : TW} (rx1 : zr x1) (rx2 : zr x2) (rx3 : zr x3) (h : pT_node_0 (wpT d) (fun v w => Γ.Q (.inl (some (ai v))) w) x1 x2 x3 w) : ZV Γ w 0 [(0, ar (D.x + 1)), (1, ai x1), (2, ai x2), (3, ai x3)] [] := by
  refine zt_tok G (fun hw => ?_)
  refine zv_aload_n G rfl rfl dX1_node_0 ?_
  refine zv_iload_n G rfl rfl dX1_node_1 ?_
  refine zt_callI (as := [ai x1]) G M (S 67 _ rfl _ _ _ (fu_isFunction (by omega)) (zoks_cons rx1 zoks_nil)) q2836 q2838 qs125 q2839 md_isFunction rfl (by decide) (Nat.le_of_ble_eq_true rfl) dX1_node_2 (fun v1 u2 _ q => ?_)
  obtain ⟨ev1, eu2⟩ := q
  rw [eu2, ev1]
  have o11 := h.1
  have h := h.2
  have kt38 : ((ff_isFunction x1 w) = 0) ∨ (((ff_in x2 0 (w32 ((tA w 77 x1) - 1)) w) = 0) ∨ ((ff_in x3 0 4 w) = 0)) → ZV Γ w 38 [(0, ar (D.x + 1)), (1, ai x1), (2, ai x2), (3, ai x3)] [] := by
    intro c40
    have h := h.1 c40
    exact zv_pick [] rfl (cpT_node_38 G M S hk h)
  have kf39 : ¬ (((ff_isFunction x1 w) = 0) ∨ (((ff_in x2 0 (w32 ((tA w 77 x1) - 1)) w) = 0) ∨ ((ff_in x3 0 4 w) = 0))) → ZV Γ w 40 [(0, ar (D.x + 1)), (1, ai x1), (2, ai x2), (3, ai x3)] [] := by
    intro c40
    have h := h.2 c40
    refine zv_sipush (a := 300) G (by decide) dX1_node_40 ?_
    refine zv_iload_n G rfl rfl dX1_node_43 ?_
    refine zv_imul G dX1_node_44 ?_
    refine zv_iload_n G rfl rfl dX1_node_45 ?_
    refine zv_iadd G dX1_node_46 ?_
    refine zv_istoreN G (by decide) dX1_node_47 (fun x4_12 ex4_12 => ?_)
    have h := h x4_12 ex4_12
    have rx4_12 : zr x4_12 := by rw [ex4_12]; exact (w32_r _)
    refine zv_iload_n G rfl rfl dX1_node_49 ?_
    by_cases c19 : x3 = 0
    · have h := h.1 c19
      refine zv_tswI (tgt := 80) G dX1_node_50 0 rx3 (by omega) (by omega) rfl (by decide) ?_
      refine zv_aload_n G rfl rfl dX1_node_80 ?_
      refine zt_get (k := 80) (v := ar (D.ad 80 + 1)) G (by decide) q2235 rfl dX1_node_81 ?_
      refine zv_iload G rfl dX1_node_84 ?_
      have o18 := h.1
      have h := h.2
      refine zt_iald (f := 80) G (by decide) rfl rx4_12 o18.1 o18.2 dX1_node_86 ?_
      exact zv_iret (ty := .int) (hw.a 80 _ (by decide)) G M rfl dX1_node_87 h
    by_cases c25 : x3 = 1
    · have h := h.2.1 c25
      refine zv_tswI (tgt := 88) G dX1_node_50 1 rx3 (by omega) (by omega) rfl (by decide) ?_
      refine zv_aload_n G rfl rfl dX1_node_88 ?_
      refine zt_get (k := 81) (v := ar (D.ad 81 + 1)) G (by decide) q2236 rfl dX1_node_89 ?_
      refine zv_iload G rfl dX1_node_92 ?_
      have o20 := h.1
      have h := h.2
      refine zt_iald (f := 81) G (by decide) rfl rx4_12 o20.1 o20.2 dX1_node_94 ?_
      refine zv_bipush (a := (-4)) G (by decide) dX1_node_95 ?_
      have o22 := h.1
      have h := h.2
      have kj23 : ∀ v21 : Int, v21 = (if (tA w 81 x4_12) = (-4) then (-4) else i_rem (tA w 81 x4_12) 16) → ZV Γ w 115 [(4, ai x4_12), (0, ar (D.x + 1)), (1, ai x1), (2, ai x2), (3, ai x3)] (ai v21 :: []) := by
        intro v21 ev21
        have h := h v21 ev21
        have rv21 : zr v21 := by rw [ev21]; exact (zr_ite (zr_k (-4) (by decide) (by decide)) (by first | exact i_and_r _ _ | exact i_or_r _ _ | exact i_shl_r _ _ | exact i_shr_r _ _ | exact i_ushr_r _ _ | exact i_b_r _ | exact i_c_r _ | exact i_xor_r _ _ | exact i_div_r _ _ | exact i_rem_r _ _ | exact zr_of _))
        exact zv_iret (ty := .int) rv21 G M rfl dX1_node_115 h
      refine zv_icmp_ne (tgt := 105) G (hw.a 81 _ (by decide)) (zr_k (-4) (by decide) (by decide)) (by decide) dX1_node_97 (fun c24 => ?_) (fun c24 => ?_)
      · refine zv_aload_n G rfl rfl dX1_node_105 ?_
        refine zt_get (k := 81) (v := ar (D.ad 81 + 1)) G (by decide) q2236 rfl dX1_node_106 ?_
        refine zv_iload G rfl dX1_node_109 ?_
        refine zt_iald (f := 81) G (by decide) rfl rx4_12 (o22 c24).1 (o22 c24).2 dX1_node_111 ?_
        refine zv_bipush (a := 16) G (by decide) dX1_node_112 ?_
        refine zv_irem G (zr_k 16 (by decide) (by decide)) (by decide) dX1_node_114 ?_
        exact kj23 _ (if_neg c24).symm
      · refine zv_bipush (a := (-4)) G (by decide) dX1_node_100 ?_
        refine zv_goto (tgt := 115) G (by decide) dX1_node_102 ?_
        exact kj23 _ (if_pos c24).symm
    by_cases c27 : x3 = 2
    · have h := h.2.2.1 c27
      refine zv_tswI (tgt := 116) G dX1_node_50 2 rx3 (by omega) (by omega) rfl (by decide) ?_
      refine zv_aload_n G rfl rfl dX1_node_116 ?_
      refine zt_get (k := 84) (v := ar (D.ad 84 + 1)) G (by decide) q2239 rfl dX1_node_117 ?_
      refine zv_iload G rfl dX1_node_120 ?_
      have o26 := h.1
      have h := h.2
      refine zt_iald (f := 84) G (by decide) rfl rx4_12 o26.1 o26.2 dX1_node_122 ?_
      exact zv_iret (ty := .int) (hw.a 84 _ (by decide)) G M rfl dX1_node_123 h
    by_cases c37 : x3 = 3
    · have h := h.2.2.2.1 c37
      refine zv_tswI (tgt := 124) G dX1_node_50 3 rx3 (by omega) (by omega) rfl (by decide) ?_
      refine zv_iconst (a := 0) G (by decide) dX1_node_124 ?_
      refine zv_istore G (by decide) rfl dX1_node_125 ?_
      refine zv_aload_n G rfl rfl dX1_node_127 ?_
      refine zt_get (k := 83) (v := ar (D.ad 83 + 1)) G (by decide) q2238 rfl dX1_node_128 ?_
      refine zv_iload G rfl dX1_node_131 ?_
      have o28 := h.1
      have h := h.2
      refine zt_iald (f := 83) G (by decide) rfl rx4_12 o28.1 o28.2 dX1_node_133 ?_
      refine zv_iconst (a := 3) G (by decide) dX1_node_134 ?_
      refine zv_ishr G dX1_node_135 ?_
      refine zv_istoreN G (by decide) dX1_node_136 (fun x6_29 ex6_29 => ?_)
      have h := h x6_29 ex6_29
      have rx6_29 : zr x6_29 := by rw [ex6_29]; exact (by first | exact i_and_r _ _ | exact i_or_r _ _ | exact i_shl_r _ _ | exact i_shr_r _ _ | exact i_ushr_r _ _ | exact i_b_r _ | exact i_c_r _ | exact i_xor_r _ _ | exact i_div_r _ _ | exact i_rem_r _ _ | exact zr_of _)
      exact zv_pick [0, 4, 5, 6] rfl (cpT_node_138 G M S hk rx4_12 (zr_k 0 (by decide) (by decide)) rx6_29 h)
    have h := h.2.2.2.2 c19 c25 c27 c37
    refine zv_tswO (tgt := 175) G dX1_node_50 rx3 (by omega) (by decide) ?_
    refine zv_aload_n G rfl rfl dX1_node_175 ?_
    refine zt_get (k := 83) (v := ar (D.ad 83 + 1)) G (by decide) q2238 rfl dX1_node_176 ?_
    refine zv_iload G rfl dX1_node_179 ?_
    have o13 := h.1
    have h := h.2
    refine zt_iald (f := 83) G (by decide) rfl rx4_12 o13.1 o13.2 dX1_node_181 ?_
    refine zv_bipush (a := (-4)) G (by decide) dX1_node_182 ?_
    have o15 := h.1
    have h := h.2
    have kj16 : ∀ v14 : Int, v14 = (if (tA w 83 x4_12) = (-4) then (-4) else w32 ((i_and (tA w 83 x4_12) 7) - 1)) → ZV Γ w 204 [(4, ai x4_12), (0, ar (D.x + 1)), (1, ai x1), (2, ai x2), (3, ai x3)] (ai v14 :: []) := by
      intro v14 ev14
      have h := h v14 ev14
      have rv14 : zr v14 := by rw [ev14]; exact (zr_ite (zr_k (-4) (by decide) (by decide)) (w32_r _))
      exact zv_iret (ty := .int) rv14 G M rfl dX1_node_204 h
    refine zv_icmp_ne (tgt := 192) G (hw.a 83 _ (by decide)) (zr_k (-4) (by decide) (by decide)) (by decide) dX1_node_184 (fun c17 => ?_) (fun c17 => ?_)
    · refine zv_aload_n G rfl rfl dX1_node_192 ?_
      refine zt_get (k := 83) (v := ar (D.ad 83 + 1)) G (by decide) q2238 rfl dX1_node_193 ?_
      refine zv_iload G rfl dX1_node_196 ?_
      refine zt_iald (f := 83) G (by decide) rfl rx4_12 (o15 c17).1 (o15 c17).2 dX1_node_198 ?_
      refine zv_bipush (a := 7) G (by decide) dX1_node_199 ?_
      refine zv_iand G dX1_node_201 ?_
      refine zv_iconst (a := 1) G (by decide) dX1_node_202 ?_
      refine zv_isub G dX1_node_203 ?_
      exact kj16 _ (if_neg c17).symm
    · refine zv_bipush (a := (-4)) G (by decide) dX1_node_187 ?_
      refine zv_goto (tgt := 204) G (by decide) dX1_node_189 ?_
      exact kj16 _ (if_pos c17).symm
  refine zv_if_eq (tgt := 38) G (fr_isFunction hw rx1) (by decide) dX1_node_5 (fun c41 => ?_) (fun c41 => ?_)
  · exact kt38 (Or.inl c41)
  · refine zv_iload_n G rfl rfl dX1_node_8 ?_
    refine zv_i2l G rx2 dX1_node_9 ?_
    refine zv_lconst (a := 0) G (by decide) dX1_node_10 ?_
    refine zv_aload_n G rfl rfl dX1_node_11 ?_
    refine zt_get (k := 77) (v := ar (D.ad 77 + 1)) G (by decide) q2232 rfl dX1_node_12 ?_
    refine zv_iload_n G rfl rfl dX1_node_15 ?_
    refine zt_iald (f := 77) G (by decide) rfl rx1 (o11 c41).1 (o11 c41).2 dX1_node_16 ?_
    refine zv_iconst (a := 1) G (by decide) dX1_node_17 ?_
    refine zv_isub G dX1_node_18 ?_
    refine zv_i2l G (w32_r _) dX1_node_19 ?_
    refine zt_callSI (as := [al x2, al 0, al (w32 ((tA w 77 x1) - 1))]) G M (S 1 _ rfl _ _ _ (fu_in (by omega)) (zoks_cons (zrl_i rx2) (zoks_cons (zrl_k 0 (by decide) (by decide)) (zoks_cons (zrl_i (w32_r _)) zoks_nil)))) q2552 q2553 q2554 md_in rfl (by decide) (Nat.le_of_ble_eq_true rfl) dX1_node_20 (fun v5 u6 _ q => ?_)
    obtain ⟨ev5, eu6⟩ := q
    rw [eu6, ev5]
    refine zv_if_eq (tgt := 38) G (fr_in hw (zrl_i rx2) (zrl_k 0 (by decide) (by decide)) (zrl_i (w32_r _))) (by decide) dX1_node_23 (fun c42 => ?_) (fun c42 => ?_)
    · exact kt38 (Or.inr (Or.inl c42))
    · refine zv_iload_n G rfl rfl dX1_node_26 ?_
      refine zv_i2l G rx3 dX1_node_27 ?_
      refine zv_lconst (a := 0) G (by decide) dX1_node_28 ?_
      refine zv_ldc2 (a := 4) G (G.kn.2.1 _ q2868 _) (by decide) dX1_node_29 ?_
      refine zt_callSI (as := [al x3, al 0, al 4]) G M (S 1 _ rfl _ _ _ (fu_in (by omega)) (zoks_cons (zrl_i rx3) (zoks_cons (zrl_k 0 (by decide) (by decide)) (zoks_cons (zrl_k 4 (by decide) (by decide)) zoks_nil)))) q2552 q2553 q2554 md_in rfl (by decide) (Nat.le_of_ble_eq_true rfl) dX1_node_32 (fun v9 u10 _ q => ?_)
      obtain ⟨ev9, eu10⟩ := q
      rw [eu10, ev9]
      refine zv_if_ne (tgt := 40) G (fr_in hw (zrl_i rx3) (zrl_k 0 (by decide) (by decide)) (zrl_k 4 (by decide) (by decide))) (by decide) dX1_node_35 (fun c43 => ?_) (fun c43 => ?_)
      · exact kf39 (fun q => q.elim c41 (fun q => q.elim c42 c43))
      · exact kt38 (Or.inr (Or.inr c43))
set_option maxHeartbeats 4000000 in
set_option maxRecDepth 100000 in
theorem cpT_branch_50 {Γ : ZG TW} {D : TD} {B0 d : Nat} {lim : Nat × Nat} (G : ZOk Γ cX1_branch RX1 6 (KnT D B0) (ZT D B0)) (M : ZRm Γ (d + 1) lim (some .int) "branch" []) (S : SdT d D B0 Γ.l lim) (hk : 2 ≤ d) {w : TW} (h : pT_branch_50 (wpT d) (fun v w => Γ.Q (.inl (some (ai v))) w) w) : ZV Γ w 50 [] [] := by
  refine zt_tok G (fun hw => ?_)
  refine zv_iconst (a := (-1)) G (by decide) dX1_branch_50 ?_
  exact zv_iret (ty := .int) (zr_k (-1) (by decide) (by decide)) G M rfl dX1_branch_51 h
set_option maxHeartbeats 4000000 in
set_option maxRecDepth 100000 in
theorem cpT_branch_90 {Γ : ZG TW} {D : TD} {B0 d : Nat} {lim : Nat × Nat} (G : ZOk Γ cX1_branch RX1 6 (KnT D B0) (ZT D B0)) (M : ZRm Γ (d + 1) lim (some .int) "branch" []) (S : SdT d D B0 Γ.l lim) (hk : 2 ≤ d) {x1 : Int} {x4 : Int} {w : TW} (rx1 : zr x1) (rx4 : zr x4) (h : pT_branch_90 (wpT d) (fun v w => Γ.Q (.inl (some (ai v))) w) x1 x4 w) : ZV Γ w 90 [(1, ai x1), (4, ai x4)] [] := by
  refine zt_tok G (fun hw => ?_)
  refine zv_iload G rfl dX1_branch_90 ?_
  refine zv_sipush (a := 300) G (by decide) dX1_branch_92 ?_
  refine zv_iload_n G rfl rfl dX1_branch_95 ?_
  refine zv_imul G dX1_branch_96 ?_
  refine zv_isub G dX1_branch_97 ?_
  exact zv_iret (ty := .int) (w32_r _) G M rfl dX1_branch_98 h
set_option maxHeartbeats 4000000 in
set_option maxRecDepth 100000 in
theorem cpT_branch_69 {Γ : ZG TW} {D : TD} {B0 d : Nat} {lim : Nat × Nat} (G : ZOk Γ cX1_branch RX1 6 (KnT D B0) (ZT D B0)) (M : ZRm Γ (d + 1) lim (some .int) "branch" []) (S : SdT d D B0 Γ.l lim) (hk : 2 ≤ d) {x1 : Int} {x3 : Int} {x4 : Int} {x5 : Int} {w : TW} (rx1 : zr x1) (rx3 : zr x3) (rx4 : zr x4) (rx5 : zr x5) (h : pT_branch_69 (wpT d) (fun v w => Γ.Q (.inl (some (ai v))) w) x1 x3 x4 x5 w) : ZV Γ w 69 [(0, ar (D.x + 1)), (1, ai x1), (3, ai x3), (4, ai x4), (5, ai x5)] [] := by
  refine h (fun x4 x5 w => zr x4 → zr x5 → ZV Γ w 69 [(0, ar (D.x + 1)), (1, ai x1), (3, ai x3), (4, ai x4), (5, ai x5)] []) ?_ rx4 rx5
  clear h
  intro x4 x5 w h rx4 rx5
  have hI69 : ∀ (x4 : Int) (x5 : Int) (w : TW), (fun x4 x5 w => zr x4 → zr x5 → ZV Γ w 69 [(0, ar (D.x + 1)), (1, ai x1), (3, ai x3), (4, ai x4), (5, ai x5)] []) x4 x5 w → zr x4 → zr x5 → ZV Γ w 69 [(0, ar (D.x + 1)), (1, ai x1), (3, ai x3), (4, ai x4), (5, ai x5)] [] := fun _ _ _ z => z
  refine zt_tok G (fun hw => ?_)
  refine zv_iload G rfl dX1_branch_69 ?_
  refine zv_iload_n G rfl rfl dX1_branch_71 ?_
  refine zv_icmp_ge (tgt := 90) G rx5 rx3 (by decide) dX1_branch_72 (fun c14 => ?_) (fun c14 => ?_)
  · have h := h.1 c14
    exact zv_pick [1, 4] rfl (cpT_branch_90 G M S hk rx1 rx4 h)
  · have h := h.2 c14
    refine zv_aload_n G rfl rfl dX1_branch_75 ?_
    refine zt_get (k := 88) (v := ar (D.ad 88 + 1)) G (by decide) q2243 rfl dX1_branch_76 ?_
    refine zv_iload G rfl dX1_branch_79 ?_
    have o15 := h.1
    have h := h.2
    refine zt_iald (f := 88) G (by decide) rfl rx4 o15.1 o15.2 dX1_branch_81 ?_
    refine zv_istoreN G (by decide) dX1_branch_82 (fun x4_16 ex4_16 => ?_)
    have h := h x4_16 ex4_16
    have rx4_16 : zr x4_16 := by rw [ex4_16]; exact (hw.a 88 _ (by decide))
    refine zv_iincN G rfl (by decide) dX1_branch_84 (fun x5_17 ex5_17 => ?_)
    have h := h x5_17 ex5_17
    have rx5_17 : zr x5_17 := by rw [ex5_17]; exact w32_r _
    refine zv_goto (tgt := 69) G (by decide) dX1_branch_87 ?_
    exact zv_pick [0, 1, 3, 4, 5] rfl (hI69 _ _ _ h rx4_16 rx5_17)
set_option maxHeartbeats 4000000 in
set_option maxRecDepth 100000 in
theorem cpT_branch_0 {Γ : ZG TW} {D : TD} {B0 d : Nat} {lim : Nat × Nat} (G : ZOk Γ cX1_branch RX1 6 (KnT D B0) (ZT D B0)) (M : ZRm Γ (d + 1) lim (some .int) "branch" []) (S : SdT d D B0 Γ.l lim) (hk : 2 ≤ d) {x1 : Int} {x2 : Int} {x3 : Int} {w : TW} (rx1 : zr x1) (rx2 : zr x2) (rx3 : zr x3) (h : pT_branch_0 (wpT d) (fun v w => Γ.Q (.inl (some (ai v))) w) x1 x2 x3 w) : ZV Γ w 0 [(0, ar (D.x + 1)), (1, ai x1), (2, ai x2), (3, ai x3)] [] := by
  refine zt_tok G (fun hw => ?_)
  refine zv_aload_n G rfl rfl dX1_branch_0 ?_
  refine zv_iload_n G rfl rfl dX1_branch_1 ?_
  refine zt_callI (as := [ai x1]) G M (S 67 _ rfl _ _ _ (fu_isFunction (by omega)) (zoks_cons rx1 zoks_nil)) q2836 q2838 qs125 q2839 md_isFunction rfl (by decide) (Nat.le_of_ble_eq_true rfl) dX1_branch_2 (fun v1 u2 _ q => ?_)
  obtain ⟨ev1, eu2⟩ := q
  rw [eu2, ev1]
  have o11 := h.1
  have h := h.2
  have kt18 : ((ff_isFunction x1 w) = 0) ∨ (((ff_in x2 0 (w32 ((tA w 77 x1) - 1)) w) = 0) ∨ ((ff_in x3 0 (w32 ((tA w 84 (w32 ((w32 (300 * x1)) + x2))) - 1)) w) = 0)) → ZV Γ w 50 [(0, ar (D.x + 1)), (1, ai x1), (2, ai x2), (3, ai x3)] [] := by
    intro c20
    have h := h.1 c20
    exact zv_pick [] rfl (cpT_branch_50 G M S hk h)
  have kf19 : ¬ (((ff_isFunction x1 w) = 0) ∨ (((ff_in x2 0 (w32 ((tA w 77 x1) - 1)) w) = 0) ∨ ((ff_in x3 0 (w32 ((tA w 84 (w32 ((w32 (300 * x1)) + x2))) - 1)) w) = 0))) → ZV Γ w 52 [(0, ar (D.x + 1)), (1, ai x1), (2, ai x2), (3, ai x3)] [] := by
    intro c20
    have h := h.2 c20
    refine zv_aload_n G rfl rfl dX1_branch_52 ?_
    refine zt_get (k := 86) (v := ar (D.ad 86 + 1)) G (by decide) q2241 rfl dX1_branch_53 ?_
    refine zv_sipush (a := 300) G (by decide) dX1_branch_56 ?_
    refine zv_iload_n G rfl rfl dX1_branch_59 ?_
    refine zv_imul G dX1_branch_60 ?_
    refine zv_iload_n G rfl rfl dX1_branch_61 ?_
    refine zv_iadd G dX1_branch_62 ?_
    have o12 := h.1
    have h := h.2
    refine zt_iald (f := 86) G (by decide) rfl (w32_r _) o12.1 o12.2 dX1_branch_63 ?_
    refine zv_istoreN G (by decide) dX1_branch_64 (fun x4_13 ex4_13 => ?_)
    have h := h x4_13 ex4_13
    have rx4_13 : zr x4_13 := by rw [ex4_13]; exact (hw.a 86 _ (by decide))
    refine zv_iconst (a := 0) G (by decide) dX1_branch_66 ?_
    refine zv_istore G (by decide) rfl dX1_branch_67 ?_
    exact zv_pick [0, 1, 3, 4, 5] rfl (cpT_branch_69 G M S hk rx1 rx3 rx4_13 (zr_k 0 (by decide) (by decide)) h)
  refine zv_if_eq (tgt := 50) G (fr_isFunction hw rx1) (by decide) dX1_branch_5 (fun c21 => ?_) (fun c21 => ?_)
  · exact kt18 (Or.inl c21)
  · refine zv_iload_n G rfl rfl dX1_branch_8 ?_
    refine zv_i2l G rx2 dX1_branch_9 ?_
    refine zv_lconst (a := 0) G (by decide) dX1_branch_10 ?_
    refine zv_aload_n G rfl rfl dX1_branch_11 ?_
    refine zt_get (k := 77) (v := ar (D.ad 77 + 1)) G (by decide) q2232 rfl dX1_branch_12 ?_
    refine zv_iload_n G rfl rfl dX1_branch_15 ?_
    refine zt_iald (f := 77) G (by decide) rfl rx1 (o11 c21).1.1 (o11 c21).1.2 dX1_branch_16 ?_
    refine zv_iconst (a := 1) G (by decide) dX1_branch_17 ?_
    refine zv_isub G dX1_branch_18 ?_
    refine zv_i2l G (w32_r _) dX1_branch_19 ?_
    refine zt_callSI (as := [al x2, al 0, al (w32 ((tA w 77 x1) - 1))]) G M (S 1 _ rfl _ _ _ (fu_in (by omega)) (zoks_cons (zrl_i rx2) (zoks_cons (zrl_k 0 (by decide) (by decide)) (zoks_cons (zrl_i (w32_r _)) zoks_nil)))) q2552 q2553 q2554 md_in rfl (by decide) (Nat.le_of_ble_eq_true rfl) dX1_branch_20 (fun v5 u6 _ q => ?_)
    obtain ⟨ev5, eu6⟩ := q
    rw [eu6, ev5]
    refine zv_if_eq (tgt := 50) G (fr_in hw (zrl_i rx2) (zrl_k 0 (by decide) (by decide)) (zrl_i (w32_r _))) (by decide) dX1_branch_23 (fun c22 => ?_) (fun c22 => ?_)
    · exact kt18 (Or.inr (Or.inl c22))
    · refine zv_iload_n G rfl rfl dX1_branch_26 ?_
      refine zv_i2l G rx3 dX1_branch_27 ?_
      refine zv_lconst (a := 0) G (by decide) dX1_branch_28 ?_
      refine zv_aload_n G rfl rfl dX1_branch_29 ?_
      refine zt_get (k := 84) (v := ar (D.ad 84 + 1)) G (by decide) q2239 rfl dX1_branch_30 ?_
      refine zv_sipush (a := 300) G (by decide) dX1_branch_33 ?_
      refine zv_iload_n G rfl rfl dX1_branch_36 ?_
      refine zv_imul G dX1_branch_37 ?_
      refine zv_iload_n G rfl rfl dX1_branch_38 ?_
      refine zv_iadd G dX1_branch_39 ?_
      refine zt_iald (f := 84) G (by decide) rfl (w32_r _) ((o11 c21).2 c22).1 ((o11 c21).2 c22).2 dX1_branch_40 ?_
      refine zv_iconst (a := 1) G (by decide) dX1_branch_41 ?_
      refine zv_isub G dX1_branch_42 ?_
      refine zv_i2l G (w32_r _) dX1_branch_43 ?_
      refine zt_callSI (as := [al x3, al 0, al (w32 ((tA w 84 (w32 ((w32 (300 * x1)) + x2))) - 1))]) G M (S 1 _ rfl _ _ _ (fu_in (by omega)) (zoks_cons (zrl_i rx3) (zoks_cons (zrl_k 0 (by decide) (by decide)) (zoks_cons (zrl_i (w32_r _)) zoks_nil)))) q2552 q2553 q2554 md_in rfl (by decide) (Nat.le_of_ble_eq_true rfl) dX1_branch_44 (fun v9 u10 _ q => ?_)
      obtain ⟨ev9, eu10⟩ := q
      rw [eu10, ev9]
      refine zv_if_ne (tgt := 52) G (fr_in hw (zrl_i rx3) (zrl_k 0 (by decide) (by decide)) (zrl_i (w32_r _))) (by decide) dX1_branch_47 (fun c23 => ?_) (fun c23 => ?_)
      · exact kf19 (fun q => q.elim c21 (fun q => q.elim c22 c23))
      · exact kt18 (Or.inr (Or.inr c23))
set_option maxHeartbeats 4000000 in
set_option maxRecDepth 100000 in
theorem cpT_missing_69 {Γ : ZG TW} {D : TD} {B0 d : Nat} {lim : Nat × Nat} (G : ZOk Γ cX1_missing RX1 4 (KnT D B0) (ZT D B0)) (M : ZRm Γ (d + 1) lim (some .int) "missing" []) (S : SdT d D B0 Γ.l lim) (hk : 2 ≤ d) {x2 : Int} {w : TW} (rx2 : zr x2) (h : pT_missing_69 (wpT d) (fun v w => Γ.Q (.inl (some (ai v))) w) x2 w) : ZV Γ w 69 [(2, ai x2)] [] := by
  refine zt_tok G (fun hw => ?_)
  refine zv_iload_n G rfl rfl dX1_missing_69 ?_
  have kj9 : ∀ v8 : Int, v8 = (if ¬ (x2 = 0) then 1 else 0) → ZV Γ w 78 [(2, ai x2)] (ai v8 :: []) := by
    intro v8 ev8
    have h := h v8 ev8
    have rv8 : zr v8 := by rw [ev8]; exact (zr_ite (zr_k 1 (by decide) (by decide)) (zr_k 0 (by decide) (by decide)))
    have bv8 : v8 = 0 ∨ v8 = 1 := by rw [ev8]; exact (zb_ite (Or.inr rfl) (Or.inl rfl))
    exact zv_iret (ty := .int) rv8 G M rfl dX1_missing_78 h
  refine zv_if_eq (tgt := 77) G rx2 (by decide) dX1_missing_70 (fun c10 => ?_) (fun c10 => ?_)
  · refine zv_iconst (a := 0) G (by decide) dX1_missing_77 ?_
    exact kj9 _ (if_neg (fun q => q c10)).symm
  · refine zv_iconst (a := 1) G (by decide) dX1_missing_73 ?_
    refine zv_goto (tgt := 78) G (by decide) dX1_missing_74 ?_
    exact kj9 _ (if_pos c10).symm
set_option maxHeartbeats 4000000 in
set_option maxRecDepth 100000 in
theorem cpT_missing_29 {Γ : ZG TW} {D : TD} {B0 d : Nat} {lim : Nat × Nat} (G : ZOk Γ cX1_missing RX1 4 (KnT D B0) (ZT D B0)) (M : ZRm Γ (d + 1) lim (some .int) "missing" []) (S : SdT d D B0 Γ.l lim) (hk : 2 ≤ d) {x2 : Int} {x3 : Int} {w : TW} (rx2 : zr x2) (rx3 : zr x3) (h : pT_missing_29 (wpT d) (fun v w => Γ.Q (.inl (some (ai v))) w) x2 x3 w) : ZV Γ w 29 [(0, ar (D.x + 1)), (2, ai x2), (3, ai x3)] [] := by
  refine h (fun x2 x3 w => zr x2 → zr x3 → ZV Γ w 29 [(0, ar (D.x + 1)), (2, ai x2), (3, ai x3)] []) ?_ rx2 rx3
  clear h
  intro x2 x3 w h rx2 rx3
  have hI29 : ∀ (x2 : Int) (x3 : Int) (w : TW), (fun x2 x3 w => zr x2 → zr x3 → ZV Γ w 29 [(0, ar (D.x + 1)), (2, ai x2), (3, ai x3)] []) x2 x3 w → zr x2 → zr x3 → ZV Γ w 29 [(0, ar (D.x + 1)), (2, ai x2), (3, ai x3)] [] := fun _ _ _ z => z
  refine zt_tok G (fun hw => ?_)
  refine zv_iload_n G rfl rfl dX1_missing_29 ?_
  refine zv_aload_n G rfl rfl dX1_missing_30 ?_
  refine zt_get (k := 77) (v := ar (D.ad 77 + 1)) G (by decide) q2232 rfl dX1_missing_31 ?_
  refine zv_bipush (a := 12) G (by decide) dX1_missing_34 ?_
  refine zt_iald (f := 77) G (by decide) rfl (zr_k 12 (by decide) (by decide)) (by omega) (by decide) dX1_missing_36 ?_
  refine zv_icmp_ge (tgt := 69) G rx3 (hw.a 77 _ (by decide)) (by decide) dX1_missing_37 (fun c7 => ?_) (fun c7 => ?_)
  · have h := h.1 c7
    exact zv_pick [2] rfl (cpT_missing_69 G M S hk rx2 h)
  · have h := h.2 c7
    refine zv_iload_n G rfl rfl dX1_missing_40 ?_
    have o12 := h.1
    have h := h.2
    have kj14 : ∀ v11 : Int, v11 = (if ¬ (x2 = 0) ∨ ((tA w 80 (w32 (3600 + x3))) = 0) then 1 else 0) → ZV Γ w 62 [(0, ar (D.x + 1)), (2, ai x2), (3, ai x3)] (ai v11 :: []) := by
      intro v11 ev11
      have h := h v11 ev11
      have rv11 : zr v11 := by rw [ev11]; exact (zr_ite (zr_k 1 (by decide) (by decide)) (zr_k 0 (by decide) (by decide)))
      have bv11 : v11 = 0 ∨ v11 = 1 := by rw [ev11]; exact (zb_ite (Or.inr rfl) (Or.inl rfl))
      refine zv_istore_n G rfl (by decide) rfl dX1_missing_62 ?_
      refine zv_iincN G rfl (by decide) dX1_missing_63 (fun x3_13 ex3_13 => ?_)
      have h := h x3_13 ex3_13
      have rx3_13 : zr x3_13 := by rw [ex3_13]; exact w32_r _
      refine zv_goto (tgt := 29) G (by decide) dX1_missing_66 ?_
      exact zv_pick [0, 2, 3] rfl (hI29 _ _ _ h rv11 rx3_13)
    refine zv_if_ne (tgt := 57) G rx2 (by decide) dX1_missing_41 (fun c15 => ?_) (fun c15 => ?_)
    · refine zv_iconst (a := 1) G (by decide) dX1_missing_57 ?_
      refine zv_goto (tgt := 62) G (by decide) dX1_missing_58 ?_
      exact kj14 _ (if_pos (Or.inl c15)).symm
    · refine zv_aload_n G rfl rfl dX1_missing_44 ?_
      refine zt_get (k := 80) (v := ar (D.ad 80 + 1)) G (by decide) q2235 rfl dX1_missing_45 ?_
      refine zv_sipush (a := 3600) G (by decide) dX1_missing_48 ?_
      refine zv_iload_n G rfl rfl dX1_missing_51 ?_
      refine zv_iadd G dX1_missing_52 ?_
      refine zt_iald (f := 80) G (by decide) rfl (w32_r _) (o12 c15).1 (o12 c15).2 dX1_missing_53 ?_
      refine zv_if_ne (tgt := 61) G (hw.a 80 _ (by decide)) (by decide) dX1_missing_54 (fun c16 => ?_) (fun c16 => ?_)
      · refine zv_iconst (a := 0) G (by decide) dX1_missing_61 ?_
        exact kj14 _ (if_neg (fun q => q.elim (fun z => z c15) c16)).symm
      · refine zv_iconst (a := 1) G (by decide) dX1_missing_57 ?_
        refine zv_goto (tgt := 62) G (by decide) dX1_missing_58 ?_
        exact kj14 _ (if_pos (Or.inr c16)).symm
set_option maxHeartbeats 4000000 in
set_option maxRecDepth 100000 in
theorem cpT_missing_0 {Γ : ZG TW} {D : TD} {B0 d : Nat} {lim : Nat × Nat} (G : ZOk Γ cX1_missing RX1 4 (KnT D B0) (ZT D B0)) (M : ZRm Γ (d + 1) lim (some .int) "missing" []) (S : SdT d D B0 Γ.l lim) (hk : 2 ≤ d) {x1 : Int} {w : TW} (rx1 : zr x1) (h : pT_missing_0 (wpT d) (fun v w => Γ.Q (.inl (some (ai v))) w) x1 w) : ZV Γ w 0 [(0, ar (D.x + 1)), (1, ai x1)] [] := by
  refine zt_tok G (fun hw => ?_)
  refine zv_aload_n G rfl rfl dX1_missing_0 ?_
  refine zv_iload_n G rfl rfl dX1_missing_1 ?_
  refine zt_callI (as := [ai x1]) G M (S 67 _ rfl _ _ _ (fu_isFunction (by omega)) (zoks_cons rx1 zoks_nil)) q2836 q2838 qs125 q2839 md_isFunction rfl (by decide) (Nat.le_of_ble_eq_true rfl) dX1_missing_2 (fun v1 u2 _ q => ?_)
  obtain ⟨ev1, eu2⟩ := q
  rw [eu2, ev1]
  refine zv_if_ne (tgt := 10) G (fr_isFunction hw rx1) (by decide) dX1_missing_5 (fun c3 => ?_) (fun c3 => ?_)
  · have h := h.2 c3
    refine zv_aload_n G rfl rfl dX1_missing_10 ?_
    refine zv_bipush (a := 12) G (by decide) dX1_missing_11 ?_
    refine zv_iload_n G rfl rfl dX1_missing_13 ?_
    refine zv_iconst (a := 0) G (by decide) dX1_missing_14 ?_
    refine zv_iconst (a := 1) G (by decide) dX1_missing_15 ?_
    refine zt_callI (as := [ai 12, ai x1, ai 0, ai 1]) G M (S 45 _ rfl _ _ _ h (zoks_cons (zr_k 12 (by decide) (by decide)) (zoks_cons rx1 (zoks_cons (zr_k 0 (by decide) (by decide)) (zoks_cons (zr_k 1 (by decide) (by decide)) zoks_nil))))) q2746 q2748 qs106 q2749 md_makes rfl (by decide) (Nat.le_of_ble_eq_true rfl) dX1_missing_16 (fun v5 u4 rv5 h => ?_)
    refine zt_tok G (fun hu4 => ?_)
    refine zv_if_ne (tgt := 25) G rv5 (by decide) dX1_missing_19 (fun c6 => ?_) (fun c6 => ?_)
    · have h := h.2 c6
      refine zv_iconst (a := 0) G (by decide) dX1_missing_25 ?_
      refine zv_istore_n G rfl (by decide) rfl dX1_missing_26 ?_
      refine zv_iconst (a := 0) G (by decide) dX1_missing_27 ?_
      refine zv_istore_n G rfl (by decide) rfl dX1_missing_28 ?_
      exact zv_pick [0, 2, 3] rfl (cpT_missing_29 G M S hk (zr_k 0 (by decide) (by decide)) (zr_k 0 (by decide) (by decide)) h)
    · have h := h.1 c6
      refine zv_bipush (a := (-3)) G (by decide) dX1_missing_22 ?_
      exact zv_iret (ty := .int) (zr_k (-3) (by decide) (by decide)) G M rfl dX1_missing_24 h
  · have h := h.1 c3
    refine zv_iconst (a := (-1)) G (by decide) dX1_missing_8 ?_
    exact zv_iret (ty := .int) (zr_k (-1) (by decide) (by decide)) G M rfl dX1_missing_9 h
set_option maxHeartbeats 4000000 in
set_option maxRecDepth 100000 in
theorem cpT_unreached_26 {Γ : ZG TW} {D : TD} {B0 d : Nat} {lim : Nat × Nat} (G : ZOk Γ cX1_unreached RX1 5 (KnT D B0) (ZT D B0)) (M : ZRm Γ (d + 1) lim (some .int) "unreached" []) (S : SdT d D B0 Γ.l lim) (hk : 2 ≤ d) {w : TW} (h : pT_unreached_26 (wpT d) (fun v w => Γ.Q (.inl (some (ai v))) w) w) : ZV Γ w 26 [] [] := by
  refine zt_tok G (fun hw => ?_)
  refine zv_iconst (a := (-1)) G (by decide) dX1_unreached_26 ?_
  exact zv_iret (ty := .int) (zr_k (-1) (by decide) (by decide)) G M rfl dX1_unreached_27 h
set_option maxHeartbeats 4000000 in
set_option maxRecDepth 100000 in
theorem cpT_unreached_96 {Γ : ZG TW} {D : TD} {B0 d : Nat} {lim : Nat × Nat} (G : ZOk Γ cX1_unreached RX1 5 (KnT D B0) (ZT D B0)) (M : ZRm Γ (d + 1) lim (some .int) "unreached" []) (S : SdT d D B0 Γ.l lim) (hk : 2 ≤ d) {x3 : Int} {w : TW} (rx3 : zr x3) (h : pT_unreached_96 (wpT d) (fun v w => Γ.Q (.inl (some (ai v))) w) x3 w) : ZV Γ w 96 [(3, ai x3)] [] := by
  refine zt_tok G (fun hw => ?_)
  refine zv_iload_n G rfl rfl dX1_unreached_96 ?_
  have kj13 : ∀ v12 : Int, v12 = (if ¬ (x3 = 0) then 1 else 0) → ZV Γ w 105 [(3, ai x3)] (ai v12 :: []) := by
    intro v12 ev12
    have h := h v12 ev12
    have rv12 : zr v12 := by rw [ev12]; exact (zr_ite (zr_k 1 (by decide) (by decide)) (zr_k 0 (by decide) (by decide)))
    have bv12 : v12 = 0 ∨ v12 = 1 := by rw [ev12]; exact (zb_ite (Or.inr rfl) (Or.inl rfl))
    exact zv_iret (ty := .int) rv12 G M rfl dX1_unreached_105 h
  refine zv_if_eq (tgt := 104) G rx3 (by decide) dX1_unreached_97 (fun c14 => ?_) (fun c14 => ?_)
  · refine zv_iconst (a := 0) G (by decide) dX1_unreached_104 ?_
    exact kj13 _ (if_neg (fun q => q c14)).symm
  · refine zv_iconst (a := 1) G (by decide) dX1_unreached_100 ?_
    refine zv_goto (tgt := 105) G (by decide) dX1_unreached_101 ?_
    exact kj13 _ (if_pos c14).symm
set_option maxHeartbeats 4000000 in
set_option maxRecDepth 100000 in
theorem cpT_unreached_48 {Γ : ZG TW} {D : TD} {B0 d : Nat} {lim : Nat × Nat} (G : ZOk Γ cX1_unreached RX1 5 (KnT D B0) (ZT D B0)) (M : ZRm Γ (d + 1) lim (some .int) "unreached" []) (S : SdT d D B0 Γ.l lim) (hk : 2 ≤ d) {x1 : Int} {x2 : Int} {x3 : Int} {x4 : Int} {w : TW} (rx1 : zr x1) (rx2 : zr x2) (rx3 : zr x3) (rx4 : zr x4) (h : pT_unreached_48 (wpT d) (fun v w => Γ.Q (.inl (some (ai v))) w) x1 x2 x3 x4 w) : ZV Γ w 48 [(0, ar (D.x + 1)), (1, ai x1), (2, ai x2), (3, ai x3), (4, ai x4)] [] := by
  refine h (fun x3 x4 w => zr x3 → zr x4 → ZV Γ w 48 [(0, ar (D.x + 1)), (1, ai x1), (2, ai x2), (3, ai x3), (4, ai x4)] []) ?_ rx3 rx4
  clear h
  intro x3 x4 w h rx3 rx4
  have hI48 : ∀ (x3 : Int) (x4 : Int) (w : TW), (fun x3 x4 w => zr x3 → zr x4 → ZV Γ w 48 [(0, ar (D.x + 1)), (1, ai x1), (2, ai x2), (3, ai x3), (4, ai x4)] []) x3 x4 w → zr x3 → zr x4 → ZV Γ w 48 [(0, ar (D.x + 1)), (1, ai x1), (2, ai x2), (3, ai x3), (4, ai x4)] [] := fun _ _ _ z => z
  refine zt_tok G (fun hw => ?_)
  refine zv_iload G rfl dX1_unreached_48 ?_
  refine zv_aload_n G rfl rfl dX1_unreached_50 ?_
  refine zt_get (k := 77) (v := ar (D.ad 77 + 1)) G (by decide) q2232 rfl dX1_unreached_51 ?_
  refine zv_bipush (a := 12) G (by decide) dX1_unreached_54 ?_
  refine zt_iald (f := 77) G (by decide) rfl (zr_k 12 (by decide) (by decide)) (by omega) (by decide) dX1_unreached_56 ?_
  refine zv_icmp_ge (tgt := 96) G rx4 (hw.a 77 _ (by decide)) (by decide) dX1_unreached_57 (fun c11 => ?_) (fun c11 => ?_)
  · have h := h.1 c11
    exact zv_pick [3] rfl (cpT_unreached_96 G M S hk rx3 h)
  · have h := h.2 c11
    refine zv_iload_n G rfl rfl dX1_unreached_60 ?_
    have o16 := h.1
    have h := h.2
    have kj18 : ∀ v15 : Int, v15 = (if ¬ (x3 = 0) ∧ (¬ ((tA w 81 (w32 (3600 + x4))) = (w32 ((w32 (16 * x1)) + x2)))) then 1 else 0) → ZV Γ w 89 [(0, ar (D.x + 1)), (1, ai x1), (2, ai x2), (3, ai x3), (4, ai x4)] (ai v15 :: []) := by
      intro v15 ev15
      have h := h v15 ev15
      have rv15 : zr v15 := by rw [ev15]; exact (zr_ite (zr_k 1 (by decide) (by decide)) (zr_k 0 (by decide) (by decide)))
      have bv15 : v15 = 0 ∨ v15 = 1 := by rw [ev15]; exact (zb_ite (Or.inr rfl) (Or.inl rfl))
      refine zv_istore_n G rfl (by decide) rfl dX1_unreached_89 ?_
      refine zv_iincN G rfl (by decide) dX1_unreached_90 (fun x4_17 ex4_17 => ?_)
      have h := h x4_17 ex4_17
      have rx4_17 : zr x4_17 := by rw [ex4_17]; exact w32_r _
      refine zv_goto (tgt := 48) G (by decide) dX1_unreached_93 ?_
      exact zv_pick [0, 1, 2, 3, 4] rfl (hI48 _ _ _ h rv15 rx4_17)
    refine zv_if_eq (tgt := 88) G rx3 (by decide) dX1_unreached_61 (fun c19 => ?_) (fun c19 => ?_)
    · refine zv_iconst (a := 0) G (by decide) dX1_unreached_88 ?_
      exact kj18 _ (if_neg (fun q => q.1 c19)).symm
    · refine zv_aload_n G rfl rfl dX1_unreached_64 ?_
      refine zt_get (k := 81) (v := ar (D.ad 81 + 1)) G (by decide) q2236 rfl dX1_unreached_65 ?_
      refine zv_sipush (a := 3600) G (by decide) dX1_unreached_68 ?_
      refine zv_iload G rfl dX1_unreached_71 ?_
      refine zv_iadd G dX1_unreached_73 ?_
      refine zt_iald (f := 81) G (by decide) rfl (w32_r _) (o16 c19).1 (o16 c19).2 dX1_unreached_74 ?_
      refine zv_bipush (a := 16) G (by decide) dX1_unreached_75 ?_
      refine zv_iload_n G rfl rfl dX1_unreached_77 ?_
      refine zv_imul G dX1_unreached_78 ?_
      refine zv_iload_n G rfl rfl dX1_unreached_79 ?_
      refine zv_iadd G dX1_unreached_80 ?_
      refine zv_icmp_eq (tgt := 88) G (hw.a 81 _ (by decide)) (w32_r _) (by decide) dX1_unreached_81 (fun c20 => ?_) (fun c20 => ?_)
      · refine zv_iconst (a := 0) G (by decide) dX1_unreached_88 ?_
        exact kj18 _ (if_neg (fun q => (fun q => q c20) q.2)).symm
      · refine zv_iconst (a := 1) G (by decide) dX1_unreached_84 ?_
        refine zv_goto (tgt := 89) G (by decide) dX1_unreached_85 ?_
        exact kj18 _ (if_pos ⟨c19, c20⟩).symm
set_option maxHeartbeats 4000000 in
set_option maxRecDepth 100000 in
theorem cpT_unreached_0 {Γ : ZG TW} {D : TD} {B0 d : Nat} {lim : Nat × Nat} (G : ZOk Γ cX1_unreached RX1 5 (KnT D B0) (ZT D B0)) (M : ZRm Γ (d + 1) lim (some .int) "unreached" []) (S : SdT d D B0 Γ.l lim) (hk : 2 ≤ d) {x1 : Int} {x2 : Int} {w : TW} (rx1 : zr x1) (rx2 : zr x2) (h : pT_unreached_0 (wpT d) (fun v w => Γ.Q (.inl (some (ai v))) w) x1 x2 w) : ZV Γ w 0 [(0, ar (D.x + 1)), (1, ai x1), (2, ai x2)] [] := by
  refine zt_tok G (fun hw => ?_)
  refine zv_aload_n G rfl rfl dX1_unreached_0 ?_
  refine zv_iload_n G rfl rfl dX1_unreached_1 ?_
  refine zt_callI (as := [ai x1]) G M (S 67 _ rfl _ _ _ (fu_isFunction (by omega)) (zoks_cons rx1 zoks_nil)) q2836 q2838 qs125 q2839 md_isFunction rfl (by decide) (Nat.le_of_ble_eq_true rfl) dX1_unreached_2 (fun v1 u2 _ q => ?_)
  obtain ⟨ev1, eu2⟩ := q
  rw [eu2, ev1]
  have o7 := h.1
  have h := h.2
  have kt21 : ((ff_isFunction x1 w) = 0) ∨ ((ff_in x2 0 (w32 ((tA w 45 x1) - 1)) w) = 0) → ZV Γ w 26 [(0, ar (D.x + 1)), (1, ai x1), (2, ai x2)] [] := by
    intro c23
    have h := h.1 c23
    exact zv_pick [] rfl (cpT_unreached_26 G M S hk h)
  have kf22 : ¬ (((ff_isFunction x1 w) = 0) ∨ ((ff_in x2 0 (w32 ((tA w 45 x1) - 1)) w) = 0)) → ZV Γ w 28 [(0, ar (D.x + 1)), (1, ai x1), (2, ai x2)] [] := by
    intro c23
    have h := h.2 c23
    refine zv_aload_n G rfl rfl dX1_unreached_28 ?_
    refine zv_bipush (a := 12) G (by decide) dX1_unreached_29 ?_
    refine zv_iload_n G rfl rfl dX1_unreached_31 ?_
    refine zv_iconst (a := 0) G (by decide) dX1_unreached_32 ?_
    refine zv_iconst (a := 0) G (by decide) dX1_unreached_33 ?_
    refine zt_callI (as := [ai 12, ai x1, ai 0, ai 0]) G M (S 45 _ rfl _ _ _ h (zoks_cons (zr_k 12 (by decide) (by decide)) (zoks_cons rx1 (zoks_cons (zr_k 0 (by decide) (by decide)) (zoks_cons (zr_k 0 (by decide) (by decide)) zoks_nil))))) q2746 q2748 qs106 q2749 md_makes rfl (by decide) (Nat.le_of_ble_eq_true rfl) dX1_unreached_34 (fun v9 u8 rv9 h => ?_)
    refine zt_tok G (fun hu8 => ?_)
    refine zv_if_ne (tgt := 43) G rv9 (by decide) dX1_unreached_37 (fun c10 => ?_) (fun c10 => ?_)
    · have h := h.2 c10
      refine zv_iconst (a := 1) G (by decide) dX1_unreached_43 ?_
      refine zv_istore_n G rfl (by decide) rfl dX1_unreached_44 ?_
      refine zv_iconst (a := 0) G (by decide) dX1_unreached_45 ?_
      refine zv_istore G (by decide) rfl dX1_unreached_46 ?_
      exact zv_pick [0, 1, 2, 3, 4] rfl (cpT_unreached_48 G M S hk rx1 rx2 (zr_k 1 (by decide) (by decide)) (zr_k 0 (by decide) (by decide)) h)
    · have h := h.1 c10
      refine zv_bipush (a := (-3)) G (by decide) dX1_unreached_40 ?_
      exact zv_iret (ty := .int) (zr_k (-3) (by decide) (by decide)) G M rfl dX1_unreached_42 h
  refine zv_if_eq (tgt := 26) G (fr_isFunction hw rx1) (by decide) dX1_unreached_5 (fun c24 => ?_) (fun c24 => ?_)
  · exact kt21 (Or.inl c24)
  · refine zv_iload_n G rfl rfl dX1_unreached_8 ?_
    refine zv_i2l G rx2 dX1_unreached_9 ?_
    refine zv_lconst (a := 0) G (by decide) dX1_unreached_10 ?_
    refine zv_aload_n G rfl rfl dX1_unreached_11 ?_
    refine zt_get (k := 45) (v := ar (D.ad 45 + 1)) G (by decide) q2200 rfl dX1_unreached_12 ?_
    refine zv_iload_n G rfl rfl dX1_unreached_15 ?_
    refine zt_iald (f := 45) G (by decide) rfl rx1 (o7 c24).1 (o7 c24).2 dX1_unreached_16 ?_
    refine zv_iconst (a := 1) G (by decide) dX1_unreached_17 ?_
    refine zv_isub G dX1_unreached_18 ?_
    refine zv_i2l G (w32_r _) dX1_unreached_19 ?_
    refine zt_callSI (as := [al x2, al 0, al (w32 ((tA w 45 x1) - 1))]) G M (S 1 _ rfl _ _ _ (fu_in (by omega)) (zoks_cons (zrl_i rx2) (zoks_cons (zrl_k 0 (by decide) (by decide)) (zoks_cons (zrl_i (w32_r _)) zoks_nil)))) q2552 q2553 q2554 md_in rfl (by decide) (Nat.le_of_ble_eq_true rfl) dX1_unreached_20 (fun v5 u6 _ q => ?_)
    obtain ⟨ev5, eu6⟩ := q
    rw [eu6, ev5]
    refine zv_if_ne (tgt := 28) G (fr_in hw (zrl_i rx2) (zrl_k 0 (by decide) (by decide)) (zrl_i (w32_r _))) (by decide) dX1_unreached_23 (fun c25 => ?_) (fun c25 => ?_)
    · exact kf22 (fun q => q.elim c24 c25)
    · exact kt21 (Or.inr c25)
set_option maxHeartbeats 4000000 in
set_option maxRecDepth 100000 in
theorem cpT_newValue_0 {Γ : ZG TW} {D : TD} {B0 d : Nat} {lim : Nat × Nat} (G : ZOk Γ cX1_newValue RX1 5 (KnT D B0) (ZT D B0)) (M : ZRm Γ (d + 1) lim (some .int) "newValue" []) (S : SdT d D B0 Γ.l lim) (hk : 0 ≤ d) {x1 : Int} {x2 : Int} {x3 : Int} {w : TW} (rx1 : zr x1) (rx2 : zr x2) (rx3 : zrl x3) (h : pT_newValue_0 (wpT d) (fun v w => Γ.Q (.inl (some (ai v))) w) x1 x2 x3 w) : ZV Γ w 0 [(0, ar (D.x + 1)), (1, ai x1), (2, ai x2), (3, al x3)] [] := by
  refine zt_tok G (fun hw => ?_)
  refine zv_aload_n G rfl rfl dX1_newValue_0 ?_
  refine zt_get (k := 109) (v := ai (tI w 109)) G (by decide) q2264 rfl dX1_newValue_1 ?_
  refine zv_sipush (a := 160) G (by decide) dX1_newValue_4 ?_
  refine zv_icmp_ne (tgt := 13) G (hw.i 109 (by decide)) (zr_k 160 (by decide) (by decide)) (by decide) dX1_newValue_7 (fun c1 => ?_) (fun c1 => ?_)
  · have h := h.2 c1
    refine zv_aload_n G rfl rfl dX1_newValue_13 ?_
    refine zt_get (k := 110) (v := ar (D.ad 110 + 1)) G (by decide) q2265 rfl dX1_newValue_14 ?_
    refine zv_aload_n G rfl rfl dX1_newValue_17 ?_
    refine zt_get (k := 109) (v := ai (tI w 109)) G (by decide) q2264 rfl dX1_newValue_18 ?_
    refine zv_iload_n G rfl rfl dX1_newValue_21 ?_
    have o3 := h.1
    have h := h.2
    refine zt_iast (f := 110) G (by decide) rfl (hw.i 109 (by decide)) rx1 o3.1 o3.2 dX1_newValue_22 (fun u2 eu2 => ?_)
    have h := h u2 eu2
    refine zt_tok G (fun hu2 => ?_)
    refine zv_aload_n G rfl rfl dX1_newValue_23 ?_
    refine zt_get (k := 111) (v := ar (D.ad 111 + 1)) G (by decide) q2266 rfl dX1_newValue_24 ?_
    refine zv_aload_n G rfl rfl dX1_newValue_27 ?_
    refine zt_get (k := 109) (v := ai (tI u2 109)) G (by decide) q2264 rfl dX1_newValue_28 ?_
    refine zv_iload_n G rfl rfl dX1_newValue_31 ?_
    have o5 := h.1
    have h := h.2
    refine zt_iast (f := 111) G (by decide) rfl (hu2.i 109 (by decide)) rx2 o5.1 o5.2 dX1_newValue_32 (fun u4 eu4 => ?_)
    have h := h u4 eu4
    refine zt_tok G (fun hu4 => ?_)
    refine zv_aload_n G rfl rfl dX1_newValue_33 ?_
    refine zt_get (k := 112) (v := ar (D.ad 112 + 1)) G (by decide) q2267 rfl dX1_newValue_34 ?_
    refine zv_aload_n G rfl rfl dX1_newValue_37 ?_
    refine zt_get (k := 109) (v := ai (tI u4 109)) G (by decide) q2264 rfl dX1_newValue_38 ?_
    refine zv_lload_n G rfl rfl dX1_newValue_41 ?_
    have o7 := h.1
    have h := h.2
    refine zt_last (f := 112) G (by decide) rfl (hu4.i 109 (by decide)) rx3 o7.1 o7.2 dX1_newValue_42 (fun u6 eu6 => ?_)
    have h := h u6 eu6
    refine zt_tok G (fun hu6 => ?_)
    refine zv_aload_n G rfl rfl dX1_newValue_43 ?_
    refine zt_get (k := 113) (v := ar (D.ad 113 + 1)) G (by decide) q2268 rfl dX1_newValue_44 ?_
    refine zv_aload_n G rfl rfl dX1_newValue_47 ?_
    refine zt_get (k := 109) (v := ai (tI u6 109)) G (by decide) q2264 rfl dX1_newValue_48 ?_
    refine zv_iconst (a := 1) G (by decide) dX1_newValue_51 ?_
    have o9 := h.1
    have h := h.2
    refine zt_iast (f := 113) G (by decide) rfl (hu6.i 109 (by decide)) (zr_k 1 (by decide) (by decide)) o9.1 o9.2 dX1_newValue_52 (fun u8 eu8 => ?_)
    have h := h u8 eu8
    refine zt_tok G (fun hu8 => ?_)
    refine zv_aload_n G rfl rfl dX1_newValue_53 ?_
    refine zv_dup G rfl dX1_newValue_54 ?_
    refine zt_get (k := 109) (v := ai (tI u8 109)) G (by decide) q2264 rfl dX1_newValue_55 ?_
    refine zv_iconst (a := 1) G (by decide) dX1_newValue_58 ?_
    refine zv_iadd G dX1_newValue_59 ?_
    refine zt_putI (k := 109) G (by decide) q2264 rfl (tyX1_ok 109 (by decide)) rfl (w32_r _) dX1_newValue_60 (fun u10 eu10 => ?_)
    have h := h u10 eu10
    refine zt_tok G (fun hu10 => ?_)
    refine zv_aload_n G rfl rfl dX1_newValue_63 ?_
    refine zt_get (k := 109) (v := ai (tI u10 109)) G (by decide) q2264 rfl dX1_newValue_64 ?_
    refine zv_iconst (a := 1) G (by decide) dX1_newValue_67 ?_
    refine zv_isub G dX1_newValue_68 ?_
    exact zv_iret (ty := .int) (w32_r _) G M rfl dX1_newValue_69 h
  · have h := h.1 c1
    refine zv_bipush (a := (-3)) G (by decide) dX1_newValue_10 ?_
    exact zv_iret (ty := .int) (zr_k (-3) (by decide) (by decide)) G M rfl dX1_newValue_12 h
set_option maxHeartbeats 4000000 in
set_option maxRecDepth 100000 in
theorem cpT_whole_0 {Γ : ZG TW} {D : TD} {B0 d : Nat} {lim : Nat × Nat} (G : ZOk Γ cX1_whole RX1 2 (KnT D B0) (ZT D B0)) (M : ZRm Γ (d + 1) lim (some .int) "whole" []) (S : SdT d D B0 Γ.l lim) (hk : 0 ≤ d) {x1 : Int} {w : TW} (rx1 : zr x1) (h : pT_whole_0 (wpT d) (fun v w => Γ.Q (.inl (some (ai v))) w) x1 w) : ZV Γ w 0 [(0, ar (D.x + 1)), (1, ai x1)] [] := by
  refine zt_tok G (fun hw => ?_)
  refine zv_aload_n G rfl rfl dX1_whole_0 ?_
  refine zv_iconst (a := 0) G (by decide) dX1_whole_1 ?_
  refine zv_iload_n G rfl rfl dX1_whole_2 ?_
  refine zv_lconst (a := 0) G (by decide) dX1_whole_3 ?_
  refine zt_callI (as := [ai 0, ai x1, al 0]) G M (S 79 _ rfl _ _ _ h (zoks_cons (zr_k 0 (by decide) (by decide)) (zoks_cons rx1 (zoks_cons (zrl_k 0 (by decide) (by decide)) zoks_nil)))) q2885 q2887 qs128 q2888 md_newValue rfl (by decide) (Nat.le_of_ble_eq_true rfl) dX1_whole_4 (fun v2 u1 rv2 h => ?_)
  refine zt_tok G (fun hu1 => ?_)
  exact zv_iret (ty := .int) rv2 G M rfl dX1_whole_7 h
set_option maxHeartbeats 4000000 in
set_option maxRecDepth 100000 in
theorem cpT_truth_0 {Γ : ZG TW} {D : TD} {B0 d : Nat} {lim : Nat × Nat} (G : ZOk Γ cX1_truth RX1 2 (KnT D B0) (ZT D B0)) (M : ZRm Γ (d + 1) lim (some .int) "truth" []) (S : SdT d D B0 Γ.l lim) (hk : 0 ≤ d) {x1 : Int} {w : TW} (rx1 : zr x1) (h : pT_truth_0 (wpT d) (fun v w => Γ.Q (.inl (some (ai v))) w) x1 w) : ZV Γ w 0 [(0, ar (D.x + 1)), (1, ai x1)] [] := by
  refine zt_tok G (fun hw => ?_)
  refine zv_aload_n G rfl rfl dX1_truth_0 ?_
  refine zv_iconst (a := 1) G (by decide) dX1_truth_1 ?_
  refine zv_iload_n G rfl rfl dX1_truth_2 ?_
  have kj4 : ∀ v1 : Int, v1 = (if ¬ (x1 = 0) then 1 else 0) → ZV Γ w 11 [(0, ar (D.x + 1)), (1, ai x1)] (ai v1 :: ai 1 :: ar (D.x + 1) :: []) := by
    intro v1 ev1
    have h := h v1 ev1
    have rv1 : zr v1 := by rw [ev1]; exact (zr_ite (zr_k 1 (by decide) (by decide)) (zr_k 0 (by decide) (by decide)))
    have bv1 : v1 = 0 ∨ v1 = 1 := by rw [ev1]; exact (zb_ite (Or.inr rfl) (Or.inl rfl))
    refine zv_lconst (a := 0) G (by decide) dX1_truth_11 ?_
    refine zt_callI (as := [ai 1, ai v1, al 0]) G M (S 79 _ rfl _ _ _ h (zoks_cons (zr_k 1 (by decide) (by decide)) (zoks_cons rv1 (zoks_cons (zrl_k 0 (by decide) (by decide)) zoks_nil)))) q2885 q2887 qs128 q2888 md_newValue rfl (by decide) (Nat.le_of_ble_eq_true rfl) dX1_truth_12 (fun v3 u2 rv3 h => ?_)
    refine zt_tok G (fun hu2 => ?_)
    exact zv_iret (ty := .int) rv3 G M rfl dX1_truth_15 h
  refine zv_if_eq (tgt := 10) G rx1 (by decide) dX1_truth_3 (fun c5 => ?_) (fun c5 => ?_)
  · refine zv_iconst (a := 0) G (by decide) dX1_truth_10 ?_
    exact kj4 _ (if_neg (fun q => q c5)).symm
  · refine zv_iconst (a := 1) G (by decide) dX1_truth_6 ?_
    refine zv_goto (tgt := 11) G (by decide) dX1_truth_7 ?_
    exact kj4 _ (if_pos c5).symm
set_option maxHeartbeats 4000000 in
set_option maxRecDepth 100000 in
theorem cpT_letters_92 {Γ : ZG TW} {D : TD} {B0 d : Nat} {lim : Nat × Nat} (G : ZOk Γ cX1_letters RX1 7 (KnT D B0) (ZT D B0)) (M : ZRm Γ (d + 1) lim (some .int) "letters" []) (S : SdT d D B0 Γ.l lim) (hk : 2 ≤ d) {s0 : Int} {w : TW} (rs0 : zr s0) (h : pT_letters_92 (wpT d) (fun v w => Γ.Q (.inl (some (ai v))) w) s0 w) : ZV Γ w 92 [] [ai s0] := by
  refine zt_tok G (fun hw => ?_)
  exact zv_iret (ty := .int) rs0 G M rfl dX1_letters_92 h
set_option maxHeartbeats 4000000 in
set_option maxRecDepth 100000 in
theorem cpT_letters_76 {Γ : ZG TW} {D : TD} {B0 d : Nat} {lim : Nat × Nat} (G : ZOk Γ cX1_letters RX1 7 (KnT D B0) (ZT D B0)) (M : ZRm Γ (d + 1) lim (some .int) "letters" []) (S : SdT d D B0 Γ.l lim) (hk : 2 ≤ d) {x1 : Int} {x3 : Int} {x4 : Int} {w : TW} (rx1 : zrl x1) (rx3 : zr x3) (rx4 : zr x4) (h : pT_letters_76 (wpT d) (fun v w => Γ.Q (.inl (some (ai v))) w) x1 x3 x4 w) : ZV Γ w 76 [(0, ar (D.x + 1)), (1, al x1), (3, ai x3), (4, ai x4)] [] := by
  refine zt_tok G (fun hw => ?_)
  refine zv_iload G rfl dX1_letters_76 ?_
  refine zv_if_eq (tgt := 91) G rx4 (by decide) dX1_letters_78 (fun c2 => ?_) (fun c2 => ?_)
  · have h := h.1 c2
    refine zv_iconst (a := (-1)) G (by decide) dX1_letters_91 ?_
    exact zv_pick [] rfl (cpT_letters_92 G M S hk (zr_k (-1) (by decide) (by decide)) h)
  · have h := h.2 c2
    refine zv_aload_n G rfl rfl dX1_letters_81 ?_
    refine zv_iconst (a := 2) G (by decide) dX1_letters_82 ?_
    refine zv_iload_n G rfl rfl dX1_letters_83 ?_
    refine zv_lload_n G rfl rfl dX1_letters_84 ?_
    refine zt_callI (as := [ai 2, ai x3, al x1]) G M (S 79 _ rfl _ _ _ h (zoks_cons (zr_k 2 (by decide) (by decide)) (zoks_cons rx3 (zoks_cons rx1 zoks_nil)))) q2885 q2887 qs128 q2888 md_newValue rfl (by decide) (Nat.le_of_ble_eq_true rfl) dX1_letters_85 (fun v4 u3 rv4 h => ?_)
    refine zt_tok G (fun hu3 => ?_)
    refine zv_goto (tgt := 92) G (by decide) dX1_letters_88 ?_
    exact zv_pick [] rfl (cpT_letters_92 G M S hk rv4 h)
set_option maxHeartbeats 4000000 in
set_option maxRecDepth 100000 in
theorem cpT_letters_9 {Γ : ZG TW} {D : TD} {B0 d : Nat} {lim : Nat × Nat} (G : ZOk Γ cX1_letters RX1 7 (KnT D B0) (ZT D B0)) (M : ZRm Γ (d + 1) lim (some .int) "letters" []) (S : SdT d D B0 Γ.l lim) (hk : 2 ≤ d) {x1 : Int} {x3 : Int} {x4 : Int} {x5 : Int} {w : TW} (rx1 : zrl x1) (rx3 : zr x3) (rx4 : zr x4) (rx5 : zr x5) (h : pT_letters_9 (wpT d) (fun v w => Γ.Q (.inl (some (ai v))) w) x1 x3 x4 x5 w) : ZV Γ w 9 [(0, ar (D.x + 1)), (1, al x1), (3, ai x3), (4, ai x4), (5, ai x5)] [] := by
  refine h (fun x3 x4 x5 w => zr x3 → zr x4 → zr x5 → ZV Γ w 9 [(0, ar (D.x + 1)), (1, al x1), (3, ai x3), (4, ai x4), (5, ai x5)] []) ?_ rx3 rx4 rx5
  clear h
  intro x3 x4 x5 w h rx3 rx4 rx5
  have hI9 : ∀ (x3 : Int) (x4 : Int) (x5 : Int) (w : TW), (fun x3 x4 x5 w => zr x3 → zr x4 → zr x5 → ZV Γ w 9 [(0, ar (D.x + 1)), (1, al x1), (3, ai x3), (4, ai x4), (5, ai x5)] []) x3 x4 x5 w → zr x3 → zr x4 → zr x5 → ZV Γ w 9 [(0, ar (D.x + 1)), (1, al x1), (3, ai x3), (4, ai x4), (5, ai x5)] [] := fun _ _ _ _ z => z
  refine zt_tok G (fun hw => ?_)
  refine zv_iload G rfl dX1_letters_9 ?_
  refine zv_if_lt (tgt := 76) G rx5 (by decide) dX1_letters_11 (fun c1 => ?_) (fun c1 => ?_)
  · have h := h.1 c1
    exact zv_pick [0, 1, 3, 4] rfl (cpT_letters_76 G M S hk rx1 rx3 rx4 h)
  · have h := h.2 c1
    refine zv_lload_n G rfl rfl dX1_letters_14 ?_
    refine zv_bipush (a := 8) G (by decide) dX1_letters_15 ?_
    refine zv_iload G rfl dX1_letters_17 ?_
    refine zv_imul G dX1_letters_19 ?_
    refine zv_lshr G dX1_letters_20 ?_
    refine zv_ldc2 (a := 255) G (G.kn.2.1 _ q2555 _) (by decide) dX1_letters_21 ?_
    refine zv_land G dX1_letters_24 ?_
    refine zv_l2i G dX1_letters_25 ?_
    refine zv_istoreN G (by decide) dX1_letters_26 (fun x6_5 ex6_5 => ?_)
    have h := h x6_5 ex6_5
    have rx6_5 : zr x6_5 := by rw [ex6_5]; exact (w32_r _)
    refine zv_iload G rfl dX1_letters_28 ?_
    have kj16 : ∀ v10 : Int, v10 = (if ¬ (x4 = 0) ∧ (¬ ((ff_isSmall x6_5 w) = 0) ∨ ((x6_5 = 0) ∧ (x3 = 0))) then 1 else 0) → ZV Γ w 55 [(6, ai x6_5), (0, ar (D.x + 1)), (1, al x1), (3, ai x3), (4, ai x4), (5, ai x5)] (ai v10 :: []) := by
      intro v10 ev10
      have h := h v10 ev10
      have rv10 : zr v10 := by rw [ev10]; exact (zr_ite (zr_k 1 (by decide) (by decide)) (zr_k 0 (by decide) (by decide)))
      have bv10 : v10 = 0 ∨ v10 = 1 := by rw [ev10]; exact (zb_ite (Or.inr rfl) (Or.inl rfl))
      refine zv_istore G (by decide) rfl dX1_letters_55 ?_
      refine zv_iload_n G rfl rfl dX1_letters_57 ?_
      refine zv_iload G rfl dX1_letters_58 ?_
      have kj14 : ∀ v11 : Int, v11 = (if ¬ (x6_5 = 0) then 1 else 0) → ZV Γ w 68 [(4, ai v10), (6, ai x6_5), (0, ar (D.x + 1)), (1, al x1), (3, ai x3), (5, ai x5)] (ai v11 :: ai x3 :: []) := by
        intro v11 ev11
        have h := h v11 ev11
        have rv11 : zr v11 := by rw [ev11]; exact (zr_ite (zr_k 1 (by decide) (by decide)) (zr_k 0 (by decide) (by decide)))
        have bv11 : v11 = 0 ∨ v11 = 1 := by rw [ev11]; exact (zb_ite (Or.inr rfl) (Or.inl rfl))
        refine zv_iadd G dX1_letters_68 ?_
        refine zv_istore_nN G rfl (by decide) dX1_letters_69 (fun x3_12 ex3_12 => ?_)
        have h := h x3_12 ex3_12
        have rx3_12 : zr x3_12 := by rw [ex3_12]; exact (w32_r _)
        refine zv_iincN G rfl (by decide) dX1_letters_70 (fun x5_13 ex5_13 => ?_)
        have h := h x5_13 ex5_13
        have rx5_13 : zr x5_13 := by rw [ex5_13]; exact w32_r _
        refine zv_goto (tgt := 9) G (by decide) dX1_letters_73 ?_
        exact zv_pick [0, 1, 3, 4, 5] rfl (hI9 _ _ _ _ h rx3_12 rv10 rx5_13)
      refine zv_if_eq (tgt := 67) G rx6_5 (by decide) dX1_letters_60 (fun c15 => ?_) (fun c15 => ?_)
      · refine zv_iconst (a := 0) G (by decide) dX1_letters_67 ?_
        exact kj14 _ (if_neg (fun q => q c15)).symm
      · refine zv_iconst (a := 1) G (by decide) dX1_letters_63 ?_
        refine zv_goto (tgt := 68) G (by decide) dX1_letters_64 ?_
        exact kj14 _ (if_pos c15).symm
    refine zv_if_eq (tgt := 54) G rx4 (by decide) dX1_letters_30 (fun c17 => ?_) (fun c17 => ?_)
    · refine zv_iconst (a := 0) G (by decide) dX1_letters_54 ?_
      exact kj16 _ (if_neg (fun q => q.1 c17)).symm
    · refine zv_iload G rfl dX1_letters_33 ?_
      refine zt_callSI (as := [ai x6_5]) G M (S 6 _ rfl _ _ _ (fu_isSmall (by omega)) (zoks_cons rx6_5 zoks_nil)) q2572 q2573 q2574 md_isSmall rfl (by decide) (Nat.le_of_ble_eq_true rfl) dX1_letters_35 (fun v8 u9 _ q => ?_)
      obtain ⟨ev8, eu9⟩ := q
      rw [eu9, ev8]
      refine zv_if_ne (tgt := 50) G (fr_isSmall hw rx6_5) (by decide) dX1_letters_38 (fun c18 => ?_) (fun c18 => ?_)
      · refine zv_iconst (a := 1) G (by decide) dX1_letters_50 ?_
        refine zv_goto (tgt := 55) G (by decide) dX1_letters_51 ?_
        exact kj16 _ (if_pos ⟨c17, (Or.inl c18)⟩).symm
      · refine zv_iload G rfl dX1_letters_41 ?_
        refine zv_if_ne (tgt := 54) G rx6_5 (by decide) dX1_letters_43 (fun c19 => ?_) (fun c19 => ?_)
        · refine zv_iconst (a := 0) G (by decide) dX1_letters_54 ?_
          exact kj16 _ (if_neg (fun q => (fun q => q.elim (fun z => z c18) (fun q => c19 q.1)) q.2)).symm
        · refine zv_iload_n G rfl rfl dX1_letters_46 ?_
          refine zv_if_ne (tgt := 54) G rx3 (by decide) dX1_letters_47 (fun c20 => ?_) (fun c20 => ?_)
          · refine zv_iconst (a := 0) G (by decide) dX1_letters_54 ?_
            exact kj16 _ (if_neg (fun q => (fun q => q.elim (fun z => z c18) (fun q => c20 q.2)) q.2)).symm
          · refine zv_iconst (a := 1) G (by decide) dX1_letters_50 ?_
            refine zv_goto (tgt := 55) G (by decide) dX1_letters_51 ?_
            exact kj16 _ (if_pos ⟨c17, (Or.inr ⟨c19, c20⟩)⟩).symm
set_option maxHeartbeats 4000000 in
set_option maxRecDepth 100000 in
theorem cpT_letters_0 {Γ : ZG TW} {D : TD} {B0 d : Nat} {lim : Nat × Nat} (G : ZOk Γ cX1_letters RX1 7 (KnT D B0) (ZT D B0)) (M : ZRm Γ (d + 1) lim (some .int) "letters" []) (S : SdT d D B0 Γ.l lim) (hk : 2 ≤ d) {x1 : Int} {w : TW} (rx1 : zrl x1) (h : pT_letters_0 (wpT d) (fun v w => Γ.Q (.inl (some (ai v))) w) x1 w) : ZV Γ w 0 [(0, ar (D.x + 1)), (1, al x1)] [] := by
  refine zt_tok G (fun hw => ?_)
  refine zv_iconst (a := 0) G (by decide) dX1_letters_0 ?_
  refine zv_istore_n G rfl (by decide) rfl dX1_letters_1 ?_
  refine zv_iconst (a := 1) G (by decide) dX1_letters_2 ?_
  refine zv_istore G (by decide) rfl dX1_letters_3 ?_
  refine zv_bipush (a := 7) G (by decide) dX1_letters_5 ?_
  refine zv_istore G (by decide) rfl dX1_letters_7 ?_
  exact zv_pick [0, 1, 3, 4, 5] rfl (cpT_letters_9 G M S hk rx1 (zr_k 0 (by decide) (by decide)) (zr_k 1 (by decide) (by decide)) (zr_k 7 (by decide) (by decide)) h)
set_option maxHeartbeats 4000000 in
set_option maxRecDepth 100000 in
theorem cpT_nothing_0 {Γ : ZG TW} {D : TD} {B0 d : Nat} {lim : Nat × Nat} (G : ZOk Γ cX1_nothing RX1 1 (KnT D B0) (ZT D B0)) (M : ZRm Γ (d + 1) lim (some .int) "nothing" []) (S : SdT d D B0 Γ.l lim) (hk : 0 ≤ d) {w : TW} (h : pT_nothing_0 (wpT d) (fun v w => Γ.Q (.inl (some (ai v))) w) w) : ZV Γ w 0 [(0, ar (D.x + 1))] [] := by
  refine zt_tok G (fun hw => ?_)
  refine zv_aload_n G rfl rfl dX1_nothing_0 ?_
  refine zv_iconst (a := 3) G (by decide) dX1_nothing_1 ?_
  refine zv_bipush (a := (-4)) G (by decide) dX1_nothing_2 ?_
  refine zv_lconst (a := 0) G (by decide) dX1_nothing_4 ?_
  refine zt_callI (as := [ai 3, ai (-4), al 0]) G M (S 79 _ rfl _ _ _ h (zoks_cons (zr_k 3 (by decide) (by decide)) (zoks_cons (zr_k (-4) (by decide) (by decide)) (zoks_cons (zrl_k 0 (by decide) (by decide)) zoks_nil)))) q2885 q2887 qs128 q2888 md_newValue rfl (by decide) (Nat.le_of_ble_eq_true rfl) dX1_nothing_5 (fun v2 u1 rv2 h => ?_)
  refine zt_tok G (fun hu1 => ?_)
  exact zv_iret (ty := .int) rv2 G M rfl dX1_nothing_8 h
set_option maxHeartbeats 4000000 in
set_option maxRecDepth 100000 in
theorem cpT_isValue_0 {Γ : ZG TW} {D : TD} {B0 d : Nat} {lim : Nat × Nat} (G : ZOk Γ cX1_isValue RX1 2 (KnT D B0) (ZT D B0)) (M : ZRm Γ (d + 1) lim (some .boolean) "isValue" []) (S : SdT d D B0 Γ.l lim) (hk : 1 ≤ d) {x1 : Int} {w : TW} (rx1 : zr x1) (h : pT_isValue_0 (wpT d) (fun v w => Γ.Q (.inl (some (ai v))) w) x1 w) : ZV Γ w 0 [(0, ar (D.x + 1)), (1, ai x1)] [] := by
  refine zt_tok G (fun hw => ?_)
  refine zv_iload_n G rfl rfl dX1_isValue_0 ?_
  refine zv_i2l G rx1 dX1_isValue_1 ?_
  refine zv_lconst (a := 0) G (by decide) dX1_isValue_2 ?_
  refine zv_aload_n G rfl rfl dX1_isValue_3 ?_
  refine zt_get (k := 109) (v := ai (tI w 109)) G (by decide) q2264 rfl dX1_isValue_4 ?_
  refine zv_iconst (a := 1) G (by decide) dX1_isValue_7 ?_
  refine zv_isub G dX1_isValue_8 ?_
  refine zv_i2l G (w32_r _) dX1_isValue_9 ?_
  refine zt_callSI (as := [al x1, al 0, al (w32 ((tI w 109) - 1))]) G M (S 1 _ rfl _ _ _ (fu_in (by omega)) (zoks_cons (zrl_i rx1) (zoks_cons (zrl_k 0 (by decide) (by decide)) (zoks_cons (zrl_i (w32_r _)) zoks_nil)))) q2552 q2553 q2554 md_in rfl (by decide) (Nat.le_of_ble_eq_true rfl) dX1_isValue_10 (fun v1 u2 _ q => ?_)
  obtain ⟨ev1, eu2⟩ := q
  rw [eu2, ev1]
  exact zv_iret (ty := .boolean) (fr_in hw (zrl_i rx1) (zrl_k 0 (by decide) (by decide)) (zrl_i (w32_r _))) G M (zn_Z (fb_in _ _ _ _)) dX1_isValue_13 h
set_option maxHeartbeats 4000000 in
set_option maxRecDepth 100000 in
theorem cpT_isOfSort_62 {Γ : ZG TW} {D : TD} {B0 d : Nat} {lim : Nat × Nat} (G : ZOk Γ cX1_isOfSort RX1 3 (KnT D B0) (ZT D B0)) (M : ZRm Γ (d + 1) lim (some .boolean) "isOfSort" []) (S : SdT d D B0 Γ.l lim) (hk : 0 ≤ d) {s0 : Int} {w : TW} (rs0 : zr s0) (h : pT_isOfSort_62 (wpT d) (fun v w => Γ.Q (.inl (some (ai v))) w) s0 w) : ZV Γ w 62 [] [ai s0] := by
  refine zt_tok G (fun hw => ?_)
  exact zv_iret (ty := .boolean) rs0 G M (zn_Z h.1) dX1_isOfSort_62 h.2
set_option maxHeartbeats 4000000 in
set_option maxRecDepth 100000 in
theorem cpT_isOfSort_57 {Γ : ZG TW} {D : TD} {B0 d : Nat} {lim : Nat × Nat} (G : ZOk Γ cX1_isOfSort RX1 3 (KnT D B0) (ZT D B0)) (M : ZRm Γ (d + 1) lim (some .boolean) "isOfSort" []) (S : SdT d D B0 Γ.l lim) (hk : 0 ≤ d) {w : TW} (h : pT_isOfSort_57 (wpT d) (fun v w => Γ.Q (.inl (some (ai v))) w) w) : ZV Γ w 57 [] [] := by
  refine zt_tok G (fun hw => ?_)
  refine zv_iconst (a := 1) G (by decide) dX1_isOfSort_57 ?_
  refine zv_goto (tgt := 62) G (by decide) dX1_isOfSort_58 ?_
  exact zv_pick [] rfl (cpT_isOfSort_62 G M S hk (zr_k 1 (by decide) (by decide)) h)
set_option maxHeartbeats 4000000 in
set_option maxRecDepth 100000 in
theorem cpT_isOfSort_61 {Γ : ZG TW} {D : TD} {B0 d : Nat} {lim : Nat × Nat} (G : ZOk Γ cX1_isOfSort RX1 3 (KnT D B0) (ZT D B0)) (M : ZRm Γ (d + 1) lim (some .boolean) "isOfSort" []) (S : SdT d D B0 Γ.l lim) (hk : 0 ≤ d) {w : TW} (h : pT_isOfSort_61 (wpT d) (fun v w => Γ.Q (.inl (some (ai v))) w) w) : ZV Γ w 61 [] [] := by
  refine zt_tok G (fun hw => ?_)
  refine zv_iconst (a := 0) G (by decide) dX1_isOfSort_61 ?_
  exact zv_pick [] rfl (cpT_isOfSort_62 G M S hk (zr_k 0 (by decide) (by decide)) h)
set_option maxHeartbeats 4000000 in
set_option maxRecDepth 100000 in
theorem cpT_isOfSort_0 {Γ : ZG TW} {D : TD} {B0 d : Nat} {lim : Nat × Nat} (G : ZOk Γ cX1_isOfSort RX1 3 (KnT D B0) (ZT D B0)) (M : ZRm Γ (d + 1) lim (some .boolean) "isOfSort" []) (S : SdT d D B0 Γ.l lim) (hk : 0 ≤ d) {x1 : Int} {x2 : Int} {w : TW} (rx1 : zr x1) (rx2 : zr x2) (h : pT_isOfSort_0 (wpT d) (fun v w => Γ.Q (.inl (some (ai v))) w) x1 x2 w) : ZV Γ w 0 [(0, ar (D.x + 1)), (1, ai x1), (2, ai x2)] [] := by
  refine zt_tok G (fun hw => ?_)
  refine zv_iload_n G rfl rfl dX1_isOfSort_0 ?_
  refine zv_iconst (a := 3) G (by decide) dX1_isOfSort_1 ?_
  refine zv_icmp_ge (tgt := 21) G rx2 (zr_k 3 (by decide) (by decide)) (by decide) dX1_isOfSort_2 (fun c1 => ?_) (fun c1 => ?_)
  · have h := h.1 c1
    refine zv_aload_n G rfl rfl dX1_isOfSort_21 ?_
    refine zt_get (k := 110) (v := ar (D.ad 110 + 1)) G (by decide) q2265 rfl dX1_isOfSort_22 ?_
    refine zv_iload_n G rfl rfl dX1_isOfSort_25 ?_
    have o2 := h.1
    have h := h.2
    refine zt_iald (f := 110) G (by decide) rfl rx1 o2.1 o2.2 dX1_isOfSort_26 ?_
    refine zv_iconst (a := 3) G (by decide) dX1_isOfSort_27 ?_
    refine zv_icmp_eq (tgt := 57) G (hw.a 110 _ (by decide)) (zr_k 3 (by decide) (by decide)) (by decide) dX1_isOfSort_28 (fun c3 => ?_) (fun c3 => ?_)
    · have h := h.1 c3
      exact zv_pick [] rfl (cpT_isOfSort_57 G M S hk h)
    · have h := h.2 c3
      refine zv_aload_n G rfl rfl dX1_isOfSort_31 ?_
      refine zt_get (k := 110) (v := ar (D.ad 110 + 1)) G (by decide) q2265 rfl dX1_isOfSort_32 ?_
      refine zv_iload_n G rfl rfl dX1_isOfSort_35 ?_
      have o4 := h.1
      have h := h.2
      refine zt_iald (f := 110) G (by decide) rfl rx1 o4.1 o4.2 dX1_isOfSort_36 ?_
      refine zv_iconst (a := 4) G (by decide) dX1_isOfSort_37 ?_
      refine zv_icmp_ne (tgt := 61) G (hw.a 110 _ (by decide)) (zr_k 4 (by decide) (by decide)) (by decide) dX1_isOfSort_38 (fun c5 => ?_) (fun c5 => ?_)
      · have h := h.2 c5
        exact zv_pick [] rfl (cpT_isOfSort_61 G M S hk h)
      · have h := h.1 c5
        refine zv_aload_n G rfl rfl dX1_isOfSort_41 ?_
        refine zv_aload_n G rfl rfl dX1_isOfSort_42 ?_
        refine zt_get (k := 111) (v := ar (D.ad 111 + 1)) G (by decide) q2266 rfl dX1_isOfSort_43 ?_
        refine zv_iload_n G rfl rfl dX1_isOfSort_46 ?_
        have o6 := h.1
        have h := h.2
        refine zt_iald (f := 111) G (by decide) rfl rx1 o6.1 o6.2 dX1_isOfSort_47 ?_
        refine zv_iload_n G rfl rfl dX1_isOfSort_48 ?_
        refine zv_iconst (a := 3) G (by decide) dX1_isOfSort_49 ?_
        refine zv_isub G dX1_isOfSort_50 ?_
        refine zt_callI (as := [ai (tA w 111 x1), ai (w32 (x2 - 3))]) G M (S 26 _ rfl _ _ _ h (zoks_cons (hw.a 111 _ (by decide)) (zoks_cons (w32_r _) zoks_nil))) q2670 q2672 qs87 q2673 md_isOf rfl (by decide) (Nat.le_of_ble_eq_true rfl) dX1_isOfSort_51 (fun v8 u7 rv8 h => ?_)
        refine zt_tok G (fun hu7 => ?_)
        refine zv_if_eq (tgt := 61) G rv8 (by decide) dX1_isOfSort_54 (fun c9 => ?_) (fun c9 => ?_)
        · have h := h.1 c9
          exact zv_pick [] rfl (cpT_isOfSort_61 G M S hk h)
        · have h := h.2 c9
          exact zv_pick [] rfl (cpT_isOfSort_57 G M S hk h)
  · have h := h.2 c1
    refine zv_aload_n G rfl rfl dX1_isOfSort_5 ?_
    refine zt_get (k := 110) (v := ar (D.ad 110 + 1)) G (by decide) q2265 rfl dX1_isOfSort_6 ?_
    refine zv_iload_n G rfl rfl dX1_isOfSort_9 ?_
    have o10 := h.1
    have h := h.2
    refine zt_iald (f := 110) G (by decide) rfl rx1 o10.1 o10.2 dX1_isOfSort_10 ?_
    refine zv_iload_n G rfl rfl dX1_isOfSort_11 ?_
    have kj12 : ∀ v11 : Int, v11 = (if (tA w 110 x1) = x2 then 1 else 0) → ZV Γ w 20 [(0, ar (D.x + 1)), (1, ai x1), (2, ai x2)] (ai v11 :: []) := by
      intro v11 ev11
      have h := h v11 ev11
      have rv11 : zr v11 := by rw [ev11]; exact (zr_ite (zr_k 1 (by decide) (by decide)) (zr_k 0 (by decide) (by decide)))
      have bv11 : v11 = 0 ∨ v11 = 1 := by rw [ev11]; exact (zb_ite (Or.inr rfl) (Or.inl rfl))
      exact zv_iret (ty := .boolean) rv11 G M (zn_Z bv11) dX1_isOfSort_20 h
    refine zv_icmp_ne (tgt := 19) G (hw.a 110 _ (by decide)) rx2 (by decide) dX1_isOfSort_12 (fun c13 => ?_) (fun c13 => ?_)
    · refine zv_iconst (a := 0) G (by decide) dX1_isOfSort_19 ?_
      exact kj12 _ (if_neg c13).symm
    · refine zv_iconst (a := 1) G (by decide) dX1_isOfSort_15 ?_
      refine zv_goto (tgt := 20) G (by decide) dX1_isOfSort_16 ?_
      exact kj12 _ (if_pos c13).symm
set_option maxHeartbeats 4000000 in
set_option maxRecDepth 100000 in
theorem cpT_make_16 {Γ : ZG TW} {D : TD} {B0 d : Nat} {lim : Nat × Nat} (G : ZOk Γ cX1_make RX1 9 (KnT D B0) (ZT D B0)) (M : ZRm Γ (d + 1) lim (some .int) "make" []) (S : SdT d D B0 Γ.l lim) (hk : 2 ≤ d) {w : TW} (h : pT_make_16 (wpT d) (fun v w => Γ.Q (.inl (some (ai v))) w) w) : ZV Γ w 16 [] [] := by
  refine zt_tok G (fun hw => ?_)
  refine zv_iconst (a := (-1)) G (by decide) dX1_make_16 ?_
  exact zv_iret (ty := .int) (zr_k (-1) (by decide) (by decide)) G M rfl dX1_make_17 h
set_option maxHeartbeats 4000000 in
set_option maxRecDepth 100000 in
theorem cpT_make_135 {Γ : ZG TW} {D : TD} {B0 d : Nat} {lim : Nat × Nat} (G : ZOk Γ cX1_make RX1 9 (KnT D B0) (ZT D B0)) (M : ZRm Γ (d + 1) lim (some .int) "make" []) (S : SdT d D B0 Γ.l lim) (hk : 2 ≤ d) {w : TW} (h : pT_make_135 (wpT d) (fun v w => Γ.Q (.inl (some (ai v))) w) w) : ZV Γ w 135 [] [] := by
  refine zt_tok G (fun hw => ?_)
  refine zv_bipush (a := (-3)) G (by decide) dX1_make_135 ?_
  exact zv_iret (ty := .int) (zr_k (-3) (by decide) (by decide)) G M rfl dX1_make_137 h
set_option maxHeartbeats 4000000 in
set_option maxRecDepth 100000 in
theorem cpT_make_220 {Γ : ZG TW} {D : TD} {B0 d : Nat} {lim : Nat × Nat} (G : ZOk Γ cX1_make RX1 9 (KnT D B0) (ZT D B0)) (M : ZRm Γ (d + 1) lim (some .int) "make" []) (S : SdT d D B0 Γ.l lim) (hk : 2 ≤ d) {x7 : Int} {w : TW} (rx7 : zr x7) (h : pT_make_220 (wpT d) (fun v w => Γ.Q (.inl (some (ai v))) w) x7 w) : ZV Γ w 220 [(7, ai x7)] [] := by
  refine zt_tok G (fun hw => ?_)
  refine zv_iload G rfl dX1_make_220 ?_
  exact zv_iret (ty := .int) rx7 G M rfl dX1_make_222 h
set_option maxHeartbeats 4000000 in
set_option maxRecDepth 100000 in
theorem cpT_make_159 {Γ : ZG TW} {D : TD} {B0 d : Nat} {lim : Nat × Nat} (G : ZOk Γ cX1_make RX1 9 (KnT D B0) (ZT D B0)) (M : ZRm Γ (d + 1) lim (some .int) "make" []) (S : SdT d D B0 Γ.l lim) (hk : 2 ≤ d) {x1 : Int} {x2 : Int} {x3 : Int} {x4 : Int} {x5 : Int} {x7 : Int} {x8 : Int} {w : TW} (rx1 : zr x1) (rx2 : zr x2) (rx3 : zr x3) (rx4 : zr x4) (rx5 : zr x5) (rx7 : zr x7) (rx8 : zr x8) (h : pT_make_159 (wpT d) (fun v w => Γ.Q (.inl (some (ai v))) w) x1 x2 x3 x4 x5 x7 x8 w) : ZV Γ w 159 [(0, ar (D.x + 1)), (1, ai x1), (2, ai x2), (3, ai x3), (4, ai x4), (5, ai x5), (7, ai x7), (8, ai x8)] [] := by
  refine h (fun x8 w => zr x8 → ZV Γ w 159 [(0, ar (D.x + 1)), (1, ai x1), (2, ai x2), (3, ai x3), (4, ai x4), (5, ai x5), (7, ai x7), (8, ai x8)] []) ?_ rx8
  clear h
  intro x8 w h rx8
  have hI159 : ∀ (x8 : Int) (w : TW), (fun x8 w => zr x8 → ZV Γ w 159 [(0, ar (D.x + 1)), (1, ai x1), (2, ai x2), (3, ai x3), (4, ai x4), (5, ai x5), (7, ai x7), (8, ai x8)] []) x8 w → zr x8 → ZV Γ w 159 [(0, ar (D.x + 1)), (1, ai x1), (2, ai x2), (3, ai x3), (4, ai x4), (5, ai x5), (7, ai x7), (8, ai x8)] [] := fun _ _ z => z
  refine zt_tok G (fun hw => ?_)
  refine zv_iload G rfl dX1_make_159 ?_
  refine zv_aload_n G rfl rfl dX1_make_161 ?_
  refine zt_get (k := 14) (v := ar (D.ad 14 + 1)) G (by decide) q2169 rfl dX1_make_162 ?_
  refine zv_iload_n G rfl rfl dX1_make_165 ?_
  have o13 := h.1
  have h := h.2
  refine zt_iald (f := 14) G (by decide) rfl rx1 o13.1 o13.2 dX1_make_166 ?_
  refine zv_icmp_ge (tgt := 220) G rx8 (hw.a 14 _ (by decide)) (by decide) dX1_make_167 (fun c14 => ?_) (fun c14 => ?_)
  · have h := h.1 c14
    exact zv_pick [7] rfl (cpT_make_220 G M S hk rx7 h)
  · have h := h.2 c14
    refine zv_aload_n G rfl rfl dX1_make_170 ?_
    refine zt_get (k := 114) (v := ar (D.ad 114 + 1)) G (by decide) q2269 rfl dX1_make_171 ?_
    refine zv_iconst (a := 4) G (by decide) dX1_make_174 ?_
    refine zv_iload G rfl dX1_make_175 ?_
    refine zv_imul G dX1_make_177 ?_
    refine zv_iload G rfl dX1_make_178 ?_
    refine zv_iadd G dX1_make_180 ?_
    refine zv_iload G rfl dX1_make_181 ?_
    have kj19 : ∀ v15 : Int, v15 = (if x8 = 0 then x2 else (if x8 = 1 then x3 else (if x8 = 2 then x4 else x5))) → ZV Γ w 213 [(0, ar (D.x + 1)), (1, ai x1), (2, ai x2), (3, ai x3), (4, ai x4), (5, ai x5), (7, ai x7), (8, ai x8)] (ai v15 :: ai (w32 ((w32 (4 * x7)) + x8)) :: ar (D.ad 114 + 1) :: []) := by
      intro v15 ev15
      have h := h v15 ev15
      have rv15 : zr v15 := by rw [ev15]; exact (zr_ite rx2 (zr_ite rx3 (zr_ite rx4 rx5)))
      have o17 := h.1
      have h := h.2
      refine zt_iast (f := 114) G (by decide) rfl (w32_r _) rv15 o17.1 o17.2 dX1_make_213 (fun u16 eu16 => ?_)
      have h := h u16 eu16
      refine zt_tok G (fun hu16 => ?_)
      refine zv_iincN G rfl (by decide) dX1_make_214 (fun x8_18 ex8_18 => ?_)
      have h := h x8_18 ex8_18
      have rx8_18 : zr x8_18 := by rw [ex8_18]; exact w32_r _
      refine zv_goto (tgt := 159) G (by decide) dX1_make_217 ?_
      exact zv_pick [0, 1, 2, 3, 4, 5, 7, 8] rfl (hI159 _ _ h rx8_18)
    refine zv_if_ne (tgt := 190) G rx8 (by decide) dX1_make_183 (fun c20 => ?_) (fun c20 => ?_)
    · refine zv_iload G rfl dX1_make_190 ?_
      refine zv_iconst (a := 1) G (by decide) dX1_make_192 ?_
      refine zv_icmp_ne (tgt := 200) G rx8 (zr_k 1 (by decide) (by decide)) (by decide) dX1_make_193 (fun c21 => ?_) (fun c21 => ?_)
      · refine zv_iload G rfl dX1_make_200 ?_
        refine zv_iconst (a := 2) G (by decide) dX1_make_202 ?_
        refine zv_icmp_ne (tgt := 211) G rx8 (zr_k 2 (by decide) (by decide)) (by decide) dX1_make_203 (fun c22 => ?_) (fun c22 => ?_)
        · refine zv_iload G rfl dX1_make_211 ?_
          exact kj19 _ (by rw [if_neg c20, if_neg c21, if_neg c22])
        · refine zv_iload G rfl dX1_make_206 ?_
          refine zv_goto (tgt := 213) G (by decide) dX1_make_208 ?_
          exact kj19 _ (by rw [if_neg c20, if_neg c21, if_pos c22])
      · refine zv_iload_n G rfl rfl dX1_make_196 ?_
        refine zv_goto (tgt := 213) G (by decide) dX1_make_197 ?_
        exact kj19 _ (by rw [if_neg c20, if_pos c21])
    · refine zv_iload_n G rfl rfl dX1_make_186 ?_
      refine zv_goto (tgt := 213) G (by decide) dX1_make_187 ?_
      exact kj19 _ (by rw [if_pos c20])
set_option maxHeartbeats 4000000 in
set_option maxRecDepth 100000 in
theorem cpT_make_118 {Γ : ZG TW} {D : TD} {B0 d : Nat} {lim : Nat × Nat} (G : ZOk Γ cX1_make RX1 9 (KnT D B0) (ZT D B0)) (M : ZRm Γ (d + 1) lim (some .int) "make" []) (S : SdT d D B0 Γ.l lim) (hk : 2 ≤ d) {x1 : Int} {x2 : Int} {x3 : Int} {x4 : Int} {x5 : Int} {x6 : Int} {w : TW} (rx1 : zr x1) (rx2 : zr x2) (rx3 : zr x3) (rx4 : zr x4) (rx5 : zr x5) (rx6 : zr x6) (h : pT_make_118 (wpT d) (fun v w => Γ.Q (.inl (some (ai v))) w) x1 x2 x3 x4 x5 x6 w) : ZV Γ w 118 [(0, ar (D.x + 1)), (1, ai x1), (2, ai x2), (3, ai x3), (4, ai x4), (5, ai x5), (6, ai x6)] [] := by
  refine zt_tok G (fun hw => ?_)
  refine zv_aload_n G rfl rfl dX1_make_118 ?_
  refine zt_get (k := 109) (v := ai (tI w 109)) G (by decide) q2264 rfl dX1_make_119 ?_
  refine zv_sipush (a := 160) G (by decide) dX1_make_122 ?_
  have kt23 : ((tI w 109) = 160) ∨ (¬ (x6 ≤ 60)) → ZV Γ w 135 [(0, ar (D.x + 1)), (1, ai x1), (2, ai x2), (3, ai x3), (4, ai x4), (5, ai x5), (6, ai x6)] [] := by
    intro c25
    have h := h.1 c25
    exact zv_pick [] rfl (cpT_make_135 G M S hk h)
  have kf24 : ¬ (((tI w 109) = 160) ∨ (¬ (x6 ≤ 60))) → ZV Γ w 138 [(0, ar (D.x + 1)), (1, ai x1), (2, ai x2), (3, ai x3), (4, ai x4), (5, ai x5), (6, ai x6)] [] := by
    intro c25
    have h := h.2 c25
    refine zv_aload_n G rfl rfl dX1_make_138 ?_
    refine zv_iconst (a := 4) G (by decide) dX1_make_139 ?_
    refine zv_iload_n G rfl rfl dX1_make_140 ?_
    refine zv_lconst (a := 0) G (by decide) dX1_make_141 ?_
    refine zt_callI (as := [ai 4, ai x1, al 0]) G M (S 79 _ rfl _ _ _ h (zoks_cons (zr_k 4 (by decide) (by decide)) (zoks_cons rx1 (zoks_cons (zrl_k 0 (by decide) (by decide)) zoks_nil)))) q2885 q2887 qs128 q2888 md_newValue rfl (by decide) (Nat.le_of_ble_eq_true rfl) dX1_make_142 (fun v10 u9 rv10 h => ?_)
    refine zt_tok G (fun hu9 => ?_)
    refine zv_istore G (by decide) rfl dX1_make_145 ?_
    refine zv_aload_n G rfl rfl dX1_make_147 ?_
    refine zt_get (k := 113) (v := ar (D.ad 113 + 1)) G (by decide) q2268 rfl dX1_make_148 ?_
    refine zv_iload G rfl dX1_make_151 ?_
    refine zv_iload G rfl dX1_make_153 ?_
    have o12 := h.1
    have h := h.2
    refine zt_iast (f := 113) G (by decide) rfl rv10 rx6 o12.1 o12.2 dX1_make_155 (fun u11 eu11 => ?_)
    have h := h u11 eu11
    refine zt_tok G (fun hu11 => ?_)
    refine zv_iconst (a := 0) G (by decide) dX1_make_156 ?_
    refine zv_istore G (by decide) rfl dX1_make_157 ?_
    exact zv_pick [0, 1, 2, 3, 4, 5, 7, 8] rfl (cpT_make_159 G M S hk rx1 rx2 rx3 rx4 rx5 rv10 (zr_k 0 (by decide) (by decide)) h)
  refine zv_icmp_eq (tgt := 135) G (hw.i 109 (by decide)) (zr_k 160 (by decide) (by decide)) (by decide) dX1_make_125 (fun c26 => ?_) (fun c26 => ?_)
  · exact kt23 (Or.inl c26)
  · refine zv_iload G rfl dX1_make_128 ?_
    refine zv_bipush (a := 60) G (by decide) dX1_make_130 ?_
    refine zv_icmp_le (tgt := 138) G rx6 (zr_k 60 (by decide) (by decide)) (by decide) dX1_make_132 (fun c27 => ?_) (fun c27 => ?_)
    · exact kf24 (fun q => q.elim c26 (fun q => q c27))
    · exact kt23 (Or.inr c27)
set_option maxHeartbeats 4000000 in
set_option maxRecDepth 100000 in
theorem cpT_make_98 {Γ : ZG TW} {D : TD} {B0 d : Nat} {lim : Nat × Nat} (G : ZOk Γ cX1_make RX1 9 (KnT D B0) (ZT D B0)) (M : ZRm Γ (d + 1) lim (some .int) "make" []) (S : SdT d D B0 Γ.l lim) (hk : 2 ≤ d) {w : TW} (h : pT_make_98 (wpT d) (fun v w => Γ.Q (.inl (some (ai v))) w) w) : ZV Γ w 98 [] [] := by
  refine zt_tok G (fun hw => ?_)
  refine zv_iconst (a := (-1)) G (by decide) dX1_make_98 ?_
  exact zv_iret (ty := .int) (zr_k (-1) (by decide) (by decide)) G M rfl dX1_make_99 h
set_option maxHeartbeats 4000000 in
set_option maxRecDepth 100000 in
theorem cpT_make_24 {Γ : ZG TW} {D : TD} {B0 d : Nat} {lim : Nat × Nat} (G : ZOk Γ cX1_make RX1 9 (KnT D B0) (ZT D B0)) (M : ZRm Γ (d + 1) lim (some .int) "make" []) (S : SdT d D B0 Γ.l lim) (hk : 2 ≤ d) {x1 : Int} {x2 : Int} {x3 : Int} {x4 : Int} {x5 : Int} {x6 : Int} {x7 : Int} {w : TW} (rx1 : zr x1) (rx2 : zr x2) (rx3 : zr x3) (rx4 : zr x4) (rx5 : zr x5) (rx6 : zr x6) (rx7 : zr x7) (h : pT_make_24 (wpT d) (fun v w => Γ.Q (.inl (some (ai v))) w) x1 x2 x3 x4 x5 x6 x7 w) : ZV Γ w 24 [(0, ar (D.x + 1)), (1, ai x1), (2, ai x2), (3, ai x3), (4, ai x4), (5, ai x5), (6, ai x6), (7, ai x7)] [] := by
  refine h (fun x6 x7 w => zr x6 → zr x7 → ZV Γ w 24 [(0, ar (D.x + 1)), (1, ai x1), (2, ai x2), (3, ai x3), (4, ai x4), (5, ai x5), (6, ai x6), (7, ai x7)] []) ?_ rx6 rx7
  clear h
  intro x6 x7 w h rx6 rx7
  have hI24 : ∀ (x6 : Int) (x7 : Int) (w : TW), (fun x6 x7 w => zr x6 → zr x7 → ZV Γ w 24 [(0, ar (D.x + 1)), (1, ai x1), (2, ai x2), (3, ai x3), (4, ai x4), (5, ai x5), (6, ai x6), (7, ai x7)] []) x6 x7 w → zr x6 → zr x7 → ZV Γ w 24 [(0, ar (D.x + 1)), (1, ai x1), (2, ai x2), (3, ai x3), (4, ai x4), (5, ai x5), (6, ai x6), (7, ai x7)] [] := fun _ _ _ z => z
  refine zt_tok G (fun hw => ?_)
  refine zv_iload G rfl dX1_make_24 ?_
  refine zv_aload_n G rfl rfl dX1_make_26 ?_
  refine zt_get (k := 14) (v := ar (D.ad 14 + 1)) G (by decide) q2169 rfl dX1_make_27 ?_
  refine zv_iload_n G rfl rfl dX1_make_30 ?_
  have o7 := h.1
  have h := h.2
  refine zt_iald (f := 14) G (by decide) rfl rx1 o7.1 o7.2 dX1_make_31 ?_
  refine zv_icmp_ge (tgt := 118) G rx7 (hw.a 14 _ (by decide)) (by decide) dX1_make_32 (fun c8 => ?_) (fun c8 => ?_)
  · have h := h.1 c8
    exact zv_pick [0, 1, 2, 3, 4, 5, 6] rfl (cpT_make_118 G M S hk rx1 rx2 rx3 rx4 rx5 rx6 h)
  · have h := h.2 c8
    refine zv_iload G rfl dX1_make_35 ?_
    have kj39 : ∀ v28 : Int, v28 = (if x7 = 0 then x2 else (if x7 = 1 then x3 else (if x7 = 2 then x4 else x5))) → ZV Γ w 67 [(0, ar (D.x + 1)), (1, ai x1), (2, ai x2), (3, ai x3), (4, ai x4), (5, ai x5), (6, ai x6), (7, ai x7)] (ai v28 :: []) := by
      intro v28 ev28
      have h := h v28 ev28
      have rv28 : zr v28 := by rw [ev28]; exact (zr_ite rx2 (zr_ite rx3 (zr_ite rx4 rx5)))
      refine zv_istore G (by decide) rfl dX1_make_67 ?_
      refine zv_aload_n G rfl rfl dX1_make_69 ?_
      refine zv_iload G rfl dX1_make_70 ?_
      refine zt_callI (as := [ai v28]) G M (S 84 _ rfl _ _ _ (fu_isValue (by omega)) (zoks_cons rv28 zoks_nil)) q2905 q2907 qs129 q2908 md_isValue rfl (by decide) (Nat.le_of_ble_eq_true rfl) dX1_make_72 (fun v29 u30 _ q => ?_)
      obtain ⟨ev29, eu30⟩ := q
      rw [eu30, ev29]
      refine zv_if_eq (tgt := 98) G (fr_isValue hw rv28) (by decide) dX1_make_75 (fun c31 => ?_) (fun c31 => ?_)
      · have h := h.1 c31
        exact zv_pick [] rfl (cpT_make_98 G M S hk h)
      · have h := h.2 c31
        refine zv_aload_n G rfl rfl dX1_make_78 ?_
        refine zv_iload G rfl dX1_make_79 ?_
        refine zv_aload_n G rfl rfl dX1_make_81 ?_
        refine zt_get (k := 15) (v := ar (D.ad 15 + 1)) G (by decide) q2170 rfl dX1_make_82 ?_
        refine zv_iconst (a := 4) G (by decide) dX1_make_85 ?_
        refine zv_iload_n G rfl rfl dX1_make_86 ?_
        refine zv_imul G dX1_make_87 ?_
        refine zv_iload G rfl dX1_make_88 ?_
        refine zv_iadd G dX1_make_90 ?_
        have o32 := h.1
        have h := h.2
        refine zt_iald (f := 15) G (by decide) rfl (w32_r _) o32.1 o32.2 dX1_make_91 ?_
        refine zt_callI (as := [ai v28, ai (tA w 15 (w32 ((w32 (4 * x1)) + x7)))]) G M (S 85 _ rfl _ _ _ h (zoks_cons rv28 (zoks_cons (hw.a 15 _ (by decide)) zoks_nil))) q2909 q2911 qs130 q2912 md_isOfSort rfl (by decide) (Nat.le_of_ble_eq_true rfl) dX1_make_92 (fun v34 u33 rv34 h => ?_)
        refine zt_tok G (fun hu33 => ?_)
        refine zv_if_ne (tgt := 100) G rv34 (by decide) dX1_make_95 (fun c35 => ?_) (fun c35 => ?_)
        · have h := h.2 c35
          refine zv_iload G rfl dX1_make_100 ?_
          refine zv_aload_n G rfl rfl dX1_make_102 ?_
          refine zt_get (k := 113) (v := ar (D.ad 113 + 1)) G (by decide) q2268 rfl dX1_make_103 ?_
          refine zv_iload G rfl dX1_make_106 ?_
          have o36 := h.1
          have h := h.2
          refine zt_iald (f := 113) G (by decide) rfl rv28 o36.1 o36.2 dX1_make_108 ?_
          refine zv_iadd G dX1_make_109 ?_
          refine zv_istoreN G (by decide) dX1_make_110 (fun x6_37 ex6_37 => ?_)
          have h := h x6_37 ex6_37
          have rx6_37 : zr x6_37 := by rw [ex6_37]; exact (w32_r _)
          refine zv_iincN G rfl (by decide) dX1_make_112 (fun x7_38 ex7_38 => ?_)
          have h := h x7_38 ex7_38
          have rx7_38 : zr x7_38 := by rw [ex7_38]; exact w32_r _
          refine zv_goto (tgt := 24) G (by decide) dX1_make_115 ?_
          exact zv_pick [0, 1, 2, 3, 4, 5, 6, 7] rfl (hI24 _ _ _ h rx6_37 rx7_38)
        · have h := h.1 c35
          exact zv_pick [] rfl (cpT_make_98 G M S hk h)
    refine zv_if_ne (tgt := 44) G rx7 (by decide) dX1_make_37 (fun c40 => ?_) (fun c40 => ?_)
    · refine zv_iload G rfl dX1_make_44 ?_
      refine zv_iconst (a := 1) G (by decide) dX1_make_46 ?_
      refine zv_icmp_ne (tgt := 54) G rx7 (zr_k 1 (by decide) (by decide)) (by decide) dX1_make_47 (fun c41 => ?_) (fun c41 => ?_)
      · refine zv_iload G rfl dX1_make_54 ?_
        refine zv_iconst (a := 2) G (by decide) dX1_make_56 ?_
        refine zv_icmp_ne (tgt := 65) G rx7 (zr_k 2 (by decide) (by decide)) (by decide) dX1_make_57 (fun c42 => ?_) (fun c42 => ?_)
        · refine zv_iload G rfl dX1_make_65 ?_
          exact kj39 _ (by rw [if_neg c40, if_neg c41, if_neg c42])
        · refine zv_iload G rfl dX1_make_60 ?_
          refine zv_goto (tgt := 67) G (by decide) dX1_make_62 ?_
          exact kj39 _ (by rw [if_neg c40, if_neg c41, if_pos c42])
      · refine zv_iload_n G rfl rfl dX1_make_50 ?_
        refine zv_goto (tgt := 67) G (by decide) dX1_make_51 ?_
        exact kj39 _ (by rw [if_neg c40, if_pos c41])
    · refine zv_iload_n G rfl rfl dX1_make_40 ?_
      refine zv_goto (tgt := 67) G (by decide) dX1_make_41 ?_
      exact kj39 _ (by rw [if_pos c40])
set_option maxHeartbeats 4000000 in
set_option maxRecDepth 100000 in
theorem cpT_make_0 {Γ : ZG TW} {D : TD} {B0 d : Nat} {lim : Nat × Nat} (G : ZOk Γ cX1_make RX1 9 (KnT D B0) (ZT D B0)) (M : ZRm Γ (d + 1) lim (some .int) "make" []) (S : SdT d D B0 Γ.l lim) (hk : 2 ≤ d) {x1 : Int} {x2 : Int} {x3 : Int} {x4 : Int} {x5 : Int} {w : TW} (rx1 : zr x1) (rx2 : zr x2) (rx3 : zr x3) (rx4 : zr x4) (rx5 : zr x5) (h : pT_make_0 (wpT d) (fun v w => Γ.Q (.inl (some (ai v))) w) x1 x2 x3 x4 x5 w) : ZV Γ w 0 [(0, ar (D.x + 1)), (1, ai x1), (2, ai x2), (3, ai x3), (4, ai x4), (5, ai x5)] [] := by
  refine zt_tok G (fun hw => ?_)
  refine zv_aload_n G rfl rfl dX1_make_0 ?_
  refine zv_iload_n G rfl rfl dX1_make_1 ?_
  refine zt_callI (as := [ai x1]) G M (S 70 _ rfl _ _ _ (fu_isKind (by omega)) (zoks_cons rx1 zoks_nil)) q2848 q2850 qs126 q2851 md_isKind rfl (by decide) (Nat.le_of_ble_eq_true rfl) dX1_make_2 (fun v1 u2 _ q => ?_)
  obtain ⟨ev1, eu2⟩ := q
  rw [eu2, ev1]
  refine zv_if_eq (tgt := 16) G (fr_isKind hw rx1) (by decide) dX1_make_5 (fun c3 => ?_) (fun c3 => ?_)
  · have h := h.1 c3
    exact zv_pick [] rfl (cpT_make_16 G M S hk h)
  · have h := h.2 c3
    refine zv_aload_n G rfl rfl dX1_make_8 ?_
    refine zv_iload_n G rfl rfl dX1_make_9 ?_
    refine zt_callI (as := [ai x1]) G M (S 16 _ rfl _ _ _ h (zoks_cons rx1 zoks_nil)) q2628 q2630 qs77 q2631 md_isSealed rfl (by decide) (Nat.le_of_ble_eq_true rfl) dX1_make_10 (fun v5 u4 rv5 h => ?_)
    refine zt_tok G (fun hu4 => ?_)
    refine zv_if_eq (tgt := 18) G rv5 (by decide) dX1_make_13 (fun c6 => ?_) (fun c6 => ?_)
    · have h := h.1 c6
      refine zv_iconst (a := 1) G (by decide) dX1_make_18 ?_
      refine zv_istore G (by decide) rfl dX1_make_19 ?_
      refine zv_iconst (a := 0) G (by decide) dX1_make_21 ?_
      refine zv_istore G (by decide) rfl dX1_make_22 ?_
      exact zv_pick [0, 1, 2, 3, 4, 5, 6, 7] rfl (cpT_make_24 G M S hk rx1 rx2 rx3 rx4 rx5 (zr_k 1 (by decide) (by decide)) (zr_k 0 (by decide) (by decide)) h)
    · have h := h.2 c6
      exact zv_pick [] rfl (cpT_make_16 G M S hk h)
set_option maxHeartbeats 4000000 in
set_option maxRecDepth 100000 in
theorem cpT_value_20 {Γ : ZG TW} {D : TD} {B0 d : Nat} {lim : Nat × Nat} (G : ZOk Γ cX1_value RX1 3 (KnT D B0) (ZT D B0)) (M : ZRm Γ (d + 1) lim (some .int) "value" []) (S : SdT d D B0 Γ.l lim) (hk : 2 ≤ d) {w : TW} (h : pT_value_20 (wpT d) (fun v w => Γ.Q (.inl (some (ai v))) w) w) : ZV Γ w 20 [] [] := by
  refine zt_tok G (fun hw => ?_)
  refine zv_bipush (a := (-4)) G (by decide) dX1_value_20 ?_
  exact zv_iret (ty := .int) (zr_k (-4) (by decide) (by decide)) G M rfl dX1_value_22 h
set_option maxHeartbeats 4000000 in
set_option maxRecDepth 100000 in
theorem cpT_value_0 {Γ : ZG TW} {D : TD} {B0 d : Nat} {lim : Nat × Nat} (G : ZOk Γ cX1_value RX1 3 (KnT D B0) (ZT D B0)) (M : ZRm Γ (d + 1) lim (some .int) "value" []) (S : SdT d D B0 Γ.l lim) (hk : 2 ≤ d) {x1 : Int} {x2 : Int} {w : TW} (rx1 : zr x1) (rx2 : zr x2) (h : pT_value_0 (wpT d) (fun v w => Γ.Q (.inl (some (ai v))) w) x1 x2 w) : ZV Γ w 0 [(0, ar (D.x + 1)), (1, ai x1), (2, ai x2)] [] := by
  refine zt_tok G (fun hw => ?_)
  refine zv_aload_n G rfl rfl dX1_value_0 ?_
  refine zv_iload_n G rfl rfl dX1_value_1 ?_
  refine zt_callI (as := [ai x1]) G M (S 84 _ rfl _ _ _ (fu_isValue (by omega)) (zoks_cons rx1 zoks_nil)) q2905 q2907 qs129 q2908 md_isValue rfl (by decide) (Nat.le_of_ble_eq_true rfl) dX1_value_2 (fun v1 u2 _ q => ?_)
  obtain ⟨ev1, eu2⟩ := q
  rw [eu2, ev1]
  have kt19 : ((ff_isValue x1 w) = 0) ∨ ((ff_in x2 0 6 w) = 0) → ZV Γ w 20 [(0, ar (D.x + 1)), (1, ai x1), (2, ai x2)] [] := by
    intro c21
    have h := h.1 c21
    exact zv_pick [] rfl (cpT_value_20 G M S hk h)
  have kf20 : ¬ (((ff_isValue x1 w) = 0) ∨ ((ff_in x2 0 6 w) = 0)) → ZV Γ w 23 [(0, ar (D.x + 1)), (1, ai x1), (2, ai x2)] [] := by
    intro c21
    have h := h.2 c21
    refine zv_iload_n G rfl rfl dX1_value_23 ?_
    by_cases c14 : x2 = 0
    · have h := h.1 c14
      refine zv_tswI (tgt := 52) G dX1_value_24 0 rx2 (by omega) (by omega) rfl (by decide) ?_
      refine zv_aload_n G rfl rfl dX1_value_52 ?_
      refine zt_get (k := 110) (v := ar (D.ad 110 + 1)) G (by decide) q2265 rfl dX1_value_53 ?_
      refine zv_iload_n G rfl rfl dX1_value_56 ?_
      have o13 := h.1
      have h := h.2
      refine zt_iald (f := 110) G (by decide) rfl rx1 o13.1 o13.2 dX1_value_57 ?_
      exact zv_iret (ty := .int) (hw.a 110 _ (by decide)) G M rfl dX1_value_58 h
    by_cases c16 : x2 = 1
    · have h := h.2.1 c16
      refine zv_tswI (tgt := 59) G dX1_value_24 1 rx2 (by omega) (by omega) rfl (by decide) ?_
      refine zv_aload_n G rfl rfl dX1_value_59 ?_
      refine zt_get (k := 111) (v := ar (D.ad 111 + 1)) G (by decide) q2266 rfl dX1_value_60 ?_
      refine zv_iload_n G rfl rfl dX1_value_63 ?_
      have o15 := h.1
      have h := h.2
      refine zt_iald (f := 111) G (by decide) rfl rx1 o15.1 o15.2 dX1_value_64 ?_
      exact zv_iret (ty := .int) (hw.a 111 _ (by decide)) G M rfl dX1_value_65 h
    by_cases c18 : x2 = 2
    · have h := h.2.2.1 c18
      refine zv_tswI (tgt := 66) G dX1_value_24 2 rx2 (by omega) (by omega) rfl (by decide) ?_
      refine zv_aload_n G rfl rfl dX1_value_66 ?_
      refine zt_get (k := 113) (v := ar (D.ad 113 + 1)) G (by decide) q2268 rfl dX1_value_67 ?_
      refine zv_iload_n G rfl rfl dX1_value_70 ?_
      have o17 := h.1
      have h := h.2
      refine zt_iald (f := 113) G (by decide) rfl rx1 o17.1 o17.2 dX1_value_71 ?_
      exact zv_iret (ty := .int) (hw.a 113 _ (by decide)) G M rfl dX1_value_72 h
    have h := h.2.2.2 c14 c16 c18
    refine zv_tswO (tgt := 73) G dX1_value_24 rx2 (by omega) (by decide) ?_
    refine zv_aload_n G rfl rfl dX1_value_73 ?_
    refine zt_get (k := 110) (v := ar (D.ad 110 + 1)) G (by decide) q2265 rfl dX1_value_74 ?_
    refine zv_iload_n G rfl rfl dX1_value_77 ?_
    have o7 := h.1
    have h := h.2
    refine zt_iald (f := 110) G (by decide) rfl rx1 o7.1 o7.2 dX1_value_78 ?_
    refine zv_iconst (a := 4) G (by decide) dX1_value_79 ?_
    have o9 := h.1
    have h := h.2
    have kj10 : ∀ v8 : Int, v8 = (if ((tA w 110 x1) = 4) ∧ (¬ ((tA w 14 (tA w 111 x1)) ≤ (w32 (x2 - 3)))) then tA w 114 (w32 ((w32 ((w32 (4 * x1)) + x2)) - 3)) else (-4)) → ZV Γ w 117 [(0, ar (D.x + 1)), (1, ai x1), (2, ai x2)] (ai v8 :: []) := by
      intro v8 ev8
      have h := h v8 ev8
      have rv8 : zr v8 := by rw [ev8]; exact (zr_ite (hw.a 114 _ (by decide)) (zr_k (-4) (by decide) (by decide)))
      exact zv_iret (ty := .int) rv8 G M rfl dX1_value_117 h
    refine zv_icmp_ne (tgt := 115) G (hw.a 110 _ (by decide)) (zr_k 4 (by decide) (by decide)) (by decide) dX1_value_80 (fun c11 => ?_) (fun c11 => ?_)
    · refine zv_bipush (a := (-4)) G (by decide) dX1_value_115 ?_
      exact kj10 _ (if_neg (fun q => c11 q.1)).symm
    · refine zv_iload_n G rfl rfl dX1_value_83 ?_
      refine zv_iconst (a := 3) G (by decide) dX1_value_84 ?_
      refine zv_isub G dX1_value_85 ?_
      refine zv_aload_n G rfl rfl dX1_value_86 ?_
      refine zt_get (k := 14) (v := ar (D.ad 14 + 1)) G (by decide) q2169 rfl dX1_value_87 ?_
      refine zv_aload_n G rfl rfl dX1_value_90 ?_
      refine zt_get (k := 111) (v := ar (D.ad 111 + 1)) G (by decide) q2266 rfl dX1_value_91 ?_
      refine zv_iload_n G rfl rfl dX1_value_94 ?_
      refine zt_iald (f := 111) G (by decide) rfl rx1 (o9 c11).1.1 (o9 c11).1.2 dX1_value_95 ?_
      refine zt_iald (f := 14) G (by decide) rfl (hw.a 111 _ (by decide)) (o9 c11).2.1.1 (o9 c11).2.1.2 dX1_value_96 ?_
      refine zv_icmp_ge (tgt := 115) G (w32_r _) (hw.a 14 _ (by decide)) (by decide) dX1_value_97 (fun c12 => ?_) (fun c12 => ?_)
      · refine zv_bipush (a := (-4)) G (by decide) dX1_value_115 ?_
        exact kj10 _ (if_neg (fun q => (fun q => q c12) q.2)).symm
      · refine zv_aload_n G rfl rfl dX1_value_100 ?_
        refine zt_get (k := 114) (v := ar (D.ad 114 + 1)) G (by decide) q2269 rfl dX1_value_101 ?_
        refine zv_iconst (a := 4) G (by decide) dX1_value_104 ?_
        refine zv_iload_n G rfl rfl dX1_value_105 ?_
        refine zv_imul G dX1_value_106 ?_
        refine zv_iload_n G rfl rfl dX1_value_107 ?_
        refine zv_iadd G dX1_value_108 ?_
        refine zv_iconst (a := 3) G (by decide) dX1_value_109 ?_
        refine zv_isub G dX1_value_110 ?_
        refine zt_iald (f := 114) G (by decide) rfl (w32_r _) ((o9 c11).2.2 c12).1 ((o9 c11).2.2 c12).2 dX1_value_111 ?_
        refine zv_goto (tgt := 117) G (by decide) dX1_value_112 ?_
        exact kj10 _ (if_pos ⟨c11, c12⟩).symm
  refine zv_if_eq (tgt := 20) G (fr_isValue hw rx1) (by decide) dX1_value_5 (fun c22 => ?_) (fun c22 => ?_)
  · exact kt19 (Or.inl c22)
  · refine zv_iload_n G rfl rfl dX1_value_8 ?_
    refine zv_i2l G rx2 dX1_value_9 ?_
    refine zv_lconst (a := 0) G (by decide) dX1_value_10 ?_
    refine zv_ldc2 (a := 6) G (G.kn.2.1 _ q2917 _) (by decide) dX1_value_11 ?_
    refine zt_callSI (as := [al x2, al 0, al 6]) G M (S 1 _ rfl _ _ _ (fu_in (by omega)) (zoks_cons (zrl_i rx2) (zoks_cons (zrl_k 0 (by decide) (by decide)) (zoks_cons (zrl_k 6 (by decide) (by decide)) zoks_nil)))) q2552 q2553 q2554 md_in rfl (by decide) (Nat.le_of_ble_eq_true rfl) dX1_value_14 (fun v5 u6 _ q => ?_)
    obtain ⟨ev5, eu6⟩ := q
    rw [eu6, ev5]
    refine zv_if_ne (tgt := 23) G (fr_in hw (zrl_i rx2) (zrl_k 0 (by decide) (by decide)) (zrl_k 6 (by decide) (by decide))) (by decide) dX1_value_17 (fun c23 => ?_) (fun c23 => ?_)
    · exact kf20 (fun q => q.elim c22 c23)
    · exact kt19 (Or.inr c23)
set_option maxHeartbeats 4000000 in
set_option maxRecDepth 100000 in
theorem cpT_alike_16 {Γ : ZG TW} {D : TD} {B0 d : Nat} {lim : Nat × Nat} (G : ZOk Γ cX1_alike RX1 7 (KnT D B0) (ZT D B0)) (M : ZRm Γ (d + 1) lim (some .int) "alike" []) (S : SdT d D B0 Γ.l lim) (hk : 2 ≤ d) {w : TW} (h : pT_alike_16 (wpT d) (fun v w => Γ.Q (.inl (some (ai v))) w) w) : ZV Γ w 16 [] [] := by
  refine zt_tok G (fun hw => ?_)
  refine zv_iconst (a := (-1)) G (by decide) dX1_alike_16 ?_
  exact zv_iret (ty := .int) (zr_k (-1) (by decide) (by decide)) G M rfl dX1_alike_17 h
set_option maxHeartbeats 4000000 in
set_option maxRecDepth 100000 in
theorem cpT_alike_207 {Γ : ZG TW} {D : TD} {B0 d : Nat} {lim : Nat × Nat} (G : ZOk Γ cX1_alike RX1 7 (KnT D B0) (ZT D B0)) (M : ZRm Γ (d + 1) lim (some .int) "alike" []) (S : SdT d D B0 Γ.l lim) (hk : 2 ≤ d) {w : TW} (h : pT_alike_207 (wpT d) (fun v w => Γ.Q (.inl (some (ai v))) w) w) : ZV Γ w 207 [] [] := by
  refine zt_tok G (fun hw => ?_)
  refine zv_iconst (a := 1) G (by decide) dX1_alike_207 ?_
  exact zv_iret (ty := .int) (zr_k 1 (by decide) (by decide)) G M rfl dX1_alike_208 h
set_option maxHeartbeats 4000000 in
set_option maxRecDepth 100000 in
theorem cpT_alike_126 {Γ : ZG TW} {D : TD} {B0 d : Nat} {lim : Nat × Nat} (G : ZOk Γ cX1_alike RX1 7 (KnT D B0) (ZT D B0)) (M : ZRm Γ (d + 1) lim (some .int) "alike" []) (S : SdT d D B0 Γ.l lim) (hk : 2 ≤ d) {w : TW} (h : pT_alike_126 (wpT d) (fun v w => Γ.Q (.inl (some (ai v))) w) w) : ZV Γ w 126 [] [] := by
  refine zt_tok G (fun hw => ?_)
  refine zv_iconst (a := 0) G (by decide) dX1_alike_126 ?_
  exact zv_iret (ty := .int) (zr_k 0 (by decide) (by decide)) G M rfl dX1_alike_127 h
set_option maxHeartbeats 4000000 in
set_option maxRecDepth 100000 in
theorem cpT_alike_204 {Γ : ZG TW} {D : TD} {B0 d : Nat} {lim : Nat × Nat} (G : ZOk Γ cX1_alike RX1 7 (KnT D B0) (ZT D B0)) (M : ZRm Γ (d + 1) lim (some .int) "alike" []) (S : SdT d D B0 Γ.l lim) (hk : 2 ≤ d) {I34 : Int → TW → Prop} {x3 : Int} {w : TW} (hI34 : ∀ (x3 : Int) (w : TW), I34 x3 w → zr x3 → ZV Γ w 34 [(0, ar (D.x + 1)), (3, ai x3)] []) (rx3 : zr x3) (h : pT_alike_204 (wpT d) (fun v w => Γ.Q (.inl (some (ai v))) w) I34 x3 w) : ZV Γ w 204 [(0, ar (D.x + 1)), (3, ai x3)] [] := by
  refine zt_tok G (fun hw => ?_)
  refine zv_goto (tgt := 34) G (by decide) dX1_alike_204 ?_
  exact zv_pick [0, 3] rfl (hI34 _ _ h rx3)
set_option maxHeartbeats 4000000 in
set_option maxRecDepth 100000 in
theorem cpT_alike_131 {Γ : ZG TW} {D : TD} {B0 d : Nat} {lim : Nat × Nat} (G : ZOk Γ cX1_alike RX1 7 (KnT D B0) (ZT D B0)) (M : ZRm Γ (d + 1) lim (some .int) "alike" []) (S : SdT d D B0 Γ.l lim) (hk : 2 ≤ d) {I34 : Int → TW → Prop} {x3 : Int} {x4 : Int} {x5 : Int} {x6 : Int} {w : TW} (hI34 : ∀ (x3 : Int) (w : TW), I34 x3 w → zr x3 → ZV Γ w 34 [(0, ar (D.x + 1)), (3, ai x3)] []) (rx3 : zr x3) (rx4 : zr x4) (rx5 : zr x5) (rx6 : zr x6) (h : pT_alike_131 (wpT d) (fun v w => Γ.Q (.inl (some (ai v))) w) I34 x3 x4 x5 x6 w) : ZV Γ w 131 [(0, ar (D.x + 1)), (3, ai x3), (4, ai x4), (5, ai x5), (6, ai x6)] [] := by
  refine h (fun x3 x6 w => zr x3 → zr x6 → ZV Γ w 131 [(0, ar (D.x + 1)), (3, ai x3), (4, ai x4), (5, ai x5), (6, ai x6)] []) ?_ rx3 rx6
  clear h
  intro x3 x6 w h rx3 rx6
  have hI131 : ∀ (x3 : Int) (x6 : Int) (w : TW), (fun x3 x6 w => zr x3 → zr x6 → ZV Γ w 131 [(0, ar (D.x + 1)), (3, ai x3), (4, ai x4), (5, ai x5), (6, ai x6)] []) x3 x6 w → zr x3 → zr x6 → ZV Γ w 131 [(0, ar (D.x + 1)), (3, ai x3), (4, ai x4), (5, ai x5), (6, ai x6)] [] := fun _ _ _ z => z
  refine zt_tok G (fun hw => ?_)
  refine zv_aload_n G rfl rfl dX1_alike_131 ?_
  refine zt_get (k := 110) (v := ar (D.ad 110 + 1)) G (by decide) q2265 rfl dX1_alike_132 ?_
  refine zv_iload G rfl dX1_alike_135 ?_
  have o18 := h.1
  have h := h.2
  refine zt_iald (f := 110) G (by decide) rfl rx4 o18.1 o18.2 dX1_alike_137 ?_
  refine zv_iconst (a := 4) G (by decide) dX1_alike_138 ?_
  have o19 := h.1
  have h := h.2
  have kt28 : ((tA w 110 x4) = 4) ∧ (¬ ((tA w 14 (tA w 111 x4)) ≤ x6)) → ZV Γ w 159 [(0, ar (D.x + 1)), (3, ai x3), (4, ai x4), (5, ai x5), (6, ai x6)] [] := by
    intro c30
    have h := h.1 c30
    refine zv_aload_n G rfl rfl dX1_alike_159 ?_
    refine zt_get (k := 115) (v := ar (D.ad 115 + 1)) G (by decide) q2270 rfl dX1_alike_160 ?_
    refine zv_iload_n G rfl rfl dX1_alike_163 ?_
    refine zv_aload_n G rfl rfl dX1_alike_164 ?_
    refine zt_get (k := 114) (v := ar (D.ad 114 + 1)) G (by decide) q2269 rfl dX1_alike_165 ?_
    refine zv_iconst (a := 4) G (by decide) dX1_alike_168 ?_
    refine zv_iload G rfl dX1_alike_169 ?_
    refine zv_imul G dX1_alike_171 ?_
    refine zv_iload G rfl dX1_alike_172 ?_
    refine zv_iadd G dX1_alike_174 ?_
    have o20 := h.1
    have h := h.2
    refine zt_iald (f := 114) G (by decide) rfl (w32_r _) o20.1 o20.2 dX1_alike_175 ?_
    have o22 := h.1
    have h := h.2
    refine zt_iast (f := 115) G (by decide) rfl rx3 (hw.a 114 _ (by decide)) o22.1 o22.2 dX1_alike_176 (fun u21 eu21 => ?_)
    have h := h u21 eu21
    refine zt_tok G (fun hu21 => ?_)
    refine zv_aload_n G rfl rfl dX1_alike_177 ?_
    refine zt_get (k := 116) (v := ar (D.ad 116 + 1)) G (by decide) q2271 rfl dX1_alike_178 ?_
    refine zv_iload_n G rfl rfl dX1_alike_181 ?_
    refine zv_aload_n G rfl rfl dX1_alike_182 ?_
    refine zt_get (k := 114) (v := ar (D.ad 114 + 1)) G (by decide) q2269 rfl dX1_alike_183 ?_
    refine zv_iconst (a := 4) G (by decide) dX1_alike_186 ?_
    refine zv_iload G rfl dX1_alike_187 ?_
    refine zv_imul G dX1_alike_189 ?_
    refine zv_iload G rfl dX1_alike_190 ?_
    refine zv_iadd G dX1_alike_192 ?_
    have o23 := h.1
    have h := h.2
    refine zt_iald (f := 114) G (by decide) rfl (w32_r _) o23.1 o23.2 dX1_alike_193 ?_
    have o25 := h.1
    have h := h.2
    refine zt_iast (f := 116) G (by decide) rfl rx3 (hu21.a 114 _ (by decide)) o25.1 o25.2 dX1_alike_194 (fun u24 eu24 => ?_)
    have h := h u24 eu24
    refine zt_tok G (fun hu24 => ?_)
    refine zv_iincN G rfl (by decide) dX1_alike_195 (fun x3_26 ex3_26 => ?_)
    have h := h x3_26 ex3_26
    have rx3_26 : zr x3_26 := by rw [ex3_26]; exact w32_r _
    refine zv_iincN G rfl (by decide) dX1_alike_198 (fun x6_27 ex6_27 => ?_)
    have h := h x6_27 ex6_27
    have rx6_27 : zr x6_27 := by rw [ex6_27]; exact w32_r _
    refine zv_goto (tgt := 131) G (by decide) dX1_alike_201 ?_
    exact zv_pick [0, 3, 4, 5, 6] rfl (hI131 _ _ _ h rx3_26 rx6_27)
  have kf29 : ¬ (((tA w 110 x4) = 4) ∧ (¬ ((tA w 14 (tA w 111 x4)) ≤ x6))) → ZV Γ w 204 [(0, ar (D.x + 1)), (3, ai x3), (4, ai x4), (5, ai x5), (6, ai x6)] [] := by
    intro c30
    have h := h.2 c30
    exact zv_pick [0, 3] rfl (cpT_alike_204 G M S hk hI34 rx3 h)
  refine zv_icmp_ne (tgt := 204) G (hw.a 110 _ (by decide)) (zr_k 4 (by decide) (by decide)) (by decide) dX1_alike_139 (fun c31 => ?_) (fun c31 => ?_)
  · exact kf29 (fun q => c31 q.1)
  · refine zv_iload G rfl dX1_alike_142 ?_
    refine zv_aload_n G rfl rfl dX1_alike_144 ?_
    refine zt_get (k := 14) (v := ar (D.ad 14 + 1)) G (by decide) q2169 rfl dX1_alike_145 ?_
    refine zv_aload_n G rfl rfl dX1_alike_148 ?_
    refine zt_get (k := 111) (v := ar (D.ad 111 + 1)) G (by decide) q2266 rfl dX1_alike_149 ?_
    refine zv_iload G rfl dX1_alike_152 ?_
    refine zt_iald (f := 111) G (by decide) rfl rx4 (o19 c31).1.1 (o19 c31).1.2 dX1_alike_154 ?_
    refine zt_iald (f := 14) G (by decide) rfl (hw.a 111 _ (by decide)) (o19 c31).2.1 (o19 c31).2.2 dX1_alike_155 ?_
    refine zv_icmp_ge (tgt := 204) G rx6 (hw.a 14 _ (by decide)) (by decide) dX1_alike_156 (fun c32 => ?_) (fun c32 => ?_)
    · exact kf29 (fun q => (fun q => q c32) q.2)
    · exact kt28 ⟨c31, c32⟩
set_option maxHeartbeats 4000000 in
set_option maxRecDepth 100000 in
theorem cpT_alike_34 {Γ : ZG TW} {D : TD} {B0 d : Nat} {lim : Nat × Nat} (G : ZOk Γ cX1_alike RX1 7 (KnT D B0) (ZT D B0)) (M : ZRm Γ (d + 1) lim (some .int) "alike" []) (S : SdT d D B0 Γ.l lim) (hk : 2 ≤ d) {x3 : Int} {w : TW} (rx3 : zr x3) (h : pT_alike_34 (wpT d) (fun v w => Γ.Q (.inl (some (ai v))) w) x3 w) : ZV Γ w 34 [(0, ar (D.x + 1)), (3, ai x3)] [] := by
  refine h (fun x3 w => zr x3 → ZV Γ w 34 [(0, ar (D.x + 1)), (3, ai x3)] []) ?_ rx3
  clear h
  intro x3 w h rx3
  have hI34 : ∀ (x3 : Int) (w : TW), (fun x3 w => zr x3 → ZV Γ w 34 [(0, ar (D.x + 1)), (3, ai x3)] []) x3 w → zr x3 → ZV Γ w 34 [(0, ar (D.x + 1)), (3, ai x3)] [] := fun _ _ z => z
  refine zt_tok G (fun hw => ?_)
  refine zv_iload_n G rfl rfl dX1_alike_34 ?_
  refine zv_if_le (tgt := 207) G rx3 (by decide) dX1_alike_35 (fun c9 => ?_) (fun c9 => ?_)
  · have h := h.1 c9
    exact zv_pick [] rfl (cpT_alike_207 G M S hk h)
  · have h := h.2 c9
    refine zv_iincN G rfl (by decide) dX1_alike_38 (fun x3_10 ex3_10 => ?_)
    have h := h x3_10 ex3_10
    have rx3_10 : zr x3_10 := by rw [ex3_10]; exact w32_r _
    refine zv_aload_n G rfl rfl dX1_alike_41 ?_
    refine zt_get (k := 115) (v := ar (D.ad 115 + 1)) G (by decide) q2270 rfl dX1_alike_42 ?_
    refine zv_iload_n G rfl rfl dX1_alike_45 ?_
    have o11 := h.1
    have h := h.2
    refine zt_iald (f := 115) G (by decide) rfl rx3_10 o11.1 o11.2 dX1_alike_46 ?_
    refine zv_istoreN G (by decide) dX1_alike_47 (fun x4_12 ex4_12 => ?_)
    have h := h x4_12 ex4_12
    have rx4_12 : zr x4_12 := by rw [ex4_12]; exact (hw.a 115 _ (by decide))
    refine zv_aload_n G rfl rfl dX1_alike_49 ?_
    refine zt_get (k := 116) (v := ar (D.ad 116 + 1)) G (by decide) q2271 rfl dX1_alike_50 ?_
    refine zv_iload_n G rfl rfl dX1_alike_53 ?_
    have o13 := h.1
    have h := h.2
    refine zt_iald (f := 116) G (by decide) rfl rx3_10 o13.1 o13.2 dX1_alike_54 ?_
    refine zv_istoreN G (by decide) dX1_alike_55 (fun x5_14 ex5_14 => ?_)
    have h := h x5_14 ex5_14
    have rx5_14 : zr x5_14 := by rw [ex5_14]; exact (hw.a 116 _ (by decide))
    refine zv_aload_n G rfl rfl dX1_alike_57 ?_
    refine zt_get (k := 110) (v := ar (D.ad 110 + 1)) G (by decide) q2265 rfl dX1_alike_58 ?_
    refine zv_iload G rfl dX1_alike_61 ?_
    have o15 := h.1
    have h := h.2
    refine zt_iald (f := 110) G (by decide) rfl rx4_12 o15.1 o15.2 dX1_alike_63 ?_
    refine zv_aload_n G rfl rfl dX1_alike_64 ?_
    refine zt_get (k := 110) (v := ar (D.ad 110 + 1)) G (by decide) q2265 rfl dX1_alike_65 ?_
    refine zv_iload G rfl dX1_alike_68 ?_
    have o16 := h.1
    have h := h.2
    refine zt_iald (f := 110) G (by decide) rfl rx5_14 o16.1 o16.2 dX1_alike_70 ?_
    have o17 := h.1
    have h := h.2
    have kt33 : ¬ ((tA w 110 x4_12) = (tA w 110 x5_14)) ∨ (¬ ((tA w 111 x4_12) = (tA w 111 x5_14)) ∨ (¬ ((tA w 112 x4_12) = (tA w 112 x5_14)) ∨ (¬ ((tA w 113 x4_12) = (tA w 113 x5_14))))) → ZV Γ w 126 [(5, ai x5_14), (4, ai x4_12), (3, ai x3_10), (0, ar (D.x + 1))] [] := by
      intro c35
      have h := h.1 c35
      exact zv_pick [] rfl (cpT_alike_126 G M S hk h)
    have kf34 : ¬ (¬ ((tA w 110 x4_12) = (tA w 110 x5_14)) ∨ (¬ ((tA w 111 x4_12) = (tA w 111 x5_14)) ∨ (¬ ((tA w 112 x4_12) = (tA w 112 x5_14)) ∨ (¬ ((tA w 113 x4_12) = (tA w 113 x5_14)))))) → ZV Γ w 128 [(5, ai x5_14), (4, ai x4_12), (3, ai x3_10), (0, ar (D.x + 1))] [] := by
      intro c35
      have h := h.2 c35
      refine zv_iconst (a := 0) G (by decide) dX1_alike_128 ?_
      refine zv_istore G (by decide) rfl dX1_alike_129 ?_
      exact zv_pick [0, 3, 4, 5, 6] rfl (cpT_alike_131 G M S hk hI34 rx3_10 rx4_12 rx5_14 (zr_k 0 (by decide) (by decide)) h)
    refine zv_icmp_ne (tgt := 126) G (hw.a 110 _ (by decide)) (hw.a 110 _ (by decide)) (by decide) dX1_alike_71 (fun c36 => ?_) (fun c36 => ?_)
    · exact kt33 (Or.inl c36)
    · refine zv_aload_n G rfl rfl dX1_alike_74 ?_
      refine zt_get (k := 111) (v := ar (D.ad 111 + 1)) G (by decide) q2266 rfl dX1_alike_75 ?_
      refine zv_iload G rfl dX1_alike_78 ?_
      refine zt_iald (f := 111) G (by decide) rfl rx4_12 (o17 c36).1.1 (o17 c36).1.2 dX1_alike_80 ?_
      refine zv_aload_n G rfl rfl dX1_alike_81 ?_
      refine zt_get (k := 111) (v := ar (D.ad 111 + 1)) G (by decide) q2266 rfl dX1_alike_82 ?_
      refine zv_iload G rfl dX1_alike_85 ?_
      refine zt_iald (f := 111) G (by decide) rfl rx5_14 (o17 c36).2.1.1 (o17 c36).2.1.2 dX1_alike_87 ?_
      refine zv_icmp_ne (tgt := 126) G (hw.a 111 _ (by decide)) (hw.a 111 _ (by decide)) (by decide) dX1_alike_88 (fun c37 => ?_) (fun c37 => ?_)
      · exact kt33 (Or.inr (Or.inl c37))
      · refine zv_aload_n G rfl rfl dX1_alike_91 ?_
        refine zt_get (k := 112) (v := ar (D.ad 112 + 1)) G (by decide) q2267 rfl dX1_alike_92 ?_
        refine zv_iload G rfl dX1_alike_95 ?_
        refine zt_lald (f := 112) G (by decide) rfl rx4_12 ((o17 c36).2.2 c37).1.1 ((o17 c36).2.2 c37).1.2 dX1_alike_97 ?_
        refine zv_aload_n G rfl rfl dX1_alike_98 ?_
        refine zt_get (k := 112) (v := ar (D.ad 112 + 1)) G (by decide) q2267 rfl dX1_alike_99 ?_
        refine zv_iload G rfl dX1_alike_102 ?_
        refine zt_lald (f := 112) G (by decide) rfl rx5_14 ((o17 c36).2.2 c37).2.1.1 ((o17 c36).2.2 c37).2.1.2 dX1_alike_104 ?_
        refine zv_lcmp G (hw.al 112 _ (by decide)) (hw.al 112 _ (by decide)) dX1_alike_105 ?_
        refine zv_lif_ne (tgt := 126) G (by decide) dX1_alike_106 (fun c38 => ?_) (fun c38 => ?_)
        · exact kt33 (Or.inr (Or.inr (Or.inl c38)))
        · refine zv_aload_n G rfl rfl dX1_alike_109 ?_
          refine zt_get (k := 113) (v := ar (D.ad 113 + 1)) G (by decide) q2268 rfl dX1_alike_110 ?_
          refine zv_iload G rfl dX1_alike_113 ?_
          refine zt_iald (f := 113) G (by decide) rfl rx4_12 (((o17 c36).2.2 c37).2.2 c38).1.1 (((o17 c36).2.2 c37).2.2 c38).1.2 dX1_alike_115 ?_
          refine zv_aload_n G rfl rfl dX1_alike_116 ?_
          refine zt_get (k := 113) (v := ar (D.ad 113 + 1)) G (by decide) q2268 rfl dX1_alike_117 ?_
          refine zv_iload G rfl dX1_alike_120 ?_
          refine zt_iald (f := 113) G (by decide) rfl rx5_14 (((o17 c36).2.2 c37).2.2 c38).2.1 (((o17 c36).2.2 c37).2.2 c38).2.2 dX1_alike_122 ?_
          refine zv_icmp_eq (tgt := 128) G (hw.a 113 _ (by decide)) (hw.a 113 _ (by decide)) (by decide) dX1_alike_123 (fun c39 => ?_) (fun c39 => ?_)
          · exact kf34 (fun q => q.elim (fun z => z c36) (fun q => q.elim (fun z => z c37) (fun q => q.elim (fun z => z c38) (fun q => q c39))))
          · exact kt33 (Or.inr (Or.inr (Or.inr c39)))
set_option maxHeartbeats 4000000 in
set_option maxRecDepth 100000 in
theorem cpT_alike_0 {Γ : ZG TW} {D : TD} {B0 d : Nat} {lim : Nat × Nat} (G : ZOk Γ cX1_alike RX1 7 (KnT D B0) (ZT D B0)) (M : ZRm Γ (d + 1) lim (some .int) "alike" []) (S : SdT d D B0 Γ.l lim) (hk : 2 ≤ d) {x1 : Int} {x2 : Int} {w : TW} (rx1 : zr x1) (rx2 : zr x2) (h : pT_alike_0 (wpT d) (fun v w => Γ.Q (.inl (some (ai v))) w) x1 x2 w) : ZV Γ w 0 [(0, ar (D.x + 1)), (1, ai x1), (2, ai x2)] [] := by
  refine zt_tok G (fun hw => ?_)
  refine zv_aload_n G rfl rfl dX1_alike_0 ?_
  refine zv_iload_n G rfl rfl dX1_alike_1 ?_
  refine zt_callI (as := [ai x1]) G M (S 84 _ rfl _ _ _ (fu_isValue (by omega)) (zoks_cons rx1 zoks_nil)) q2905 q2907 qs129 q2908 md_isValue rfl (by decide) (Nat.le_of_ble_eq_true rfl) dX1_alike_2 (fun v1 u2 _ q => ?_)
  obtain ⟨ev1, eu2⟩ := q
  rw [eu2, ev1]
  have kt40 : ((ff_isValue x1 w) = 0) ∨ ((ff_isValue x2 w) = 0) → ZV Γ w 16 [(0, ar (D.x + 1)), (1, ai x1), (2, ai x2)] [] := by
    intro c42
    have h := h.1 c42
    exact zv_pick [] rfl (cpT_alike_16 G M S hk h)
  have kf41 : ¬ (((ff_isValue x1 w) = 0) ∨ ((ff_isValue x2 w) = 0)) → ZV Γ w 18 [(0, ar (D.x + 1)), (1, ai x1), (2, ai x2)] [] := by
    intro c42
    have h := h.2 c42
    refine zv_aload_n G rfl rfl dX1_alike_18 ?_
    refine zt_get (k := 115) (v := ar (D.ad 115 + 1)) G (by decide) q2270 rfl dX1_alike_19 ?_
    refine zv_iconst (a := 0) G (by decide) dX1_alike_22 ?_
    refine zv_iload_n G rfl rfl dX1_alike_23 ?_
    refine zt_iast (f := 115) G (by decide) rfl (zr_k 0 (by decide) (by decide)) rx1 (by omega) (by decide) dX1_alike_24 (fun u7 eu7 => ?_)
    have h := h u7 eu7
    refine zt_tok G (fun hu7 => ?_)
    refine zv_aload_n G rfl rfl dX1_alike_25 ?_
    refine zt_get (k := 116) (v := ar (D.ad 116 + 1)) G (by decide) q2271 rfl dX1_alike_26 ?_
    refine zv_iconst (a := 0) G (by decide) dX1_alike_29 ?_
    refine zv_iload_n G rfl rfl dX1_alike_30 ?_
    refine zt_iast (f := 116) G (by decide) rfl (zr_k 0 (by decide) (by decide)) rx2 (by omega) (by decide) dX1_alike_31 (fun u8 eu8 => ?_)
    have h := h u8 eu8
    refine zt_tok G (fun hu8 => ?_)
    refine zv_iconst (a := 1) G (by decide) dX1_alike_32 ?_
    refine zv_istore_n G rfl (by decide) rfl dX1_alike_33 ?_
    exact zv_pick [0, 3] rfl (cpT_alike_34 G M S hk (zr_k 1 (by decide) (by decide)) h)
  refine zv_if_eq (tgt := 16) G (fr_isValue hw rx1) (by decide) dX1_alike_5 (fun c43 => ?_) (fun c43 => ?_)
  · exact kt40 (Or.inl c43)
  · refine zv_aload_n G rfl rfl dX1_alike_8 ?_
    refine zv_iload_n G rfl rfl dX1_alike_9 ?_
    refine zt_callI (as := [ai x2]) G M (S 84 _ rfl _ _ _ (fu_isValue (by omega)) (zoks_cons rx2 zoks_nil)) q2905 q2907 qs129 q2908 md_isValue rfl (by decide) (Nat.le_of_ble_eq_true rfl) dX1_alike_10 (fun v5 u6 _ q => ?_)
    obtain ⟨ev5, eu6⟩ := q
    rw [eu6, ev5]
    refine zv_if_ne (tgt := 18) G (fr_isValue hw rx2) (by decide) dX1_alike_13 (fun c44 => ?_) (fun c44 => ?_)
    · exact kf41 (fun q => q.elim c43 c44)
    · exact kt40 (Or.inr c44)
set_option maxHeartbeats 4000000 in
set_option maxRecDepth 100000 in
theorem cpT_fitsHere_169 {Γ : ZG TW} {D : TD} {B0 d : Nat} {lim : Nat × Nat} (G : ZOk Γ cX1_fitsHere RX1 3 (KnT D B0) (ZT D B0)) (M : ZRm Γ (d + 1) lim (some .boolean) "fitsHere" []) (S : SdT d D B0 Γ.l lim) (hk : 0 ≤ d) {s0 : Int} {w : TW} (rs0 : zr s0) (h : pT_fitsHere_169 (wpT d) (fun v w => Γ.Q (.inl (some (ai v))) w) s0 w) : ZV Γ w 169 [] [ai s0] := by
  refine zt_tok G (fun hw => ?_)
  exact zv_iret (ty := .boolean) rs0 G M (zn_Z h.1) dX1_fitsHere_169 h.2
set_option maxHeartbeats 4000000 in
set_option maxRecDepth 100000 in
theorem cpT_fitsHere_168 {Γ : ZG TW} {D : TD} {B0 d : Nat} {lim : Nat × Nat} (G : ZOk Γ cX1_fitsHere RX1 3 (KnT D B0) (ZT D B0)) (M : ZRm Γ (d + 1) lim (some .boolean) "fitsHere" []) (S : SdT d D B0 Γ.l lim) (hk : 0 ≤ d) {w : TW} (h : pT_fitsHere_168 (wpT d) (fun v w => Γ.Q (.inl (some (ai v))) w) w) : ZV Γ w 168 [] [] := by
  refine zt_tok G (fun hw => ?_)
  refine zv_iconst (a := 0) G (by decide) dX1_fitsHere_168 ?_
  exact zv_pick [] rfl (cpT_fitsHere_169 G M S hk (zr_k 0 (by decide) (by decide)) h)
set_option maxHeartbeats 4000000 in
set_option maxRecDepth 100000 in
theorem cpT_fitsHere_0 {Γ : ZG TW} {D : TD} {B0 d : Nat} {lim : Nat × Nat} (G : ZOk Γ cX1_fitsHere RX1 3 (KnT D B0) (ZT D B0)) (M : ZRm Γ (d + 1) lim (some .boolean) "fitsHere" []) (S : SdT d D B0 Γ.l lim) (hk : 0 ≤ d) {x1 : Int} {x2 : Int} {w : TW} (rx1 : zr x1) (rx2 : zr x2) (h : pT_fitsHere_0 (wpT d) (fun v w => Γ.Q (.inl (some (ai v))) w) x1 x2 w) : ZV Γ w 0 [(0, ar (D.x + 1)), (1, ai x1), (2, ai x2)] [] := by
  refine zt_tok G (fun hw => ?_)
  refine zv_aload_n G rfl rfl dX1_fitsHere_0 ?_
  refine zt_get (k := 17) (v := ar (D.ad 17 + 1)) G (by decide) q2172 rfl dX1_fitsHere_1 ?_
  refine zv_iload_n G rfl rfl dX1_fitsHere_4 ?_
  have o1 := h.1
  have h := h.2
  refine zt_iald (f := 17) G (by decide) rfl rx1 o1.1 o1.2 dX1_fitsHere_5 ?_
  by_cases c9 : (tA w 17 x1) = 1
  · have h := h.1 c9
    refine zv_tswI (tgt := 40) G dX1_fitsHere_6 0 (hw.a 17 _ (by decide)) (by omega) (by omega) rfl (by decide) ?_
    refine zv_aload_n G rfl rfl dX1_fitsHere_40 ?_
    refine zt_get (k := 111) (v := ar (D.ad 111 + 1)) G (by decide) q2266 rfl dX1_fitsHere_41 ?_
    refine zv_iload_n G rfl rfl dX1_fitsHere_44 ?_
    have o2 := h.1
    have h := h.2
    refine zt_iald (f := 111) G (by decide) rfl rx2 o2.1 o2.2 dX1_fitsHere_45 ?_
    refine zv_aload_n G rfl rfl dX1_fitsHere_46 ?_
    refine zt_get (k := 19) (v := ar (D.ad 19 + 1)) G (by decide) q2174 rfl dX1_fitsHere_47 ?_
    refine zv_iload_n G rfl rfl dX1_fitsHere_50 ?_
    have o3 := h.1
    have h := h.2
    refine zt_iald (f := 19) G (by decide) rfl rx1 o3.1 o3.2 dX1_fitsHere_51 ?_
    have o5 := h.1
    have h := h.2
    have kj6 : ∀ v4 : Int, v4 = (if ¬ ((tA w 111 x2) < (tA w 19 x1)) ∧ (¬ ((tA w 20 x1) < (tA w 111 x2))) then 1 else 0) → ZV Γ w 75 [(0, ar (D.x + 1)), (1, ai x1), (2, ai x2)] (ai v4 :: []) := by
      intro v4 ev4
      have h := h v4 ev4
      have rv4 : zr v4 := by rw [ev4]; exact (zr_ite (zr_k 1 (by decide) (by decide)) (zr_k 0 (by decide) (by decide)))
      have bv4 : v4 = 0 ∨ v4 = 1 := by rw [ev4]; exact (zb_ite (Or.inr rfl) (Or.inl rfl))
      exact zv_iret (ty := .boolean) rv4 G M (zn_Z bv4) dX1_fitsHere_75 h
    refine zv_icmp_lt (tgt := 74) G (hw.a 111 _ (by decide)) (hw.a 19 _ (by decide)) (by decide) dX1_fitsHere_52 (fun c7 => ?_) (fun c7 => ?_)
    · refine zv_iconst (a := 0) G (by decide) dX1_fitsHere_74 ?_
      exact kj6 _ (if_neg (fun q => q.1 c7)).symm
    · refine zv_aload_n G rfl rfl dX1_fitsHere_55 ?_
      refine zt_get (k := 111) (v := ar (D.ad 111 + 1)) G (by decide) q2266 rfl dX1_fitsHere_56 ?_
      refine zv_iload_n G rfl rfl dX1_fitsHere_59 ?_
      refine zt_iald (f := 111) G (by decide) rfl rx2 (o5 c7).1.1 (o5 c7).1.2 dX1_fitsHere_60 ?_
      refine zv_aload_n G rfl rfl dX1_fitsHere_61 ?_
      refine zt_get (k := 20) (v := ar (D.ad 20 + 1)) G (by decide) q2175 rfl dX1_fitsHere_62 ?_
      refine zv_iload_n G rfl rfl dX1_fitsHere_65 ?_
      refine zt_iald (f := 20) G (by decide) rfl rx1 (o5 c7).2.1 (o5 c7).2.2 dX1_fitsHere_66 ?_
      refine zv_icmp_gt (tgt := 74) G (hw.a 111 _ (by decide)) (hw.a 20 _ (by decide)) (by decide) dX1_fitsHere_67 (fun c8 => ?_) (fun c8 => ?_)
      · refine zv_iconst (a := 0) G (by decide) dX1_fitsHere_74 ?_
        exact kj6 _ (if_neg (fun q => (fun q => q c8) q.2)).symm
      · refine zv_iconst (a := 1) G (by decide) dX1_fitsHere_70 ?_
        refine zv_goto (tgt := 75) G (by decide) dX1_fitsHere_71 ?_
        exact kj6 _ (if_pos ⟨c7, c8⟩).symm
  by_cases c15 : (tA w 17 x1) = 2
  · have h := h.2.1 c15
    refine zv_tswI (tgt := 76) G dX1_fitsHere_6 1 (hw.a 17 _ (by decide)) (by omega) (by omega) rfl (by decide) ?_
    refine zv_aload_n G rfl rfl dX1_fitsHere_76 ?_
    refine zt_get (k := 111) (v := ar (D.ad 111 + 1)) G (by decide) q2266 rfl dX1_fitsHere_77 ?_
    refine zv_iload_n G rfl rfl dX1_fitsHere_80 ?_
    have o10 := h.1
    have h := h.2
    refine zt_iald (f := 111) G (by decide) rfl rx2 o10.1 o10.2 dX1_fitsHere_81 ?_
    refine zv_aload_n G rfl rfl dX1_fitsHere_82 ?_
    refine zt_get (k := 19) (v := ar (D.ad 19 + 1)) G (by decide) q2174 rfl dX1_fitsHere_83 ?_
    refine zv_iload_n G rfl rfl dX1_fitsHere_86 ?_
    have o11 := h.1
    have h := h.2
    refine zt_iald (f := 19) G (by decide) rfl rx1 o11.1 o11.2 dX1_fitsHere_87 ?_
    have kj13 : ∀ v12 : Int, v12 = (if (tA w 111 x2) = (tA w 19 x1) then 1 else 0) → ZV Γ w 96 [(0, ar (D.x + 1)), (1, ai x1), (2, ai x2)] (ai v12 :: []) := by
      intro v12 ev12
      have h := h v12 ev12
      have rv12 : zr v12 := by rw [ev12]; exact (zr_ite (zr_k 1 (by decide) (by decide)) (zr_k 0 (by decide) (by decide)))
      have bv12 : v12 = 0 ∨ v12 = 1 := by rw [ev12]; exact (zb_ite (Or.inr rfl) (Or.inl rfl))
      exact zv_iret (ty := .boolean) rv12 G M (zn_Z bv12) dX1_fitsHere_96 h
    refine zv_icmp_ne (tgt := 95) G (hw.a 111 _ (by decide)) (hw.a 19 _ (by decide)) (by decide) dX1_fitsHere_88 (fun c14 => ?_) (fun c14 => ?_)
    · refine zv_iconst (a := 0) G (by decide) dX1_fitsHere_95 ?_
      exact kj13 _ (if_neg c14).symm
    · refine zv_iconst (a := 1) G (by decide) dX1_fitsHere_91 ?_
      refine zv_goto (tgt := 96) G (by decide) dX1_fitsHere_92 ?_
      exact kj13 _ (if_pos c14).symm
  by_cases c21 : (tA w 17 x1) = 3
  · have h := h.2.2.1 c21
    refine zv_tswI (tgt := 97) G dX1_fitsHere_6 2 (hw.a 17 _ (by decide)) (by omega) (by omega) rfl (by decide) ?_
    refine zv_aload_n G rfl rfl dX1_fitsHere_97 ?_
    refine zt_get (k := 112) (v := ar (D.ad 112 + 1)) G (by decide) q2267 rfl dX1_fitsHere_98 ?_
    refine zv_iload_n G rfl rfl dX1_fitsHere_101 ?_
    have o16 := h.1
    have h := h.2
    refine zt_lald (f := 112) G (by decide) rfl rx2 o16.1 o16.2 dX1_fitsHere_102 ?_
    refine zv_aload_n G rfl rfl dX1_fitsHere_103 ?_
    refine zt_get (k := 21) (v := ar (D.ad 21 + 1)) G (by decide) q2176 rfl dX1_fitsHere_104 ?_
    refine zv_iload_n G rfl rfl dX1_fitsHere_107 ?_
    have o17 := h.1
    have h := h.2
    refine zt_lald (f := 21) G (by decide) rfl rx1 o17.1 o17.2 dX1_fitsHere_108 ?_
    refine zv_lcmp G (hw.al 112 _ (by decide)) (hw.al 21 _ (by decide)) dX1_fitsHere_109 ?_
    have kj19 : ∀ v18 : Int, v18 = (if (tA w 112 x2) = (tA w 21 x1) then 1 else 0) → ZV Γ w 118 [(0, ar (D.x + 1)), (1, ai x1), (2, ai x2)] (ai v18 :: []) := by
      intro v18 ev18
      have h := h v18 ev18
      have rv18 : zr v18 := by rw [ev18]; exact (zr_ite (zr_k 1 (by decide) (by decide)) (zr_k 0 (by decide) (by decide)))
      have bv18 : v18 = 0 ∨ v18 = 1 := by rw [ev18]; exact (zb_ite (Or.inr rfl) (Or.inl rfl))
      exact zv_iret (ty := .boolean) rv18 G M (zn_Z bv18) dX1_fitsHere_118 h
    refine zv_lif_ne (tgt := 117) G (by decide) dX1_fitsHere_110 (fun c20 => ?_) (fun c20 => ?_)
    · refine zv_iconst (a := 0) G (by decide) dX1_fitsHere_117 ?_
      exact kj19 _ (if_neg c20).symm
    · refine zv_iconst (a := 1) G (by decide) dX1_fitsHere_113 ?_
      refine zv_goto (tgt := 118) G (by decide) dX1_fitsHere_114 ?_
      exact kj19 _ (if_pos c20).symm
  by_cases c26 : (tA w 17 x1) = 4
  · have h := h.2.2.2.1 c26
    refine zv_tswI (tgt := 119) G dX1_fitsHere_6 3 (hw.a 17 _ (by decide)) (by omega) (by omega) rfl (by decide) ?_
    refine zv_aload_n G rfl rfl dX1_fitsHere_119 ?_
    refine zt_get (k := 110) (v := ar (D.ad 110 + 1)) G (by decide) q2265 rfl dX1_fitsHere_120 ?_
    refine zv_iload_n G rfl rfl dX1_fitsHere_123 ?_
    have o22 := h.1
    have h := h.2
    refine zt_iald (f := 110) G (by decide) rfl rx2 o22.1 o22.2 dX1_fitsHere_124 ?_
    refine zv_iconst (a := 3) G (by decide) dX1_fitsHere_125 ?_
    have kj24 : ∀ v23 : Int, v23 = (if (tA w 110 x2) = 3 then 1 else 0) → ZV Γ w 134 [(0, ar (D.x + 1)), (1, ai x1), (2, ai x2)] (ai v23 :: []) := by
      intro v23 ev23
      have h := h v23 ev23
      have rv23 : zr v23 := by rw [ev23]; exact (zr_ite (zr_k 1 (by decide) (by decide)) (zr_k 0 (by decide) (by decide)))
      have bv23 : v23 = 0 ∨ v23 = 1 := by rw [ev23]; exact (zb_ite (Or.inr rfl) (Or.inl rfl))
      exact zv_iret (ty := .boolean) rv23 G M (zn_Z bv23) dX1_fitsHere_134 h
    refine zv_icmp_ne (tgt := 133) G (hw.a 110 _ (by decide)) (zr_k 3 (by decide) (by decide)) (by decide) dX1_fitsHere_126 (fun c25 => ?_) (fun c25 => ?_)
    · refine zv_iconst (a := 0) G (by decide) dX1_fitsHere_133 ?_
      exact kj24 _ (if_neg c25).symm
    · refine zv_iconst (a := 1) G (by decide) dX1_fitsHere_129 ?_
      refine zv_goto (tgt := 134) G (by decide) dX1_fitsHere_130 ?_
      exact kj24 _ (if_pos c25).symm
  by_cases c34 : (tA w 17 x1) = 5
  · have h := h.2.2.2.2.1 c34
    refine zv_tswI (tgt := 135) G dX1_fitsHere_6 4 (hw.a 17 _ (by decide)) (by omega) (by omega) rfl (by decide) ?_
    refine zv_aload_n G rfl rfl dX1_fitsHere_135 ?_
    refine zt_get (k := 110) (v := ar (D.ad 110 + 1)) G (by decide) q2265 rfl dX1_fitsHere_136 ?_
    refine zv_iload_n G rfl rfl dX1_fitsHere_139 ?_
    have o27 := h.1
    have h := h.2
    refine zt_iald (f := 110) G (by decide) rfl rx2 o27.1 o27.2 dX1_fitsHere_140 ?_
    refine zv_iconst (a := 4) G (by decide) dX1_fitsHere_141 ?_
    refine zv_icmp_ne (tgt := 168) G (hw.a 110 _ (by decide)) (zr_k 4 (by decide) (by decide)) (by decide) dX1_fitsHere_142 (fun c28 => ?_) (fun c28 => ?_)
    · have h := h.2 c28
      exact zv_pick [] rfl (cpT_fitsHere_168 G M S hk h)
    · have h := h.1 c28
      refine zv_aload_n G rfl rfl dX1_fitsHere_145 ?_
      refine zv_aload_n G rfl rfl dX1_fitsHere_146 ?_
      refine zt_get (k := 111) (v := ar (D.ad 111 + 1)) G (by decide) q2266 rfl dX1_fitsHere_147 ?_
      refine zv_iload_n G rfl rfl dX1_fitsHere_150 ?_
      have o29 := h.1
      have h := h.2
      refine zt_iald (f := 111) G (by decide) rfl rx2 o29.1 o29.2 dX1_fitsHere_151 ?_
      refine zv_aload_n G rfl rfl dX1_fitsHere_152 ?_
      refine zt_get (k := 19) (v := ar (D.ad 19 + 1)) G (by decide) q2174 rfl dX1_fitsHere_153 ?_
      refine zv_iload_n G rfl rfl dX1_fitsHere_156 ?_
      have o30 := h.1
      have h := h.2
      refine zt_iald (f := 19) G (by decide) rfl rx1 o30.1 o30.2 dX1_fitsHere_157 ?_
      refine zt_callI (as := [ai (tA w 111 x2), ai (tA w 19 x1)]) G M (S 26 _ rfl _ _ _ h (zoks_cons (hw.a 111 _ (by decide)) (zoks_cons (hw.a 19 _ (by decide)) zoks_nil))) q2670 q2672 qs87 q2673 md_isOf rfl (by decide) (Nat.le_of_ble_eq_true rfl) dX1_fitsHere_158 (fun v32 u31 rv32 h => ?_)
      refine zt_tok G (fun hu31 => ?_)
      refine zv_if_eq (tgt := 168) G rv32 (by decide) dX1_fitsHere_161 (fun c33 => ?_) (fun c33 => ?_)
      · have h := h.1 c33
        exact zv_pick [] rfl (cpT_fitsHere_168 G M S hk h)
      · have h := h.2 c33
        refine zv_iconst (a := 1) G (by decide) dX1_fitsHere_164 ?_
        refine zv_goto (tgt := 169) G (by decide) dX1_fitsHere_165 ?_
        exact zv_pick [] rfl (cpT_fitsHere_169 G M S hk (zr_k 1 (by decide) (by decide)) h)
  have h := h.2.2.2.2.2 c9 c15 c21 c26 c34
  refine zv_tswO (tgt := 170) G dX1_fitsHere_6 (hw.a 17 _ (by decide)) (by omega) (by decide) ?_
  refine zv_iconst (a := 1) G (by decide) dX1_fitsHere_170 ?_
  exact zv_iret (ty := .boolean) (zr_k 1 (by decide) (by decide)) G M (zn_Z (Or.inr rfl)) dX1_fitsHere_171 h
set_option maxHeartbeats 4000000 in
set_option maxRecDepth 100000 in
theorem cpT_binds0_114 {Γ : ZG TW} {D : TD} {B0 d : Nat} {lim : Nat × Nat} (G : ZOk Γ cX1_binds0 RX1 5 (KnT D B0) (ZT D B0)) (M : ZRm Γ (d + 1) lim (some .boolean) "binds0" []) (S : SdT d D B0 Γ.l lim) (hk : 0 ≤ d) {w : TW} (h : pT_binds0_114 (wpT d) (fun v w => Γ.Q (.inl (some (ai v))) w) w) : ZV Γ w 114 [] [] := by
  refine zt_tok G (fun hw => ?_)
  refine zv_iconst (a := 1) G (by decide) dX1_binds0_114 ?_
  exact zv_iret (ty := .boolean) (zr_k 1 (by decide) (by decide)) G M (zn_Z (Or.inr rfl)) dX1_binds0_115 h
set_option maxHeartbeats 4000000 in
set_option maxRecDepth 100000 in
theorem cpT_binds0_111 {Γ : ZG TW} {D : TD} {B0 d : Nat} {lim : Nat × Nat} (G : ZOk Γ cX1_binds0 RX1 5 (KnT D B0) (ZT D B0)) (M : ZRm Γ (d + 1) lim (some .boolean) "binds0" []) (S : SdT d D B0 Γ.l lim) (hk : 0 ≤ d) {I18 : TW → Prop} {w : TW} (hI18 : ∀ (w : TW), I18 w → ZV Γ w 18 [(0, ar (D.x + 1))] []) (h : pT_binds0_111 (wpT d) (fun v w => Γ.Q (.inl (some (ai v))) w) I18 w) : ZV Γ w 111 [(0, ar (D.x + 1))] [] := by
  refine zt_tok G (fun hw => ?_)
  refine zv_goto (tgt := 18) G (by decide) dX1_binds0_111 ?_
  exact zv_pick [0] rfl (hI18 _ h )
set_option maxHeartbeats 4000000 in
set_option maxRecDepth 100000 in
theorem cpT_binds0_51 {Γ : ZG TW} {D : TD} {B0 d : Nat} {lim : Nat × Nat} (G : ZOk Γ cX1_binds0 RX1 5 (KnT D B0) (ZT D B0)) (M : ZRm Γ (d + 1) lim (some .boolean) "binds0" []) (S : SdT d D B0 Γ.l lim) (hk : 0 ≤ d) {w : TW} (h : pT_binds0_51 (wpT d) (fun v w => Γ.Q (.inl (some (ai v))) w) w) : ZV Γ w 51 [] [] := by
  refine zt_tok G (fun hw => ?_)
  refine zv_iconst (a := 0) G (by decide) dX1_binds0_51 ?_
  exact zv_iret (ty := .boolean) (zr_k 0 (by decide) (by decide)) G M (zn_Z (Or.inl rfl)) dX1_binds0_52 h
set_option maxHeartbeats 4000000 in
set_option maxRecDepth 100000 in
theorem cpT_binds0_18 {Γ : ZG TW} {D : TD} {B0 d : Nat} {lim : Nat × Nat} (G : ZOk Γ cX1_binds0 RX1 5 (KnT D B0) (ZT D B0)) (M : ZRm Γ (d + 1) lim (some .boolean) "binds0" []) (S : SdT d D B0 Γ.l lim) (hk : 0 ≤ d) {w : TW} (h : pT_binds0_18 (wpT d) (fun v w => Γ.Q (.inl (some (ai v))) w) w) : ZV Γ w 18 [(0, ar (D.x + 1))] [] := by
  refine h (fun w => ZV Γ w 18 [(0, ar (D.x + 1))] []) ?_ 
  clear h
  intro w h 
  have hI18 : ∀ (w : TW), (fun w => ZV Γ w 18 [(0, ar (D.x + 1))] []) w → ZV Γ w 18 [(0, ar (D.x + 1))] [] := fun _ z => z
  refine zt_tok G (fun hw => ?_)
  refine zv_aload_n G rfl rfl dX1_binds0_18 ?_
  refine zt_get (k := 71) (v := ai (tI w 71)) G (by decide) q2226 rfl dX1_binds0_19 ?_
  refine zv_if_le (tgt := 114) G (hw.i 71 (by decide)) (by decide) dX1_binds0_22 (fun c4 => ?_) (fun c4 => ?_)
  · have h := h.1 c4
    exact zv_pick [] rfl (cpT_binds0_114 G M S hk h)
  · have h := h.2 c4
    refine zv_aload_n G rfl rfl dX1_binds0_25 ?_
    refine zt_callI (as := []) G M (S 50 _ rfl _ _ _ h zoks_nil) q2766 q2768 qs111 q2769 md_nextPattern rfl (by decide) (Nat.le_of_ble_eq_true rfl) dX1_binds0_26 (fun v6 u5 rv6 h => ?_)
    refine zt_tok G (fun hu5 => ?_)
    refine zv_istore_n G rfl (by decide) rfl dX1_binds0_29 ?_
    refine zv_aload_n G rfl rfl dX1_binds0_30 ?_
    refine zt_get (k := 75) (v := ar (D.ad 75 + 1)) G (by decide) q2230 rfl dX1_binds0_31 ?_
    refine zv_aload_n G rfl rfl dX1_binds0_34 ?_
    refine zt_get (k := 71) (v := ai (tI u5 71)) G (by decide) q2226 rfl dX1_binds0_35 ?_
    have o7 := h.1
    have h := h.2
    refine zt_iald (f := 75) G (by decide) rfl (hu5.i 71 (by decide)) o7.1 o7.2 dX1_binds0_38 ?_
    refine zv_istoreN G (by decide) dX1_binds0_39 (fun x4_8 ex4_8 => ?_)
    have h := h x4_8 ex4_8
    have rx4_8 : zr x4_8 := by rw [ex4_8]; exact (hu5.a 75 _ (by decide))
    refine zv_aload_n G rfl rfl dX1_binds0_41 ?_
    refine zv_iload_n G rfl rfl dX1_binds0_42 ?_
    refine zv_iload G rfl dX1_binds0_43 ?_
    refine zt_callI (as := [ai v6, ai x4_8]) G M (S 92 _ rfl _ _ _ h (zoks_cons rv6 (zoks_cons rx4_8 zoks_nil))) q2938 q2940 qs134 q2941 md_fitsHere rfl (by decide) (Nat.le_of_ble_eq_true rfl) dX1_binds0_45 (fun v10 u9 rv10 h => ?_)
    refine zt_tok G (fun hu9 => ?_)
    refine zv_if_ne (tgt := 53) G rv10 (by decide) dX1_binds0_48 (fun c11 => ?_) (fun c11 => ?_)
    · have h := h.2 c11
      refine zv_aload_n G rfl rfl dX1_binds0_53 ?_
      refine zv_iload_n G rfl rfl dX1_binds0_54 ?_
      refine zv_iload G rfl dX1_binds0_55 ?_
      refine zt_callV (as := [ai v6, ai x4_8]) G M (S 51 _ rfl _ _ _ h (zoks_cons rv6 (zoks_cons rx4_8 zoks_nil))) q2770 q2772 qs112 q2773 md_notes rfl (by decide) (Nat.le_of_ble_eq_true rfl) dX1_binds0_57 (fun u12 h => ?_)
      refine zt_tok G (fun hu12 => ?_)
      refine zv_aload_n G rfl rfl dX1_binds0_60 ?_
      refine zt_get (k := 17) (v := ar (D.ad 17 + 1)) G (by decide) q2172 rfl dX1_binds0_61 ?_
      refine zv_iload_n G rfl rfl dX1_binds0_64 ?_
      have o13 := h.1
      have h := h.2
      refine zt_iald (f := 17) G (by decide) rfl rv6 o13.1 o13.2 dX1_binds0_65 ?_
      refine zv_iconst (a := 5) G (by decide) dX1_binds0_66 ?_
      have o14 := h.1
      have h := h.2
      have kt19 : ((tA u12 17 v6) = 5) ∧ (¬ ((tA u12 22 v6) = (-4))) → ZV Γ u12 81 [(4, ai x4_8), (3, ai v6), (0, ar (D.x + 1))] [] := by
        intro c21
        have h := h.1 c21
        refine zv_aload_n G rfl rfl dX1_binds0_81 ?_
        refine zv_aload_n G rfl rfl dX1_binds0_82 ?_
        refine zt_get (k := 22) (v := ar (D.ad 22 + 1)) G (by decide) q2177 rfl dX1_binds0_83 ?_
        refine zv_iload_n G rfl rfl dX1_binds0_86 ?_
        have o15 := h.1
        have h := h.2
        refine zt_iald (f := 22) G (by decide) rfl rv6 o15.1 o15.2 dX1_binds0_87 ?_
        refine zv_aload_n G rfl rfl dX1_binds0_88 ?_
        refine zt_get (k := 73) (v := ar (D.ad 73 + 1)) G (by decide) q2228 rfl dX1_binds0_89 ?_
        refine zv_aload_n G rfl rfl dX1_binds0_92 ?_
        refine zt_get (k := 71) (v := ai (tI u12 71)) G (by decide) q2226 rfl dX1_binds0_93 ?_
        have o16 := h.1
        have h := h.2
        refine zt_iald (f := 73) G (by decide) rfl (hu12.i 71 (by decide)) o16.1 o16.2 dX1_binds0_96 ?_
        refine zv_aload_n G rfl rfl dX1_binds0_97 ?_
        refine zt_get (k := 74) (v := ar (D.ad 74 + 1)) G (by decide) q2229 rfl dX1_binds0_98 ?_
        refine zv_aload_n G rfl rfl dX1_binds0_101 ?_
        refine zt_get (k := 71) (v := ai (tI u12 71)) G (by decide) q2226 rfl dX1_binds0_102 ?_
        have o17 := h.1
        have h := h.2
        refine zt_iald (f := 74) G (by decide) rfl (hu12.i 71 (by decide)) o17.1 o17.2 dX1_binds0_105 ?_
        refine zv_iload G rfl dX1_binds0_106 ?_
        refine zt_callV (as := [ai (tA u12 22 v6), ai (tA u12 73 (tI u12 71)), ai (tA u12 74 (tI u12 71)), ai x4_8]) G M (S 48 _ rfl _ _ _ h (zoks_cons (hu12.a 22 _ (by decide)) (zoks_cons (hu12.a 73 _ (by decide)) (zoks_cons (hu12.a 74 _ (by decide)) (zoks_cons rx4_8 zoks_nil))))) q2758 q2760 qs109 q2761 md_waitAll rfl (by decide) (Nat.le_of_ble_eq_true rfl) dX1_binds0_108 (fun u18 h => ?_)
        refine zt_tok G (fun hu18 => ?_)
        exact zv_pick [0] rfl (cpT_binds0_111 G M S hk hI18 h)
      have kf20 : ¬ (((tA u12 17 v6) = 5) ∧ (¬ ((tA u12 22 v6) = (-4)))) → ZV Γ u12 111 [(4, ai x4_8), (3, ai v6), (0, ar (D.x + 1))] [] := by
        intro c21
        have h := h.2 c21
        exact zv_pick [0] rfl (cpT_binds0_111 G M S hk hI18 h)
      refine zv_icmp_ne (tgt := 111) G (hu12.a 17 _ (by decide)) (zr_k 5 (by decide) (by decide)) (by decide) dX1_binds0_67 (fun c22 => ?_) (fun c22 => ?_)
      · exact kf20 (fun q => c22 q.1)
      · refine zv_aload_n G rfl rfl dX1_binds0_70 ?_
        refine zt_get (k := 22) (v := ar (D.ad 22 + 1)) G (by decide) q2177 rfl dX1_binds0_71 ?_
        refine zv_iload_n G rfl rfl dX1_binds0_74 ?_
        refine zt_iald (f := 22) G (by decide) rfl rv6 (o14 c22).1 (o14 c22).2 dX1_binds0_75 ?_
        refine zv_bipush (a := (-4)) G (by decide) dX1_binds0_76 ?_
        refine zv_icmp_eq (tgt := 111) G (hu12.a 22 _ (by decide)) (zr_k (-4) (by decide) (by decide)) (by decide) dX1_binds0_78 (fun c23 => ?_) (fun c23 => ?_)
        · exact kf20 (fun q => (fun q => q c23) q.2)
        · exact kt19 ⟨c22, c23⟩
    · have h := h.1 c11
      exact zv_pick [] rfl (cpT_binds0_51 G M S hk h)
set_option maxHeartbeats 4000000 in
set_option maxRecDepth 100000 in
theorem cpT_binds0_0 {Γ : ZG TW} {D : TD} {B0 d : Nat} {lim : Nat × Nat} (G : ZOk Γ cX1_binds0 RX1 5 (KnT D B0) (ZT D B0)) (M : ZRm Γ (d + 1) lim (some .boolean) "binds0" []) (S : SdT d D B0 Γ.l lim) (hk : 0 ≤ d) {x1 : Int} {x2 : Int} {w : TW} (rx1 : zr x1) (rx2 : zr x2) (h : pT_binds0_0 (wpT d) (fun v w => Γ.Q (.inl (some (ai v))) w) x1 x2 w) : ZV Γ w 0 [(0, ar (D.x + 1)), (1, ai x1), (2, ai x2)] [] := by
  refine zt_tok G (fun hw => ?_)
  refine zv_aload_n G rfl rfl dX1_binds0_0 ?_
  refine zv_iconst (a := 0) G (by decide) dX1_binds0_1 ?_
  refine zt_putI (k := 71) G (by decide) q2226 rfl (tyX1_ok 71 (by decide)) rfl (zr_k 0 (by decide) (by decide)) dX1_binds0_2 (fun u1 eu1 => ?_)
  have h := h u1 eu1
  refine zt_tok G (fun hu1 => ?_)
  refine zv_aload_n G rfl rfl dX1_binds0_5 ?_
  refine zv_aload_n G rfl rfl dX1_binds0_6 ?_
  refine zt_get (k := 47) (v := ar (D.ad 47 + 1)) G (by decide) q2202 rfl dX1_binds0_7 ?_
  refine zv_iload_n G rfl rfl dX1_binds0_10 ?_
  have o2 := h.1
  have h := h.2
  refine zt_iald (f := 47) G (by decide) rfl rx1 o2.1 o2.2 dX1_binds0_11 ?_
  refine zv_iload_n G rfl rfl dX1_binds0_12 ?_
  refine zv_iconst (a := 0) G (by decide) dX1_binds0_13 ?_
  refine zv_iconst (a := 0) G (by decide) dX1_binds0_14 ?_
  refine zt_callV (as := [ai (tA u1 47 x1), ai x2, ai 0, ai 0]) G M (S 48 _ rfl _ _ _ h (zoks_cons (hu1.a 47 _ (by decide)) (zoks_cons rx2 (zoks_cons (zr_k 0 (by decide) (by decide)) (zoks_cons (zr_k 0 (by decide) (by decide)) zoks_nil))))) q2758 q2760 qs109 q2761 md_waitAll rfl (by decide) (Nat.le_of_ble_eq_true rfl) dX1_binds0_15 (fun u3 h => ?_)
  refine zt_tok G (fun hu3 => ?_)
  exact zv_pick [0] rfl (cpT_binds0_18 G M S hk h)
set_option maxHeartbeats 4000000 in
set_option maxRecDepth 100000 in
theorem cpT_term_0 {Γ : ZG TW} {D : TD} {B0 d : Nat} {lim : Nat × Nat} (G : ZOk Γ cX1_term RX1 2 (KnT D B0) (ZT D B0)) (M : ZRm Γ (d + 1) lim (some .int) "term" []) (S : SdT d D B0 Γ.l lim) (hk : 0 ≤ d) {x1 : Int} {w : TW} (rx1 : zr x1) (h : pT_term_0 (wpT d) (fun v w => Γ.Q (.inl (some (ai v))) w) x1 w) : ZV Γ w 0 [(0, ar (D.x + 1)), (1, ai x1)] [] := by
  refine zt_tok G (fun hw => ?_)
  refine zv_aload_n G rfl rfl dX1_term_0 ?_
  refine zt_get (k := 50) (v := ar (D.ad 50 + 1)) G (by decide) q2205 rfl dX1_term_1 ?_
  refine zv_iload_n G rfl rfl dX1_term_4 ?_
  have o1 := h.1
  have h := h.2
  refine zt_iald (f := 50) G (by decide) rfl rx1 o1.1 o1.2 dX1_term_5 ?_
  refine zv_iconst (a := 2) G (by decide) dX1_term_6 ?_
  have o3 := h.1
  have h := h.2
  have kj4 : ∀ v2 : Int, v2 = (if (tA w 50 x1) = 2 then tA w 111 (tA w 118 (tA w 51 x1)) else tA w 51 x1) → ZV Γ w 35 [(0, ar (D.x + 1)), (1, ai x1)] (ai v2 :: []) := by
    intro v2 ev2
    have h := h v2 ev2
    have rv2 : zr v2 := by rw [ev2]; exact (zr_ite (hw.a 111 _ (by decide)) (hw.a 51 _ (by decide)))
    exact zv_iret (ty := .int) rv2 G M rfl dX1_term_35 h
  refine zv_icmp_ne (tgt := 29) G (hw.a 50 _ (by decide)) (zr_k 2 (by decide) (by decide)) (by decide) dX1_term_7 (fun c5 => ?_) (fun c5 => ?_)
  · refine zv_aload_n G rfl rfl dX1_term_29 ?_
    refine zt_get (k := 51) (v := ar (D.ad 51 + 1)) G (by decide) q2206 rfl dX1_term_30 ?_
    refine zv_iload_n G rfl rfl dX1_term_33 ?_
    refine zt_iald (f := 51) G (by decide) rfl rx1 (o3.2 c5).1 (o3.2 c5).2 dX1_term_34 ?_
    exact kj4 _ (if_neg c5).symm
  · refine zv_aload_n G rfl rfl dX1_term_10 ?_
    refine zt_get (k := 111) (v := ar (D.ad 111 + 1)) G (by decide) q2266 rfl dX1_term_11 ?_
    refine zv_aload_n G rfl rfl dX1_term_14 ?_
    refine zt_get (k := 118) (v := ar (D.ad 118 + 1)) G (by decide) q2273 rfl dX1_term_15 ?_
    refine zv_aload_n G rfl rfl dX1_term_18 ?_
    refine zt_get (k := 51) (v := ar (D.ad 51 + 1)) G (by decide) q2206 rfl dX1_term_19 ?_
    refine zv_iload_n G rfl rfl dX1_term_22 ?_
    refine zt_iald (f := 51) G (by decide) rfl rx1 (o3.1 c5).1.1 (o3.1 c5).1.2 dX1_term_23 ?_
    refine zt_iald (f := 118) G (by decide) rfl (hw.a 51 _ (by decide)) (o3.1 c5).2.1.1 (o3.1 c5).2.1.2 dX1_term_24 ?_
    refine zt_iald (f := 111) G (by decide) rfl (hw.a 118 _ (by decide)) (o3.1 c5).2.2.1 (o3.1 c5).2.2.2 dX1_term_25 ?_
    refine zv_goto (tgt := 35) G (by decide) dX1_term_26 ?_
    exact kj4 _ (if_pos c5).symm
set_option maxHeartbeats 4000000 in
set_option maxRecDepth 100000 in
theorem cpT_isThrown_0 {Γ : ZG TW} {D : TD} {B0 d : Nat} {lim : Nat × Nat} (G : ZOk Γ cX1_isThrown RX1 4 (KnT D B0) (ZT D B0)) (M : ZRm Γ (d + 1) lim (some .boolean) "isThrown" []) (S : SdT d D B0 Γ.l lim) (hk : 1 ≤ d) {x1 : Int} {x2 : Int} {w : TW} (rx1 : zr x1) (rx2 : zr x2) (h : pT_isThrown_0 (wpT d) (fun v w => Γ.Q (.inl (some (ai v))) w) x1 x2 w) : ZV Γ w 0 [(0, ar (D.x + 1)), (1, ai x1), (2, ai x2)] [] := by
  refine zt_tok G (fun hw => ?_)
  refine zv_aload_n G rfl rfl dX1_isThrown_0 ?_
  refine zt_get (k := 52) (v := ar (D.ad 52 + 1)) G (by decide) q2207 rfl dX1_isThrown_1 ?_
  refine zv_iconst (a := 2) G (by decide) dX1_isThrown_4 ?_
  refine zv_iload_n G rfl rfl dX1_isThrown_5 ?_
  refine zv_imul G dX1_isThrown_6 ?_
  refine zv_iload_n G rfl rfl dX1_isThrown_7 ?_
  refine zv_iadd G dX1_isThrown_8 ?_
  have o1 := h.1
  have h := h.2
  refine zt_iald (f := 52) G (by decide) rfl (w32_r _) o1.1 o1.2 dX1_isThrown_9 ?_
  refine zv_istore_nN G rfl (by decide) dX1_isThrown_10 (fun x3_2 ex3_2 => ?_)
  have h := h x3_2 ex3_2
  have rx3_2 : zr x3_2 := by rw [ex3_2]; exact (hw.a 52 _ (by decide))
  refine zv_iload_n G rfl rfl dX1_isThrown_11 ?_
  refine zv_bipush (a := 47) G (by decide) dX1_isThrown_12 ?_
  have o8 := h.1
  have h := h.2
  have kj9 : ∀ v7 : Int, v7 = (if ((x3_2 = 47) ∧ ((ff_term (w32 ((w32 ((w32 (4 * x1)) + (w32 (2 * x2)))) + 1)) w) = 0)) ∨ (¬ (x3_2 = 47) ∧ ((x3_2 = 37) ∧ ((ff_term (w32 ((w32 ((w32 (4 * x1)) + (w32 (2 * x2)))) + 1)) w) = 0))) then 1 else 0) → ZV Γ w 44 [(3, ai x3_2), (0, ar (D.x + 1)), (1, ai x1), (2, ai x2)] (ai v7 :: []) := by
    intro v7 ev7
    have h := h v7 ev7
    have rv7 : zr v7 := by rw [ev7]; exact (zr_ite (zr_k 1 (by decide) (by decide)) (zr_k 0 (by decide) (by decide)))
    have bv7 : v7 = 0 ∨ v7 = 1 := by rw [ev7]; exact (zb_ite (Or.inr rfl) (Or.inl rfl))
    exact zv_iret (ty := .boolean) rv7 G M (zn_Z bv7) dX1_isThrown_44 h
  refine zv_icmp_eq (tgt := 23) G rx3_2 (zr_k 47 (by decide) (by decide)) (by decide) dX1_isThrown_14 (fun c10 => ?_) (fun c10 => ?_)
  · refine zv_aload_n G rfl rfl dX1_isThrown_23 ?_
    refine zv_iconst (a := 4) G (by decide) dX1_isThrown_24 ?_
    refine zv_iload_n G rfl rfl dX1_isThrown_25 ?_
    refine zv_imul G dX1_isThrown_26 ?_
    refine zv_iconst (a := 2) G (by decide) dX1_isThrown_27 ?_
    refine zv_iload_n G rfl rfl dX1_isThrown_28 ?_
    refine zv_imul G dX1_isThrown_29 ?_
    refine zv_iadd G dX1_isThrown_30 ?_
    refine zv_iconst (a := 1) G (by decide) dX1_isThrown_31 ?_
    refine zv_iadd G dX1_isThrown_32 ?_
    refine zt_callI (as := [ai (w32 ((w32 ((w32 (4 * x1)) + (w32 (2 * x2)))) + 1))]) G M (S 95 _ rfl _ _ _ (fu_term (by omega) (o8.1 c10)) (zoks_cons (w32_r _) zoks_nil)) q2950 q2952 qs137 q2953 md_term rfl (by decide) (Nat.le_of_ble_eq_true rfl) dX1_isThrown_33 (fun v5 u6 _ q => ?_)
    obtain ⟨ev5, eu6⟩ := q
    rw [eu6, ev5]
    refine zv_if_ne (tgt := 43) G (fr_term hw (w32_r _)) (by decide) dX1_isThrown_36 (fun c11 => ?_) (fun c11 => ?_)
    · refine zv_iconst (a := 0) G (by decide) dX1_isThrown_43 ?_
      exact kj9 _ (if_neg (fun q => q.elim (fun z => c11 z.2) (fun z => z.1 c10))).symm
    · refine zv_iconst (a := 1) G (by decide) dX1_isThrown_39 ?_
      refine zv_goto (tgt := 44) G (by decide) dX1_isThrown_40 ?_
      exact kj9 _ (if_pos (Or.inl ⟨c10, c11⟩)).symm
  · refine zv_iload_n G rfl rfl dX1_isThrown_17 ?_
    refine zv_bipush (a := 37) G (by decide) dX1_isThrown_18 ?_
    refine zv_icmp_ne (tgt := 43) G rx3_2 (zr_k 37 (by decide) (by decide)) (by decide) dX1_isThrown_20 (fun c12 => ?_) (fun c12 => ?_)
    · refine zv_iconst (a := 0) G (by decide) dX1_isThrown_43 ?_
      exact kj9 _ (if_neg (fun q => q.elim (fun z => c10 z.1) (fun z => (fun q => c12 q.1) z.2))).symm
    · refine zv_aload_n G rfl rfl dX1_isThrown_23 ?_
      refine zv_iconst (a := 4) G (by decide) dX1_isThrown_24 ?_
      refine zv_iload_n G rfl rfl dX1_isThrown_25 ?_
      refine zv_imul G dX1_isThrown_26 ?_
      refine zv_iconst (a := 2) G (by decide) dX1_isThrown_27 ?_
      refine zv_iload_n G rfl rfl dX1_isThrown_28 ?_
      refine zv_imul G dX1_isThrown_29 ?_
      refine zv_iadd G dX1_isThrown_30 ?_
      refine zv_iconst (a := 1) G (by decide) dX1_isThrown_31 ?_
      refine zv_iadd G dX1_isThrown_32 ?_
      refine zt_callI (as := [ai (w32 ((w32 ((w32 (4 * x1)) + (w32 (2 * x2)))) + 1))]) G M (S 95 _ rfl _ _ _ (fu_term (by omega) ((o8.2 c10) c12)) (zoks_cons (w32_r _) zoks_nil)) q2950 q2952 qs137 q2953 md_term rfl (by decide) (Nat.le_of_ble_eq_true rfl) dX1_isThrown_33 (fun v5 u6 _ q => ?_)
      obtain ⟨ev5, eu6⟩ := q
      rw [eu6, ev5]
      refine zv_if_ne (tgt := 43) G (fr_term hw (w32_r _)) (by decide) dX1_isThrown_36 (fun c13 => ?_) (fun c13 => ?_)
      · refine zv_iconst (a := 0) G (by decide) dX1_isThrown_43 ?_
        exact kj9 _ (if_neg (fun q => q.elim (fun z => c10 z.1) (fun z => (fun q => c13 q.2) z.2))).symm
      · refine zv_iconst (a := 1) G (by decide) dX1_isThrown_39 ?_
        refine zv_goto (tgt := 44) G (by decide) dX1_isThrown_40 ?_
        exact kj9 _ (if_pos (Or.inr ⟨c10, ⟨c12, c13⟩⟩)).symm
set_option maxHeartbeats 4000000 in
set_option maxRecDepth 100000 in
theorem cpT_sum_0 {Γ : ZG TW} {D : TD} {B0 d : Nat} {lim : Nat × Nat} (G : ZOk Γ cX1_sum RX1 6 (KnT D B0) (ZT D B0)) (M : ZRm Γ (d + 1) lim (some .int) "sum" []) (S : SdT d D B0 Γ.l lim) (hk : 1 ≤ d) {x1 : Int} {x2 : Int} {w : TW} (rx1 : zr x1) (rx2 : zr x2) (h : pT_sum_0 (wpT d) (fun v w => Γ.Q (.inl (some (ai v))) w) x1 x2 w) : ZV Γ w 0 [(0, ar (D.x + 1)), (1, ai x1), (2, ai x2)] [] := by
  refine zt_tok G (fun hw => ?_)
  refine zv_aload_n G rfl rfl dX1_sum_0 ?_
  refine zv_iconst (a := 4) G (by decide) dX1_sum_1 ?_
  refine zv_iload_n G rfl rfl dX1_sum_2 ?_
  refine zv_imul G dX1_sum_3 ?_
  refine zv_iconst (a := 2) G (by decide) dX1_sum_4 ?_
  refine zv_iload_n G rfl rfl dX1_sum_5 ?_
  refine zv_imul G dX1_sum_6 ?_
  refine zv_iadd G dX1_sum_7 ?_
  have o3 := h.1
  have h := h.2
  refine zt_callI (as := [ai (w32 ((w32 (4 * x1)) + (w32 (2 * x2))))]) G M (S 95 _ rfl _ _ _ (fu_term (by omega) o3) (zoks_cons (w32_r _) zoks_nil)) q2950 q2952 qs137 q2953 md_term rfl (by decide) (Nat.le_of_ble_eq_true rfl) dX1_sum_8 (fun v1 u2 _ q => ?_)
  obtain ⟨ev1, eu2⟩ := q
  rw [eu2, ev1]
  refine zv_istore_nN G rfl (by decide) dX1_sum_11 (fun x3_4 ex3_4 => ?_)
  have h := h x3_4 ex3_4
  have rx3_4 : zr x3_4 := by rw [ex3_4]; exact (fr_term hw (w32_r _))
  refine zv_aload_n G rfl rfl dX1_sum_12 ?_
  refine zt_get (k := 52) (v := ar (D.ad 52 + 1)) G (by decide) q2207 rfl dX1_sum_13 ?_
  refine zv_iconst (a := 2) G (by decide) dX1_sum_16 ?_
  refine zv_iload_n G rfl rfl dX1_sum_17 ?_
  refine zv_imul G dX1_sum_18 ?_
  refine zv_iload_n G rfl rfl dX1_sum_19 ?_
  refine zv_iadd G dX1_sum_20 ?_
  have o5 := h.1
  have h := h.2
  refine zt_iald (f := 52) G (by decide) rfl (w32_r _) o5.1 o5.2 dX1_sum_21 ?_
  refine zv_istoreN G (by decide) dX1_sum_22 (fun x4_6 ex4_6 => ?_)
  have h := h x4_6 ex4_6
  have rx4_6 : zr x4_6 := by rw [ex4_6]; exact (hw.a 52 _ (by decide))
  refine zv_iload G rfl dX1_sum_24 ?_
  refine zv_if_ne (tgt := 31) G rx4_6 (by decide) dX1_sum_26 (fun c9 => ?_) (fun c9 => ?_)
  · have h := h.2 c9
    refine zv_aload_n G rfl rfl dX1_sum_31 ?_
    refine zv_iconst (a := 4) G (by decide) dX1_sum_32 ?_
    refine zv_iload_n G rfl rfl dX1_sum_33 ?_
    refine zv_imul G dX1_sum_34 ?_
    refine zv_iconst (a := 2) G (by decide) dX1_sum_35 ?_
    refine zv_iload_n G rfl rfl dX1_sum_36 ?_
    refine zv_imul G dX1_sum_37 ?_
    refine zv_iadd G dX1_sum_38 ?_
    refine zv_iconst (a := 1) G (by decide) dX1_sum_39 ?_
    refine zv_iadd G dX1_sum_40 ?_
    have o12 := h.1
    have h := h.2
    refine zt_callI (as := [ai (w32 ((w32 ((w32 (4 * x1)) + (w32 (2 * x2)))) + 1))]) G M (S 95 _ rfl _ _ _ (fu_term (by omega) o12) (zoks_cons (w32_r _) zoks_nil)) q2950 q2952 qs137 q2953 md_term rfl (by decide) (Nat.le_of_ble_eq_true rfl) dX1_sum_41 (fun v10 u11 _ q => ?_)
    obtain ⟨ev10, eu11⟩ := q
    rw [eu11, ev10]
    refine zv_istoreN G (by decide) dX1_sum_44 (fun x5_13 ex5_13 => ?_)
    have h := h x5_13 ex5_13
    have rx5_13 : zr x5_13 := by rw [ex5_13]; exact (fr_term hw (w32_r _))
    refine zv_iload G rfl dX1_sum_46 ?_
    refine zv_bipush (a := 43) G (by decide) dX1_sum_48 ?_
    have o15 := h.1
    have h := h.2
    have kj16 : ∀ v14 : Int, v14 = (if x4_6 = 43 then w32 (x3_4 + x5_13) else (if x4_6 = 45 then w32 (x3_4 - x5_13) else (if x4_6 = 42 then w32 (x3_4 * x5_13) else (if x4_6 = 47 then i_div x3_4 x5_13 else i_rem x3_4 x5_13)))) → ZV Γ w 106 [(5, ai x5_13), (4, ai x4_6), (3, ai x3_4), (0, ar (D.x + 1)), (1, ai x1), (2, ai x2)] (ai v14 :: []) := by
      intro v14 ev14
      have h := h v14 ev14
      have rv14 : zr v14 := by rw [ev14]; exact (zr_ite (w32_r _) (zr_ite (w32_r _) (zr_ite (w32_r _) (zr_ite (by first | exact i_and_r _ _ | exact i_or_r _ _ | exact i_shl_r _ _ | exact i_shr_r _ _ | exact i_ushr_r _ _ | exact i_b_r _ | exact i_c_r _ | exact i_xor_r _ _ | exact i_div_r _ _ | exact i_rem_r _ _ | exact zr_of _) (by first | exact i_and_r _ _ | exact i_or_r _ _ | exact i_shl_r _ _ | exact i_shr_r _ _ | exact i_ushr_r _ _ | exact i_b_r _ | exact i_c_r _ | exact i_xor_r _ _ | exact i_div_r _ _ | exact i_rem_r _ _ | exact zr_of _)))))
      exact zv_iret (ty := .int) rv14 G M rfl dX1_sum_106 h
    refine zv_icmp_ne (tgt := 60) G rx4_6 (zr_k 43 (by decide) (by decide)) (by decide) dX1_sum_50 (fun c17 => ?_) (fun c17 => ?_)
    · refine zv_iload G rfl dX1_sum_60 ?_
      refine zv_bipush (a := 45) G (by decide) dX1_sum_62 ?_
      refine zv_icmp_ne (tgt := 74) G rx4_6 (zr_k 45 (by decide) (by decide)) (by decide) dX1_sum_64 (fun c18 => ?_) (fun c18 => ?_)
      · refine zv_iload G rfl dX1_sum_74 ?_
        refine zv_bipush (a := 42) G (by decide) dX1_sum_76 ?_
        refine zv_icmp_ne (tgt := 88) G rx4_6 (zr_k 42 (by decide) (by decide)) (by decide) dX1_sum_78 (fun c19 => ?_) (fun c19 => ?_)
        · refine zv_iload G rfl dX1_sum_88 ?_
          refine zv_bipush (a := 47) G (by decide) dX1_sum_90 ?_
          refine zv_icmp_ne (tgt := 102) G rx4_6 (zr_k 47 (by decide) (by decide)) (by decide) dX1_sum_92 (fun c20 => ?_) (fun c20 => ?_)
          · refine zv_iload_n G rfl rfl dX1_sum_102 ?_
            refine zv_iload G rfl dX1_sum_103 ?_
            refine zv_irem G rx5_13 ((((o15 c17) c18) c19).2 c20) dX1_sum_105 ?_
            exact kj16 _ (by rw [if_neg c17, if_neg c18, if_neg c19, if_neg c20])
          · refine zv_iload_n G rfl rfl dX1_sum_95 ?_
            refine zv_iload G rfl dX1_sum_96 ?_
            refine zv_idiv G rx5_13 ((((o15 c17) c18) c19).1 c20) dX1_sum_98 ?_
            refine zv_goto (tgt := 106) G (by decide) dX1_sum_99 ?_
            exact kj16 _ (by rw [if_neg c17, if_neg c18, if_neg c19, if_pos c20])
        · refine zv_iload_n G rfl rfl dX1_sum_81 ?_
          refine zv_iload G rfl dX1_sum_82 ?_
          refine zv_imul G dX1_sum_84 ?_
          refine zv_goto (tgt := 106) G (by decide) dX1_sum_85 ?_
          exact kj16 _ (by rw [if_neg c17, if_neg c18, if_pos c19])
      · refine zv_iload_n G rfl rfl dX1_sum_67 ?_
        refine zv_iload G rfl dX1_sum_68 ?_
        refine zv_isub G dX1_sum_70 ?_
        refine zv_goto (tgt := 106) G (by decide) dX1_sum_71 ?_
        exact kj16 _ (by rw [if_neg c17, if_pos c18])
    · refine zv_iload_n G rfl rfl dX1_sum_53 ?_
      refine zv_iload G rfl dX1_sum_54 ?_
      refine zv_iadd G dX1_sum_56 ?_
      refine zv_goto (tgt := 106) G (by decide) dX1_sum_57 ?_
      exact kj16 _ (by rw [if_pos c17])
  · have h := h.1 c9
    refine zv_iload_n G rfl rfl dX1_sum_29 ?_
    exact zv_iret (ty := .int) rx3_4 G M rfl dX1_sum_30 h
set_option maxHeartbeats 4000000 in
set_option maxRecDepth 100000 in
theorem cpT_guarded_58 {Γ : ZG TW} {D : TD} {B0 d : Nat} {lim : Nat × Nat} (G : ZOk Γ cX1_guarded RX1 5 (KnT D B0) (ZT D B0)) (M : ZRm Γ (d + 1) lim (some .int) "guarded" []) (S : SdT d D B0 Γ.l lim) (hk : 2 ≤ d) {w : TW} (h : pT_guarded_58 (wpT d) (fun v w => Γ.Q (.inl (some (ai v))) w) w) : ZV Γ w 58 [] [] := by
  refine zt_tok G (fun hw => ?_)
  refine zv_iconst (a := 2) G (by decide) dX1_guarded_58 ?_
  exact zv_iret (ty := .int) (zr_k 2 (by decide) (by decide)) G M rfl dX1_guarded_59 h
set_option maxHeartbeats 4000000 in
set_option maxRecDepth 100000 in
theorem cpT_guarded_122 {Γ : ZG TW} {D : TD} {B0 d : Nat} {lim : Nat × Nat} (G : ZOk Γ cX1_guarded RX1 5 (KnT D B0) (ZT D B0)) (M : ZRm Γ (d + 1) lim (some .int) "guarded" []) (S : SdT d D B0 Γ.l lim) (hk : 2 ≤ d) {s0 : Int} {w : TW} (rs0 : zr s0) (h : pT_guarded_122 (wpT d) (fun v w => Γ.Q (.inl (some (ai v))) w) s0 w) : ZV Γ w 122 [] [ai s0] := by
  refine zt_tok G (fun hw => ?_)
  exact zv_iret (ty := .int) rs0 G M rfl dX1_guarded_122 h
set_option maxHeartbeats 4000000 in
set_option maxRecDepth 100000 in
theorem cpT_guarded_121 {Γ : ZG TW} {D : TD} {B0 d : Nat} {lim : Nat × Nat} (G : ZOk Γ cX1_guarded RX1 5 (KnT D B0) (ZT D B0)) (M : ZRm Γ (d + 1) lim (some .int) "guarded" []) (S : SdT d D B0 Γ.l lim) (hk : 2 ≤ d) {w : TW} (h : pT_guarded_121 (wpT d) (fun v w => Γ.Q (.inl (some (ai v))) w) w) : ZV Γ w 121 [] [] := by
  refine zt_tok G (fun hw => ?_)
  refine zv_iconst (a := 0) G (by decide) dX1_guarded_121 ?_
  exact zv_pick [] rfl (cpT_guarded_122 G M S hk (zr_k 0 (by decide) (by decide)) h)
set_option maxHeartbeats 4000000 in
set_option maxRecDepth 100000 in
theorem cpT_guarded_117 {Γ : ZG TW} {D : TD} {B0 d : Nat} {lim : Nat × Nat} (G : ZOk Γ cX1_guarded RX1 5 (KnT D B0) (ZT D B0)) (M : ZRm Γ (d + 1) lim (some .int) "guarded" []) (S : SdT d D B0 Γ.l lim) (hk : 2 ≤ d) {w : TW} (h : pT_guarded_117 (wpT d) (fun v w => Γ.Q (.inl (some (ai v))) w) w) : ZV Γ w 117 [] [] := by
  refine zt_tok G (fun hw => ?_)
  refine zv_iconst (a := 1) G (by decide) dX1_guarded_117 ?_
  refine zv_goto (tgt := 122) G (by decide) dX1_guarded_118 ?_
  exact zv_pick [] rfl (cpT_guarded_122 G M S hk (zr_k 1 (by decide) (by decide)) h)
set_option maxHeartbeats 4000000 in
set_option maxRecDepth 100000 in
theorem cpT_guarded_30 {Γ : ZG TW} {D : TD} {B0 d : Nat} {lim : Nat × Nat} (G : ZOk Γ cX1_guarded RX1 5 (KnT D B0) (ZT D B0)) (M : ZRm Γ (d + 1) lim (some .int) "guarded" []) (S : SdT d D B0 Γ.l lim) (hk : 2 ≤ d) {x1 : Int} {w : TW} (rx1 : zr x1) (h : pT_guarded_30 (wpT d) (fun v w => Γ.Q (.inl (some (ai v))) w) x1 w) : ZV Γ w 30 [(0, ar (D.x + 1)), (1, ai x1)] [] := by
  refine zt_tok G (fun hw => ?_)
  refine zv_aload_n G rfl rfl dX1_guarded_30 ?_
  refine zv_dup G rfl dX1_guarded_31 ?_
  refine zt_get (k := 123) (v := ai (tI w 123)) G (by decide) q2278 rfl dX1_guarded_32 ?_
  refine zv_iconst (a := 1) G (by decide) dX1_guarded_35 ?_
  refine zv_iadd G dX1_guarded_36 ?_
  refine zt_putI (k := 123) G (by decide) q2278 rfl (tyX1_ok 123 (by decide)) rfl (w32_r _) dX1_guarded_37 (fun u2 eu2 => ?_)
  have h := h u2 eu2
  refine zt_tok G (fun hu2 => ?_)
  refine zv_aload_n G rfl rfl dX1_guarded_40 ?_
  refine zv_iload_n G rfl rfl dX1_guarded_41 ?_
  refine zv_iconst (a := 0) G (by decide) dX1_guarded_42 ?_
  have o5 := h.1
  have h := h.2
  refine zt_callI (as := [ai x1, ai 0]) G M (S 94 _ rfl _ _ _ (fu_isThrown (by omega) o5) (zoks_cons rx1 (zoks_cons (zr_k 0 (by decide) (by decide)) zoks_nil))) q2946 q2948 qs136 q2949 md_isThrown rfl (by decide) (Nat.le_of_ble_eq_true rfl) dX1_guarded_43 (fun v3 u4 _ q => ?_)
  obtain ⟨ev3, eu4⟩ := q
  rw [eu4, ev3]
  have o10 := h.1
  have h := h.2
  have kt22 : ¬ ((ff_isThrown x1 0 u2) = 0) ∨ (¬ ((ff_isThrown x1 1 u2) = 0)) → ZV Γ u2 58 [(0, ar (D.x + 1)), (1, ai x1)] [] := by
    intro c24
    have h := h.1 c24
    exact zv_pick [] rfl (cpT_guarded_58 G M S hk h)
  have kf23 : ¬ (¬ ((ff_isThrown x1 0 u2) = 0) ∨ (¬ ((ff_isThrown x1 1 u2) = 0))) → ZV Γ u2 60 [(0, ar (D.x + 1)), (1, ai x1)] [] := by
    intro c24
    have h := h.2 c24
    refine zv_aload_n G rfl rfl dX1_guarded_60 ?_
    refine zv_iload_n G rfl rfl dX1_guarded_61 ?_
    refine zv_iconst (a := 0) G (by decide) dX1_guarded_62 ?_
    refine zt_callI (as := [ai x1, ai 0]) G M (S 96 _ rfl _ _ _ h (zoks_cons rx1 (zoks_cons (zr_k 0 (by decide) (by decide)) zoks_nil))) q2954 q2956 qs138 q2957 md_sum rfl (by decide) (Nat.le_of_ble_eq_true rfl) dX1_guarded_63 (fun v12 u11 rv12 h => ?_)
    refine zt_tok G (fun hu11 => ?_)
    refine zv_istore_n G rfl (by decide) rfl dX1_guarded_66 ?_
    refine zv_aload_n G rfl rfl dX1_guarded_67 ?_
    refine zv_iload_n G rfl rfl dX1_guarded_68 ?_
    refine zv_iconst (a := 1) G (by decide) dX1_guarded_69 ?_
    refine zt_callI (as := [ai x1, ai 1]) G M (S 96 _ rfl _ _ _ h (zoks_cons rx1 (zoks_cons (zr_k 1 (by decide) (by decide)) zoks_nil))) q2954 q2956 qs138 q2957 md_sum rfl (by decide) (Nat.le_of_ble_eq_true rfl) dX1_guarded_70 (fun v14 u13 rv14 h => ?_)
    refine zt_tok G (fun hu13 => ?_)
    refine zv_istore_n G rfl (by decide) rfl dX1_guarded_73 ?_
    refine zv_aload_n G rfl rfl dX1_guarded_74 ?_
    refine zt_get (k := 53) (v := ar (D.ad 53 + 1)) G (by decide) q2208 rfl dX1_guarded_75 ?_
    refine zv_iload_n G rfl rfl dX1_guarded_78 ?_
    have o15 := h.1
    have h := h.2
    refine zt_iald (f := 53) G (by decide) rfl rx1 o15.1 o15.2 dX1_guarded_79 ?_
    refine zv_istoreN G (by decide) dX1_guarded_80 (fun x4_16 ex4_16 => ?_)
    have h := h x4_16 ex4_16
    have rx4_16 : zr x4_16 := by rw [ex4_16]; exact (hu13.a 53 _ (by decide))
    refine zv_iload G rfl dX1_guarded_82 ?_
    refine zv_bipush (a := 60) G (by decide) dX1_guarded_84 ?_
    refine zv_icmp_ne (tgt := 97) G rx4_16 (zr_k 60 (by decide) (by decide)) (by decide) dX1_guarded_86 (fun c17 => ?_) (fun c17 => ?_)
    · have h := h.2 c17
      refine zv_iload G rfl dX1_guarded_97 ?_
      refine zv_bipush (a := 62) G (by decide) dX1_guarded_99 ?_
      refine zv_icmp_ne (tgt := 112) G rx4_16 (zr_k 62 (by decide) (by decide)) (by decide) dX1_guarded_101 (fun c18 => ?_) (fun c18 => ?_)
      · have h := h.2 c18
        refine zv_iload_n G rfl rfl dX1_guarded_112 ?_
        refine zv_iload_n G rfl rfl dX1_guarded_113 ?_
        refine zv_icmp_ne (tgt := 121) G rv12 rv14 (by decide) dX1_guarded_114 (fun c19 => ?_) (fun c19 => ?_)
        · have h := h.2 c19
          exact zv_pick [] rfl (cpT_guarded_121 G M S hk h)
        · have h := h.1 c19
          exact zv_pick [] rfl (cpT_guarded_117 G M S hk h)
      · have h := h.1 c18
        refine zv_iload_n G rfl rfl dX1_guarded_104 ?_
        refine zv_iload_n G rfl rfl dX1_guarded_105 ?_
        refine zv_icmp_le (tgt := 121) G rv12 rv14 (by decide) dX1_guarded_106 (fun c20 => ?_) (fun c20 => ?_)
        · have h := h.1 c20
          exact zv_pick [] rfl (cpT_guarded_121 G M S hk h)
        · have h := h.2 c20
          refine zv_goto (tgt := 117) G (by decide) dX1_guarded_109 ?_
          exact zv_pick [] rfl (cpT_guarded_117 G M S hk h)
    · have h := h.1 c17
      refine zv_iload_n G rfl rfl dX1_guarded_89 ?_
      refine zv_iload_n G rfl rfl dX1_guarded_90 ?_
      refine zv_icmp_ge (tgt := 121) G rv12 rv14 (by decide) dX1_guarded_91 (fun c21 => ?_) (fun c21 => ?_)
      · have h := h.1 c21
        exact zv_pick [] rfl (cpT_guarded_121 G M S hk h)
      · have h := h.2 c21
        refine zv_goto (tgt := 117) G (by decide) dX1_guarded_94 ?_
        exact zv_pick [] rfl (cpT_guarded_117 G M S hk h)
  refine zv_if_ne (tgt := 58) G (fr_isThrown hu2 rx1 (zr_k 0 (by decide) (by decide))) (by decide) dX1_guarded_46 (fun c25 => ?_) (fun c25 => ?_)
  · exact kt22 (Or.inl c25)
  · refine zv_aload_n G rfl rfl dX1_guarded_49 ?_
    refine zv_iload_n G rfl rfl dX1_guarded_50 ?_
    refine zv_iconst (a := 1) G (by decide) dX1_guarded_51 ?_
    refine zt_callI (as := [ai x1, ai 1]) G M (S 94 _ rfl _ _ _ (fu_isThrown (by omega) (o10 c25)) (zoks_cons rx1 (zoks_cons (zr_k 1 (by decide) (by decide)) zoks_nil))) q2946 q2948 qs136 q2949 md_isThrown rfl (by decide) (Nat.le_of_ble_eq_true rfl) dX1_guarded_52 (fun v8 u9 _ q => ?_)
    obtain ⟨ev8, eu9⟩ := q
    rw [eu9, ev8]
    refine zv_if_eq (tgt := 60) G (fr_isThrown hu2 rx1 (zr_k 1 (by decide) (by decide))) (by decide) dX1_guarded_55 (fun c26 => ?_) (fun c26 => ?_)
    · exact kf23 (fun q => q.elim (fun z => z c25) (fun q => q c26))
    · exact kt22 (Or.inr c26)
set_option maxHeartbeats 4000000 in
set_option maxRecDepth 100000 in
theorem cpT_guarded_0 {Γ : ZG TW} {D : TD} {B0 d : Nat} {lim : Nat × Nat} (G : ZOk Γ cX1_guarded RX1 5 (KnT D B0) (ZT D B0)) (M : ZRm Γ (d + 1) lim (some .int) "guarded" []) (S : SdT d D B0 Γ.l lim) (hk : 2 ≤ d) {x1 : Int} {w : TW} (rx1 : zr x1) (h : pT_guarded_0 (wpT d) (fun v w => Γ.Q (.inl (some (ai v))) w) x1 w) : ZV Γ w 0 [(0, ar (D.x + 1)), (1, ai x1)] [] := by
  refine zt_tok G (fun hw => ?_)
  refine zv_aload_n G rfl rfl dX1_guarded_0 ?_
  refine zt_get (k := 123) (v := ai (tI w 123)) G (by decide) q2278 rfl dX1_guarded_1 ?_
  refine zv_bipush (a := 32) G (by decide) dX1_guarded_4 ?_
  refine zv_icmp_ge (tgt := 30) G (hw.i 123 (by decide)) (zr_k 32 (by decide) (by decide)) (by decide) dX1_guarded_6 (fun c1 => ?_) (fun c1 => ?_)
  · have h := h.1 c1
    exact zv_pick [0, 1] rfl (cpT_guarded_30 G M S hk rx1 h)
  · have h := h.2 c1
    refine zv_aload_n G rfl rfl dX1_guarded_9 ?_
    refine zt_get (k := 127) (v := ar (D.ad 127 + 1)) G (by decide) q2282 rfl dX1_guarded_10 ?_
    refine zv_aload_n G rfl rfl dX1_guarded_13 ?_
    refine zt_get (k := 123) (v := ai (tI w 123)) G (by decide) q2278 rfl dX1_guarded_14 ?_
    refine zv_bipush (a := 100) G (by decide) dX1_guarded_17 ?_
    refine zv_iload_n G rfl rfl dX1_guarded_19 ?_
    refine zv_bipush (a := 16) G (by decide) dX1_guarded_20 ?_
    refine zv_idiv G (zr_k 16 (by decide) (by decide)) (by decide) dX1_guarded_22 ?_
    refine zv_imul G dX1_guarded_23 ?_
    refine zv_iload_n G rfl rfl dX1_guarded_24 ?_
    refine zv_bipush (a := 16) G (by decide) dX1_guarded_25 ?_
    refine zv_irem G (zr_k 16 (by decide) (by decide)) (by decide) dX1_guarded_27 ?_
    refine zv_iadd G dX1_guarded_28 ?_
    have o28 := h.1
    have h := h.2
    refine zt_iast (f := 127) G (by decide) rfl (hw.i 123 (by decide)) (w32_r _) o28.1 o28.2 dX1_guarded_29 (fun u27 eu27 => ?_)
    have h := h u27 eu27
    refine zt_tok G (fun hu27 => ?_)
    exact zv_pick [0, 1] rfl (cpT_guarded_30 G M S hk rx1 h)
end ZCT3
